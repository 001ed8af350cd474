set_option maxRecDepth 100000
set_option linter.unusedVariables false
section SS
variable {d : Nat} {st ls : List ZV} {A : AH} {K : ZR → AH → Prop} {v u v0 v1 v2 v3 v4 v5 v6 v7 v8 v9 v10 v11 v12 v13 v14 u0 u1 u2 u3 u4 u5 w0 w1 w2 w3 w4 w5 w6 w7 : ZV} {x y w i0 i1 i2 i3 i4 i5 : Int} {a b : Nat} {o0 o1 o2 o3 o4 o5 : Option Nat} {o : Option Nat}
theorem s0_0 : zX d 0 0 ls st A K = zX d 0 3 ls (zO (some (nx A)) :: st) (nO A 1) K := zx_new z0 zo0 dL_law_0 rfl rfl
theorem s0_3 (h : zc v = true) : zX d 0 3 ls (v :: st) A K = zX d 0 4 ls (v :: v :: st) A K := zx_dup z0 dL_law_3 rfl h
theorem s0_4 : zX (d + 1) 0 4 ls (zO (some a) :: [w0]) A K = zX d 1 0 [zO (some a), zU] [] A (zK (d + 1) 0 4 7 ls [w0] K) := zx_callI z0 zo0 dL_law_4 rfl C1_9 rfl rfl zm1 rfl rfl (zwt_le (Nat.le_of_ble_eq_true rfl)) rfl
theorem s0_7 : zX d 0 7 [v0, v1, v2, v3] (zO o :: st) A K = zX d 0 8 [v0, zO o, v2, v3] st A K := zx_astore_n z0 dL_law_7 (Nat.le_of_ble_eq_true rfl) rfl rfl
theorem s0_8 : zX d 0 8 ls st A K = zX d 0 11 ls (zO (some (nx A)) :: st) (nO A 9) K := zx_new z0 zo0 dL_law_8 rfl rfl
theorem s0_11 (h : zc v = true) : zX d 0 11 ls (v :: st) A K = zX d 0 12 ls (v :: v :: st) A K := zx_dup z0 dL_law_11 rfl h
theorem s0_12 : zX (d + 1) 0 12 ls (zO (some a) :: [w0]) A K = zX d 126 0 [zO (some a), zU] [] A (zK (d + 1) 0 12 15 ls [w0] K) := zx_callI z0 zo0 dL_law_12 rfl C1_12 rfl rfl zm126 rfl rfl (zwt_le (Nat.le_of_ble_eq_true rfl)) rfl
theorem s0_15 : zX d 0 15 [v0, v1, v2, v3] (zO o :: st) A K = zX d 0 16 [v0, v1, zO o, v3] st A K := zx_astore_n z0 dL_law_15 (Nat.le_of_ble_eq_true rfl) rfl rfl
theorem s0_16 : zX d 0 16 ls st A K = zX d 0 17 ls (zI 0 :: st) A K := zx_const z0 dL_law_16 (by decide) rfl
theorem s0_17 : zX d 0 17 [v0, v1, v2, v3] (zI x :: st) A K = zX d 0 18 [v0, v1, v2, zI x] st A K := zx_istore_n z0 dL_law_17 (Nat.le_of_ble_eq_true rfl) rfl rfl
theorem s0_18 : zX d 0 18 [v0, v1, v2, zI x] st A K = zX d 0 19 [v0, v1, v2, zI x] (zI x :: st) A K := zx_iload_n z0 dL_law_18 rfl rfl
theorem s0_19 : zX d 0 19 [zO o, v1, v2, v3] st A K = zX d 0 20 [zO o, v1, v2, v3] (zO o :: st) A K := zx_aload_n z0 dL_law_19 rfl rfl
theorem s0_20 (h : zarr (tg A a) ≠ 0) : zX d 0 20 ls (zO (some a) :: st) A K = zX d 0 21 ls (zI (zlen A a : Nat) :: st) A K := zx_alen z0 dL_law_20 rfl h
theorem s0_21 : zX d 0 21 ls st A K = zX d 0 22 ls (zI 4 :: st) A K := zx_const z0 dL_law_21 (by decide) rfl
theorem s0_22 : zX d 0 22 ls (zI y :: zI x :: st) A K = zX d 0 23 ls (zI (zw (x - y)) :: st) A K := zx_isub z0 dL_law_22 rfl
theorem s0_23 : zX d 0 23 ls (zI y :: zI x :: st) A K = (if y < x then zX d 0 1407 ls st A K else zX d 0 26 ls st A K) := zx_ic_gt z0 dL_law_23 rfl rfl
theorem s0_26 : zX d 0 26 [zO o, v1, v2, v3] st A K = zX d 0 27 [zO o, v1, v2, v3] (zO o :: st) A K := zx_aload_n z0 dL_law_26 rfl rfl
theorem s0_27 : zX d 0 27 [v0, v1, v2, zI x] st A K = zX d 0 28 [v0, v1, v2, zI x] (zI x :: st) A K := zx_iload_n z0 dL_law_27 rfl rfl
theorem s0_28 (h : tg A a = 20) (h0 : 0 ≤ x) (h1 : x.toNat < (ia A a).length) : zX d 0 28 ls (zI x :: zO (some a) :: st) A K = zX d 0 29 ls (zI ((ia A a).getD x.toNat 0) :: st) A K := zx_iald z0 dL_law_28 rfl h h0 h1
theorem s0_28s (h : tg A a = 30) (h0 : 0 ≤ x) (h1 : x.toNat < (ia A a).length) : zX d 0 28 ls (zI x :: zO (some a) :: st) A K = zX d 0 29 ls (zI ((ia A a).getD x.toNat 0) :: st) A K := zx_sald z0 dL_law_28 rfl h h0 h1
theorem s0_29 : zX d 0 29 ls st A K = zX d 0 31 ls (zI (63) :: st) A K := zx_bipush z0 dL_law_29 (by decide) rfl
theorem s0_31 : zX d 0 31 ls (zI y :: zI x :: st) A K = zX d 0 32 ls (zI ((Int32.ofInt x &&& Int32.ofInt y).toInt) :: st) A K := zx_iand z0 dL_law_31 rfl
theorem s0_32_0 : zX d 0 32 ls (zI 0 :: st) A K = zX d 0 244 ls st A K := zx_tsw z0 dL_law_32 (by decide) rfl rfl
theorem s0_32_1 : zX d 0 32 ls (zI 1 :: st) A K = zX d 0 277 ls st A K := zx_tsw z0 dL_law_32 (by decide) rfl rfl
theorem s0_32_2 : zX d 0 32 ls (zI 2 :: st) A K = zX d 0 300 ls st A K := zx_tsw z0 dL_law_32 (by decide) rfl rfl
theorem s0_32_3 : zX d 0 32 ls (zI 3 :: st) A K = zX d 0 313 ls st A K := zx_tsw z0 dL_law_32 (by decide) rfl rfl
theorem s0_32_4 : zX d 0 32 ls (zI 4 :: st) A K = zX d 0 336 ls st A K := zx_tsw z0 dL_law_32 (by decide) rfl rfl
theorem s0_32_5 : zX d 0 32 ls (zI 5 :: st) A K = zX d 0 349 ls st A K := zx_tsw z0 dL_law_32 (by decide) rfl rfl
theorem s0_32_6 : zX d 0 32 ls (zI 6 :: st) A K = zX d 0 372 ls st A K := zx_tsw z0 dL_law_32 (by decide) rfl rfl
theorem s0_32_7 : zX d 0 32 ls (zI 7 :: st) A K = zX d 0 395 ls st A K := zx_tsw z0 dL_law_32 (by decide) rfl rfl
theorem s0_32_8 : zX d 0 32 ls (zI 8 :: st) A K = zX d 0 408 ls st A K := zx_tsw z0 dL_law_32 (by decide) rfl rfl
theorem s0_32_9 : zX d 0 32 ls (zI 9 :: st) A K = zX d 0 431 ls st A K := zx_tsw z0 dL_law_32 (by decide) rfl rfl
theorem s0_32_10 : zX d 0 32 ls (zI 10 :: st) A K = zX d 0 454 ls st A K := zx_tsw z0 dL_law_32 (by decide) rfl rfl
theorem s0_32_11 : zX d 0 32 ls (zI 11 :: st) A K = zX d 0 477 ls st A K := zx_tsw z0 dL_law_32 (by decide) rfl rfl
theorem s0_32_12 : zX d 0 32 ls (zI 12 :: st) A K = zX d 0 500 ls st A K := zx_tsw z0 dL_law_32 (by decide) rfl rfl
theorem s0_32_13 : zX d 0 32 ls (zI 13 :: st) A K = zX d 0 533 ls st A K := zx_tsw z0 dL_law_32 (by decide) rfl rfl
theorem s0_32_14 : zX d 0 32 ls (zI 14 :: st) A K = zX d 0 546 ls st A K := zx_tsw z0 dL_law_32 (by decide) rfl rfl
theorem s0_32_15 : zX d 0 32 ls (zI 15 :: st) A K = zX d 0 559 ls st A K := zx_tsw z0 dL_law_32 (by decide) rfl rfl
theorem s0_32_16 : zX d 0 32 ls (zI 16 :: st) A K = zX d 0 582 ls st A K := zx_tsw z0 dL_law_32 (by decide) rfl rfl
theorem s0_32_17 : zX d 0 32 ls (zI 17 :: st) A K = zX d 0 625 ls st A K := zx_tsw z0 dL_law_32 (by decide) rfl rfl
theorem s0_32_18 : zX d 0 32 ls (zI 18 :: st) A K = zX d 0 638 ls st A K := zx_tsw z0 dL_law_32 (by decide) rfl rfl
theorem s0_32_19 : zX d 0 32 ls (zI 19 :: st) A K = zX d 0 651 ls st A K := zx_tsw z0 dL_law_32 (by decide) rfl rfl
theorem s0_32_20 : zX d 0 32 ls (zI 20 :: st) A K = zX d 0 664 ls st A K := zx_tsw z0 dL_law_32 (by decide) rfl rfl
theorem s0_32_21 : zX d 0 32 ls (zI 21 :: st) A K = zX d 0 687 ls st A K := zx_tsw z0 dL_law_32 (by decide) rfl rfl
theorem s0_32_22 : zX d 0 32 ls (zI 22 :: st) A K = zX d 0 700 ls st A K := zx_tsw z0 dL_law_32 (by decide) rfl rfl
theorem s0_32_23 : zX d 0 32 ls (zI 23 :: st) A K = zX d 0 713 ls st A K := zx_tsw z0 dL_law_32 (by decide) rfl rfl
theorem s0_32_24 : zX d 0 32 ls (zI 24 :: st) A K = zX d 0 726 ls st A K := zx_tsw z0 dL_law_32 (by decide) rfl rfl
theorem s0_32_25 : zX d 0 32 ls (zI 25 :: st) A K = zX d 0 739 ls st A K := zx_tsw z0 dL_law_32 (by decide) rfl rfl
theorem s0_32_26 : zX d 0 32 ls (zI 26 :: st) A K = zX d 0 762 ls st A K := zx_tsw z0 dL_law_32 (by decide) rfl rfl
theorem s0_32_27 : zX d 0 32 ls (zI 27 :: st) A K = zX d 0 785 ls st A K := zx_tsw z0 dL_law_32 (by decide) rfl rfl
theorem s0_32_28 : zX d 0 32 ls (zI 28 :: st) A K = zX d 0 808 ls st A K := zx_tsw z0 dL_law_32 (by decide) rfl rfl
theorem s0_32_29 : zX d 0 32 ls (zI 29 :: st) A K = zX d 0 841 ls st A K := zx_tsw z0 dL_law_32 (by decide) rfl rfl
theorem s0_32_30 : zX d 0 32 ls (zI 30 :: st) A K = zX d 0 874 ls st A K := zx_tsw z0 dL_law_32 (by decide) rfl rfl
theorem s0_32_31 : zX d 0 32 ls (zI 31 :: st) A K = zX d 0 907 ls st A K := zx_tsw z0 dL_law_32 (by decide) rfl rfl
theorem s0_32_32 : zX d 0 32 ls (zI 32 :: st) A K = zX d 0 940 ls st A K := zx_tsw z0 dL_law_32 (by decide) rfl rfl
theorem s0_32_33 : zX d 0 32 ls (zI 33 :: st) A K = zX d 0 973 ls st A K := zx_tsw z0 dL_law_32 (by decide) rfl rfl
theorem s0_32_34 : zX d 0 32 ls (zI 34 :: st) A K = zX d 0 1016 ls st A K := zx_tsw z0 dL_law_32 (by decide) rfl rfl
theorem s0_32_35 : zX d 0 32 ls (zI 35 :: st) A K = zX d 0 1039 ls st A K := zx_tsw z0 dL_law_32 (by decide) rfl rfl
theorem s0_32_36 : zX d 0 32 ls (zI 36 :: st) A K = zX d 0 1072 ls st A K := zx_tsw z0 dL_law_32 (by decide) rfl rfl
theorem s0_32_37 : zX d 0 32 ls (zI 37 :: st) A K = zX d 0 1105 ls st A K := zx_tsw z0 dL_law_32 (by decide) rfl rfl
theorem s0_32_38 : zX d 0 32 ls (zI 38 :: st) A K = zX d 0 1138 ls st A K := zx_tsw z0 dL_law_32 (by decide) rfl rfl
theorem s0_32_39 : zX d 0 32 ls (zI 39 :: st) A K = zX d 0 1171 ls st A K := zx_tsw z0 dL_law_32 (by decide) rfl rfl
theorem s0_32_40 : zX d 0 32 ls (zI 40 :: st) A K = zX d 0 1204 ls st A K := zx_tsw z0 dL_law_32 (by decide) rfl rfl
theorem s0_32_41 : zX d 0 32 ls (zI 41 :: st) A K = zX d 0 1237 ls st A K := zx_tsw z0 dL_law_32 (by decide) rfl rfl
theorem s0_32_42 : zX d 0 32 ls (zI 42 :: st) A K = zX d 0 1270 ls st A K := zx_tsw z0 dL_law_32 (by decide) rfl rfl
theorem s0_32_43 : zX d 0 32 ls (zI 43 :: st) A K = zX d 0 1313 ls st A K := zx_tsw z0 dL_law_32 (by decide) rfl rfl
theorem s0_32_44 : zX d 0 32 ls (zI 44 :: st) A K = zX d 0 1326 ls st A K := zx_tsw z0 dL_law_32 (by decide) rfl rfl
theorem s0_32_45 : zX d 0 32 ls (zI 45 :: st) A K = zX d 0 1349 ls st A K := zx_tsw z0 dL_law_32 (by decide) rfl rfl
theorem s0_32_46 : zX d 0 32 ls (zI 46 :: st) A K = zX d 0 1362 ls st A K := zx_tsw z0 dL_law_32 (by decide) rfl rfl
theorem s0_32_47 : zX d 0 32 ls (zI 47 :: st) A K = zX d 0 1375 ls st A K := zx_tsw z0 dL_law_32 (by decide) rfl rfl
theorem s0_32_48 : zX d 0 32 ls (zI 48 :: st) A K = zX d 0 1388 ls st A K := zx_tsw z0 dL_law_32 (by decide) rfl rfl
theorem s0_32_d (h : x < 0 ∨ 48 < x) : zX d 0 32 ls (zI x :: st) A K = zX d 0 1401 ls st A K := zx_tswD z0 dL_law_32 rfl h
theorem s0_244 : zX d 0 244 [v0, zO o, v2, v3] st A K = zX d 0 245 [v0, zO o, v2, v3] (zO o :: st) A K := zx_aload_n z0 dL_law_244 rfl rfl
theorem s0_245 : zX d 0 245 [zO o, v1, v2, v3] st A K = zX d 0 246 [zO o, v1, v2, v3] (zO o :: st) A K := zx_aload_n z0 dL_law_245 rfl rfl
theorem s0_246 : zX d 0 246 [v0, v1, v2, zI x] st A K = zX d 0 247 [v0, v1, v2, zI x] (zI x :: st) A K := zx_iload_n z0 dL_law_246 rfl rfl
theorem s0_247 : zX d 0 247 ls st A K = zX d 0 248 ls (zI 1 :: st) A K := zx_const z0 dL_law_247 (by decide) rfl
theorem s0_248 : zX d 0 248 ls (zI y :: zI x :: st) A K = zX d 0 249 ls (zI (zw (x + y)) :: st) A K := zx_iadd z0 dL_law_248 rfl
theorem s0_249 (h : tg A a = 20) (h0 : 0 ≤ x) (h1 : x.toNat < (ia A a).length) : zX d 0 249 ls (zI x :: zO (some a) :: st) A K = zX d 0 250 ls (zI ((ia A a).getD x.toNat 0) :: st) A K := zx_iald z0 dL_law_249 rfl h h0 h1
theorem s0_249s (h : tg A a = 30) (h0 : 0 ≤ x) (h1 : x.toNat < (ia A a).length) : zX d 0 249 ls (zI x :: zO (some a) :: st) A K = zX d 0 250 ls (zI ((ia A a).getD x.toNat 0) :: st) A K := zx_sald z0 dL_law_249 rfl h h0 h1
theorem s0_250 : zX d 0 250 [zO o, v1, v2, v3] st A K = zX d 0 251 [zO o, v1, v2, v3] (zO o :: st) A K := zx_aload_n z0 dL_law_250 rfl rfl
theorem s0_251 : zX d 0 251 [v0, v1, v2, zI x] st A K = zX d 0 252 [v0, v1, v2, zI x] (zI x :: st) A K := zx_iload_n z0 dL_law_251 rfl rfl
theorem s0_252 : zX d 0 252 ls st A K = zX d 0 253 ls (zI 2 :: st) A K := zx_const z0 dL_law_252 (by decide) rfl
theorem s0_253 : zX d 0 253 ls (zI y :: zI x :: st) A K = zX d 0 254 ls (zI (zw (x + y)) :: st) A K := zx_iadd z0 dL_law_253 rfl
theorem s0_254 (h : tg A a = 20) (h0 : 0 ≤ x) (h1 : x.toNat < (ia A a).length) : zX d 0 254 ls (zI x :: zO (some a) :: st) A K = zX d 0 255 ls (zI ((ia A a).getD x.toNat 0) :: st) A K := zx_iald z0 dL_law_254 rfl h h0 h1
theorem s0_254s (h : tg A a = 30) (h0 : 0 ≤ x) (h1 : x.toNat < (ia A a).length) : zX d 0 254 ls (zI x :: zO (some a) :: st) A K = zX d 0 255 ls (zI ((ia A a).getD x.toNat 0) :: st) A K := zx_sald z0 dL_law_254 rfl h h0 h1
theorem s0_255 (h : tg A a = 1)  : zX (d + 1) 0 255 ls (zI i1 :: zI i0 :: zO (some a) :: []) A K = zX d 4 0 [zO (some a), zI i0, zI i1, zU, zU] [] A (zK (d + 1) 0 255 258 ls [] K) := zx_callV (t := 1) z0 zo0 dL_law_255 rfl C1_13 rfl rfl zm4 rfl rfl (zwt_le (Nat.le_of_ble_eq_true rfl)) rfl h
theorem s0_258 : zX d 0 258 [v0, v1, zO o, v3] st A K = zX d 0 259 [v0, v1, zO o, v3] (zO o :: st) A K := zx_aload_n z0 dL_law_258 rfl rfl
theorem s0_259 : zX d 0 259 [zO o, v1, v2, v3] st A K = zX d 0 260 [zO o, v1, v2, v3] (zO o :: st) A K := zx_aload_n z0 dL_law_259 rfl rfl
theorem s0_260 : zX d 0 260 [v0, v1, v2, zI x] st A K = zX d 0 261 [v0, v1, v2, zI x] (zI x :: st) A K := zx_iload_n z0 dL_law_260 rfl rfl
theorem s0_261 : zX d 0 261 ls st A K = zX d 0 262 ls (zI 1 :: st) A K := zx_const z0 dL_law_261 (by decide) rfl
theorem s0_262 : zX d 0 262 ls (zI y :: zI x :: st) A K = zX d 0 263 ls (zI (zw (x + y)) :: st) A K := zx_iadd z0 dL_law_262 rfl
theorem s0_263 (h : tg A a = 20) (h0 : 0 ≤ x) (h1 : x.toNat < (ia A a).length) : zX d 0 263 ls (zI x :: zO (some a) :: st) A K = zX d 0 264 ls (zI ((ia A a).getD x.toNat 0) :: st) A K := zx_iald z0 dL_law_263 rfl h h0 h1
theorem s0_263s (h : tg A a = 30) (h0 : 0 ≤ x) (h1 : x.toNat < (ia A a).length) : zX d 0 263 ls (zI x :: zO (some a) :: st) A K = zX d 0 264 ls (zI ((ia A a).getD x.toNat 0) :: st) A K := zx_sald z0 dL_law_263 rfl h h0 h1
theorem s0_264 : zX d 0 264 [zO o, v1, v2, v3] st A K = zX d 0 265 [zO o, v1, v2, v3] (zO o :: st) A K := zx_aload_n z0 dL_law_264 rfl rfl
theorem s0_265 : zX d 0 265 [v0, v1, v2, zI x] st A K = zX d 0 266 [v0, v1, v2, zI x] (zI x :: st) A K := zx_iload_n z0 dL_law_265 rfl rfl
theorem s0_266 : zX d 0 266 ls st A K = zX d 0 267 ls (zI 2 :: st) A K := zx_const z0 dL_law_266 (by decide) rfl
theorem s0_267 : zX d 0 267 ls (zI y :: zI x :: st) A K = zX d 0 268 ls (zI (zw (x + y)) :: st) A K := zx_iadd z0 dL_law_267 rfl
theorem s0_268 (h : tg A a = 20) (h0 : 0 ≤ x) (h1 : x.toNat < (ia A a).length) : zX d 0 268 ls (zI x :: zO (some a) :: st) A K = zX d 0 269 ls (zI ((ia A a).getD x.toNat 0) :: st) A K := zx_iald z0 dL_law_268 rfl h h0 h1
theorem s0_268s (h : tg A a = 30) (h0 : 0 ≤ x) (h1 : x.toNat < (ia A a).length) : zX d 0 268 ls (zI x :: zO (some a) :: st) A K = zX d 0 269 ls (zI ((ia A a).getD x.toNat 0) :: st) A K := zx_sald z0 dL_law_268 rfl h h0 h1
theorem s0_269 (h : tg A a = 9)  : zX (d + 1) 0 269 ls (zI i1 :: zI i0 :: zO (some a) :: [w0]) A K = zX d 128 0 [zO (some a), zI i0, zI i1, zU, zU, zU, zU] [] A (zK (d + 1) 0 269 272 ls [w0] K) := zx_callV (t := 9) z0 zo0 dL_law_269 rfl C1_17 rfl rfl zm128 rfl rfl (zwt_le (Nat.le_of_ble_eq_true rfl)) rfl h
theorem s0_272 : zX d 0 272 ls (zI y :: zI x :: st) A K = (if x = y then zX d 0 1401 ls st A K else zX d 0 275 ls st A K) := zx_ic_eq z0 dL_law_272 rfl rfl
theorem s0_275 : zX d 0 275 ls st A K = zX d 0 276 ls (zI 0 :: st) A K := zx_const z0 dL_law_275 (by decide) rfl
theorem s0_276 (h : x = 0 ∨ x = 1) : zX d 0 276 ls [zI x] A K = K (Sum.inl (some (zI x))) A := zx_iret z0 dL_law_276 zk0 (by rcases h with q | q <;> subst q <;> rfl)
theorem s0_277 : zX d 0 277 [v0, zO o, v2, v3] st A K = zX d 0 278 [v0, zO o, v2, v3] (zO o :: st) A K := zx_aload_n z0 dL_law_277 rfl rfl
theorem s0_278 : zX d 0 278 [zO o, v1, v2, v3] st A K = zX d 0 279 [zO o, v1, v2, v3] (zO o :: st) A K := zx_aload_n z0 dL_law_278 rfl rfl
theorem s0_279 : zX d 0 279 [v0, v1, v2, zI x] st A K = zX d 0 280 [v0, v1, v2, zI x] (zI x :: st) A K := zx_iload_n z0 dL_law_279 rfl rfl
theorem s0_280 : zX d 0 280 ls st A K = zX d 0 281 ls (zI 1 :: st) A K := zx_const z0 dL_law_280 (by decide) rfl
theorem s0_281 : zX d 0 281 ls (zI y :: zI x :: st) A K = zX d 0 282 ls (zI (zw (x + y)) :: st) A K := zx_iadd z0 dL_law_281 rfl
theorem s0_282 (h : tg A a = 20) (h0 : 0 ≤ x) (h1 : x.toNat < (ia A a).length) : zX d 0 282 ls (zI x :: zO (some a) :: st) A K = zX d 0 283 ls (zI ((ia A a).getD x.toNat 0) :: st) A K := zx_iald z0 dL_law_282 rfl h h0 h1
theorem s0_282s (h : tg A a = 30) (h0 : 0 ≤ x) (h1 : x.toNat < (ia A a).length) : zX d 0 282 ls (zI x :: zO (some a) :: st) A K = zX d 0 283 ls (zI ((ia A a).getD x.toNat 0) :: st) A K := zx_sald z0 dL_law_282 rfl h h0 h1
theorem s0_283 (h : tg A a = 1)  : zX (d + 1) 0 283 ls (zI i0 :: zO (some a) :: []) A K = zX d 6 0 [zO (some a), zI i0] [] A (zK (d + 1) 0 283 286 ls [] K) := zx_callV (t := 1) z0 zo0 dL_law_283 rfl C1_18 rfl rfl zm6 rfl rfl (zwt_le (Nat.le_of_ble_eq_true rfl)) rfl h
theorem s0_286 : zX d 0 286 [v0, v1, zO o, v3] st A K = zX d 0 287 [v0, v1, zO o, v3] (zO o :: st) A K := zx_aload_n z0 dL_law_286 rfl rfl
theorem s0_287 : zX d 0 287 [zO o, v1, v2, v3] st A K = zX d 0 288 [zO o, v1, v2, v3] (zO o :: st) A K := zx_aload_n z0 dL_law_287 rfl rfl
theorem s0_288 : zX d 0 288 [v0, v1, v2, zI x] st A K = zX d 0 289 [v0, v1, v2, zI x] (zI x :: st) A K := zx_iload_n z0 dL_law_288 rfl rfl
theorem s0_289 : zX d 0 289 ls st A K = zX d 0 290 ls (zI 1 :: st) A K := zx_const z0 dL_law_289 (by decide) rfl
theorem s0_290 : zX d 0 290 ls (zI y :: zI x :: st) A K = zX d 0 291 ls (zI (zw (x + y)) :: st) A K := zx_iadd z0 dL_law_290 rfl
theorem s0_291 (h : tg A a = 20) (h0 : 0 ≤ x) (h1 : x.toNat < (ia A a).length) : zX d 0 291 ls (zI x :: zO (some a) :: st) A K = zX d 0 292 ls (zI ((ia A a).getD x.toNat 0) :: st) A K := zx_iald z0 dL_law_291 rfl h h0 h1
theorem s0_291s (h : tg A a = 30) (h0 : 0 ≤ x) (h1 : x.toNat < (ia A a).length) : zX d 0 291 ls (zI x :: zO (some a) :: st) A K = zX d 0 292 ls (zI ((ia A a).getD x.toNat 0) :: st) A K := zx_sald z0 dL_law_291 rfl h h0 h1
theorem s0_292 (h : tg A a = 9)  : zX (d + 1) 0 292 ls (zI i0 :: zO (some a) :: [w0]) A K = zX d 130 0 [zO (some a), zI i0] [] A (zK (d + 1) 0 292 295 ls [w0] K) := zx_callV (t := 9) z0 zo0 dL_law_292 rfl C1_22 rfl rfl zm130 rfl rfl (zwt_le (Nat.le_of_ble_eq_true rfl)) rfl h
theorem s0_295 : zX d 0 295 ls (zI y :: zI x :: st) A K = (if x = y then zX d 0 1401 ls st A K else zX d 0 298 ls st A K) := zx_ic_eq z0 dL_law_295 rfl rfl
theorem s0_298 : zX d 0 298 ls st A K = zX d 0 299 ls (zI 0 :: st) A K := zx_const z0 dL_law_298 (by decide) rfl
theorem s0_299 (h : x = 0 ∨ x = 1) : zX d 0 299 ls [zI x] A K = K (Sum.inl (some (zI x))) A := zx_iret z0 dL_law_299 zk0 (by rcases h with q | q <;> subst q <;> rfl)
theorem s0_300 : zX d 0 300 [v0, zO o, v2, v3] st A K = zX d 0 301 [v0, zO o, v2, v3] (zO o :: st) A K := zx_aload_n z0 dL_law_300 rfl rfl
theorem s0_301 (h : tg A a = 1)  : zX (d + 1) 0 301 ls (zO (some a) :: []) A K = zX d 10 0 [zO (some a), zU, zU, zU] [] A (zK (d + 1) 0 301 304 ls [] K) := zx_callV (t := 1) z0 zo0 dL_law_301 rfl C1_23 rfl rfl zm10 rfl rfl (zwt_le (Nat.le_of_ble_eq_true rfl)) rfl h
theorem s0_304 : zX d 0 304 [v0, v1, zO o, v3] st A K = zX d 0 305 [v0, v1, zO o, v3] (zO o :: st) A K := zx_aload_n z0 dL_law_304 rfl rfl
theorem s0_305 (h : tg A a = 9)  : zX (d + 1) 0 305 ls (zO (some a) :: [w0]) A K = zX d 131 0 [zO (some a), zU] [] A (zK (d + 1) 0 305 308 ls [w0] K) := zx_callV (t := 9) z0 zo0 dL_law_305 rfl C1_27 rfl rfl zm131 rfl rfl (zwt_le (Nat.le_of_ble_eq_true rfl)) rfl h
theorem s0_308 : zX d 0 308 ls (zI y :: zI x :: st) A K = (if x = y then zX d 0 1401 ls st A K else zX d 0 311 ls st A K) := zx_ic_eq z0 dL_law_308 rfl rfl
theorem s0_311 : zX d 0 311 ls st A K = zX d 0 312 ls (zI 0 :: st) A K := zx_const z0 dL_law_311 (by decide) rfl
theorem s0_312 (h : x = 0 ∨ x = 1) : zX d 0 312 ls [zI x] A K = K (Sum.inl (some (zI x))) A := zx_iret z0 dL_law_312 zk0 (by rcases h with q | q <;> subst q <;> rfl)
theorem s0_313 : zX d 0 313 [v0, zO o, v2, v3] st A K = zX d 0 314 [v0, zO o, v2, v3] (zO o :: st) A K := zx_aload_n z0 dL_law_313 rfl rfl
theorem s0_314 : zX d 0 314 [zO o, v1, v2, v3] st A K = zX d 0 315 [zO o, v1, v2, v3] (zO o :: st) A K := zx_aload_n z0 dL_law_314 rfl rfl
theorem s0_315 : zX d 0 315 [v0, v1, v2, zI x] st A K = zX d 0 316 [v0, v1, v2, zI x] (zI x :: st) A K := zx_iload_n z0 dL_law_315 rfl rfl
theorem s0_316 : zX d 0 316 ls st A K = zX d 0 317 ls (zI 1 :: st) A K := zx_const z0 dL_law_316 (by decide) rfl
theorem s0_317 : zX d 0 317 ls (zI y :: zI x :: st) A K = zX d 0 318 ls (zI (zw (x + y)) :: st) A K := zx_iadd z0 dL_law_317 rfl
theorem s0_318 (h : tg A a = 20) (h0 : 0 ≤ x) (h1 : x.toNat < (ia A a).length) : zX d 0 318 ls (zI x :: zO (some a) :: st) A K = zX d 0 319 ls (zI ((ia A a).getD x.toNat 0) :: st) A K := zx_iald z0 dL_law_318 rfl h h0 h1
theorem s0_318s (h : tg A a = 30) (h0 : 0 ≤ x) (h1 : x.toNat < (ia A a).length) : zX d 0 318 ls (zI x :: zO (some a) :: st) A K = zX d 0 319 ls (zI ((ia A a).getD x.toNat 0) :: st) A K := zx_sald z0 dL_law_318 rfl h h0 h1
theorem s0_319 (h : tg A a = 1)  : zX (d + 1) 0 319 ls (zI i0 :: zO (some a) :: []) A K = zX d 13 0 [zO (some a), zI i0] [] A (zK (d + 1) 0 319 322 ls [] K) := zx_callV (t := 1) z0 zo0 dL_law_319 rfl C1_28 rfl rfl zm13 rfl rfl (zwt_le (Nat.le_of_ble_eq_true rfl)) rfl h
theorem s0_322 : zX d 0 322 [v0, v1, zO o, v3] st A K = zX d 0 323 [v0, v1, zO o, v3] (zO o :: st) A K := zx_aload_n z0 dL_law_322 rfl rfl
theorem s0_323 : zX d 0 323 [zO o, v1, v2, v3] st A K = zX d 0 324 [zO o, v1, v2, v3] (zO o :: st) A K := zx_aload_n z0 dL_law_323 rfl rfl
theorem s0_324 : zX d 0 324 [v0, v1, v2, zI x] st A K = zX d 0 325 [v0, v1, v2, zI x] (zI x :: st) A K := zx_iload_n z0 dL_law_324 rfl rfl
theorem s0_325 : zX d 0 325 ls st A K = zX d 0 326 ls (zI 1 :: st) A K := zx_const z0 dL_law_325 (by decide) rfl
theorem s0_326 : zX d 0 326 ls (zI y :: zI x :: st) A K = zX d 0 327 ls (zI (zw (x + y)) :: st) A K := zx_iadd z0 dL_law_326 rfl
theorem s0_327 (h : tg A a = 20) (h0 : 0 ≤ x) (h1 : x.toNat < (ia A a).length) : zX d 0 327 ls (zI x :: zO (some a) :: st) A K = zX d 0 328 ls (zI ((ia A a).getD x.toNat 0) :: st) A K := zx_iald z0 dL_law_327 rfl h h0 h1
theorem s0_327s (h : tg A a = 30) (h0 : 0 ≤ x) (h1 : x.toNat < (ia A a).length) : zX d 0 327 ls (zI x :: zO (some a) :: st) A K = zX d 0 328 ls (zI ((ia A a).getD x.toNat 0) :: st) A K := zx_sald z0 dL_law_327 rfl h h0 h1
theorem s0_328 (h : tg A a = 9)  : zX (d + 1) 0 328 ls (zI i0 :: zO (some a) :: [w0]) A K = zX d 143 0 [zO (some a), zI i0, zU] [] A (zK (d + 1) 0 328 331 ls [w0] K) := zx_callV (t := 9) z0 zo0 dL_law_328 rfl C1_31 rfl rfl zm143 rfl rfl (zwt_le (Nat.le_of_ble_eq_true rfl)) rfl h
theorem s0_331 : zX d 0 331 ls (zI y :: zI x :: st) A K = (if x = y then zX d 0 1401 ls st A K else zX d 0 334 ls st A K) := zx_ic_eq z0 dL_law_331 rfl rfl
theorem s0_334 : zX d 0 334 ls st A K = zX d 0 335 ls (zI 0 :: st) A K := zx_const z0 dL_law_334 (by decide) rfl
theorem s0_335 (h : x = 0 ∨ x = 1) : zX d 0 335 ls [zI x] A K = K (Sum.inl (some (zI x))) A := zx_iret z0 dL_law_335 zk0 (by rcases h with q | q <;> subst q <;> rfl)
theorem s0_336 : zX d 0 336 [v0, zO o, v2, v3] st A K = zX d 0 337 [v0, zO o, v2, v3] (zO o :: st) A K := zx_aload_n z0 dL_law_336 rfl rfl
theorem s0_337 (h : tg A a = 1)  : zX (d + 1) 0 337 ls (zO (some a) :: []) A K = zX d 15 0 [zO (some a)] [] A (zK (d + 1) 0 337 340 ls [] K) := zx_callV (t := 1) z0 zo0 dL_law_337 rfl C1_32 rfl rfl zm15 rfl rfl (zwt_le (Nat.le_of_ble_eq_true rfl)) rfl h
theorem s0_340 : zX d 0 340 [v0, v1, zO o, v3] st A K = zX d 0 341 [v0, v1, zO o, v3] (zO o :: st) A K := zx_aload_n z0 dL_law_340 rfl rfl
theorem s0_341 (h : tg A a = 9)  : zX (d + 1) 0 341 ls (zO (some a) :: [w0]) A K = zX d 145 0 [zO (some a)] [] A (zK (d + 1) 0 341 344 ls [w0] K) := zx_callV (t := 9) z0 zo0 dL_law_341 rfl C1_35 rfl rfl zm145 rfl rfl (zwt_le (Nat.le_of_ble_eq_true rfl)) rfl h
theorem s0_344 : zX d 0 344 ls (zI y :: zI x :: st) A K = (if x = y then zX d 0 1401 ls st A K else zX d 0 347 ls st A K) := zx_ic_eq z0 dL_law_344 rfl rfl
theorem s0_347 : zX d 0 347 ls st A K = zX d 0 348 ls (zI 0 :: st) A K := zx_const z0 dL_law_347 (by decide) rfl
theorem s0_348 (h : x = 0 ∨ x = 1) : zX d 0 348 ls [zI x] A K = K (Sum.inl (some (zI x))) A := zx_iret z0 dL_law_348 zk0 (by rcases h with q | q <;> subst q <;> rfl)
theorem s0_349 : zX d 0 349 [v0, zO o, v2, v3] st A K = zX d 0 350 [v0, zO o, v2, v3] (zO o :: st) A K := zx_aload_n z0 dL_law_349 rfl rfl
theorem s0_350 : zX d 0 350 [zO o, v1, v2, v3] st A K = zX d 0 351 [zO o, v1, v2, v3] (zO o :: st) A K := zx_aload_n z0 dL_law_350 rfl rfl
theorem s0_351 : zX d 0 351 [v0, v1, v2, zI x] st A K = zX d 0 352 [v0, v1, v2, zI x] (zI x :: st) A K := zx_iload_n z0 dL_law_351 rfl rfl
theorem s0_352 : zX d 0 352 ls st A K = zX d 0 353 ls (zI 1 :: st) A K := zx_const z0 dL_law_352 (by decide) rfl
theorem s0_353 : zX d 0 353 ls (zI y :: zI x :: st) A K = zX d 0 354 ls (zI (zw (x + y)) :: st) A K := zx_iadd z0 dL_law_353 rfl
theorem s0_354 (h : tg A a = 20) (h0 : 0 ≤ x) (h1 : x.toNat < (ia A a).length) : zX d 0 354 ls (zI x :: zO (some a) :: st) A K = zX d 0 355 ls (zI ((ia A a).getD x.toNat 0) :: st) A K := zx_iald z0 dL_law_354 rfl h h0 h1
theorem s0_354s (h : tg A a = 30) (h0 : 0 ≤ x) (h1 : x.toNat < (ia A a).length) : zX d 0 354 ls (zI x :: zO (some a) :: st) A K = zX d 0 355 ls (zI ((ia A a).getD x.toNat 0) :: st) A K := zx_sald z0 dL_law_354 rfl h h0 h1
theorem s0_355 (h : tg A a = 1)  : zX (d + 1) 0 355 ls (zI i0 :: zO (some a) :: []) A K = zX d 16 0 [zO (some a), zI i0] [] A (zK (d + 1) 0 355 358 ls [] K) := zx_callV (t := 1) z0 zo0 dL_law_355 rfl C1_36 rfl rfl zm16 rfl rfl (zwt_le (Nat.le_of_ble_eq_true rfl)) rfl h
theorem s0_358 : zX d 0 358 [v0, v1, zO o, v3] st A K = zX d 0 359 [v0, v1, zO o, v3] (zO o :: st) A K := zx_aload_n z0 dL_law_358 rfl rfl
theorem s0_359 : zX d 0 359 [zO o, v1, v2, v3] st A K = zX d 0 360 [zO o, v1, v2, v3] (zO o :: st) A K := zx_aload_n z0 dL_law_359 rfl rfl
theorem s0_360 : zX d 0 360 [v0, v1, v2, zI x] st A K = zX d 0 361 [v0, v1, v2, zI x] (zI x :: st) A K := zx_iload_n z0 dL_law_360 rfl rfl
theorem s0_361 : zX d 0 361 ls st A K = zX d 0 362 ls (zI 1 :: st) A K := zx_const z0 dL_law_361 (by decide) rfl
theorem s0_362 : zX d 0 362 ls (zI y :: zI x :: st) A K = zX d 0 363 ls (zI (zw (x + y)) :: st) A K := zx_iadd z0 dL_law_362 rfl
theorem s0_363 (h : tg A a = 20) (h0 : 0 ≤ x) (h1 : x.toNat < (ia A a).length) : zX d 0 363 ls (zI x :: zO (some a) :: st) A K = zX d 0 364 ls (zI ((ia A a).getD x.toNat 0) :: st) A K := zx_iald z0 dL_law_363 rfl h h0 h1
theorem s0_363s (h : tg A a = 30) (h0 : 0 ≤ x) (h1 : x.toNat < (ia A a).length) : zX d 0 363 ls (zI x :: zO (some a) :: st) A K = zX d 0 364 ls (zI ((ia A a).getD x.toNat 0) :: st) A K := zx_sald z0 dL_law_363 rfl h h0 h1
theorem s0_364 (h : tg A a = 9)  : zX (d + 1) 0 364 ls (zI i0 :: zO (some a) :: [w0]) A K = zX d 146 0 [zO (some a), zI i0] [] A (zK (d + 1) 0 364 367 ls [w0] K) := zx_callV (t := 9) z0 zo0 dL_law_364 rfl C1_39 rfl rfl zm146 rfl rfl (zwt_le (Nat.le_of_ble_eq_true rfl)) rfl h
theorem s0_367 : zX d 0 367 ls (zI y :: zI x :: st) A K = (if x = y then zX d 0 1401 ls st A K else zX d 0 370 ls st A K) := zx_ic_eq z0 dL_law_367 rfl rfl
theorem s0_370 : zX d 0 370 ls st A K = zX d 0 371 ls (zI 0 :: st) A K := zx_const z0 dL_law_370 (by decide) rfl
theorem s0_371 (h : x = 0 ∨ x = 1) : zX d 0 371 ls [zI x] A K = K (Sum.inl (some (zI x))) A := zx_iret z0 dL_law_371 zk0 (by rcases h with q | q <;> subst q <;> rfl)
theorem s0_372 : zX d 0 372 [v0, zO o, v2, v3] st A K = zX d 0 373 [v0, zO o, v2, v3] (zO o :: st) A K := zx_aload_n z0 dL_law_372 rfl rfl
theorem s0_373 : zX d 0 373 [zO o, v1, v2, v3] st A K = zX d 0 374 [zO o, v1, v2, v3] (zO o :: st) A K := zx_aload_n z0 dL_law_373 rfl rfl
theorem s0_374 : zX d 0 374 [v0, v1, v2, zI x] st A K = zX d 0 375 [v0, v1, v2, zI x] (zI x :: st) A K := zx_iload_n z0 dL_law_374 rfl rfl
theorem s0_375 : zX d 0 375 ls st A K = zX d 0 376 ls (zI 1 :: st) A K := zx_const z0 dL_law_375 (by decide) rfl
theorem s0_376 : zX d 0 376 ls (zI y :: zI x :: st) A K = zX d 0 377 ls (zI (zw (x + y)) :: st) A K := zx_iadd z0 dL_law_376 rfl
theorem s0_377 (h : tg A a = 20) (h0 : 0 ≤ x) (h1 : x.toNat < (ia A a).length) : zX d 0 377 ls (zI x :: zO (some a) :: st) A K = zX d 0 378 ls (zI ((ia A a).getD x.toNat 0) :: st) A K := zx_iald z0 dL_law_377 rfl h h0 h1
theorem s0_377s (h : tg A a = 30) (h0 : 0 ≤ x) (h1 : x.toNat < (ia A a).length) : zX d 0 377 ls (zI x :: zO (some a) :: st) A K = zX d 0 378 ls (zI ((ia A a).getD x.toNat 0) :: st) A K := zx_sald z0 dL_law_377 rfl h h0 h1
theorem s0_378 (h : tg A a = 1)  : zX (d + 1) 0 378 ls (zI i0 :: zO (some a) :: []) A K = zX d 17 0 [zO (some a), zI i0] [] A (zK (d + 1) 0 378 381 ls [] K) := zx_callV (t := 1) z0 zo0 dL_law_378 rfl C1_40 rfl rfl zm17 rfl rfl (zwt_le (Nat.le_of_ble_eq_true rfl)) rfl h
theorem s0_381 : zX d 0 381 [v0, v1, zO o, v3] st A K = zX d 0 382 [v0, v1, zO o, v3] (zO o :: st) A K := zx_aload_n z0 dL_law_381 rfl rfl
theorem s0_382 : zX d 0 382 [zO o, v1, v2, v3] st A K = zX d 0 383 [zO o, v1, v2, v3] (zO o :: st) A K := zx_aload_n z0 dL_law_382 rfl rfl
theorem s0_383 : zX d 0 383 [v0, v1, v2, zI x] st A K = zX d 0 384 [v0, v1, v2, zI x] (zI x :: st) A K := zx_iload_n z0 dL_law_383 rfl rfl
theorem s0_384 : zX d 0 384 ls st A K = zX d 0 385 ls (zI 1 :: st) A K := zx_const z0 dL_law_384 (by decide) rfl
theorem s0_385 : zX d 0 385 ls (zI y :: zI x :: st) A K = zX d 0 386 ls (zI (zw (x + y)) :: st) A K := zx_iadd z0 dL_law_385 rfl
theorem s0_386 (h : tg A a = 20) (h0 : 0 ≤ x) (h1 : x.toNat < (ia A a).length) : zX d 0 386 ls (zI x :: zO (some a) :: st) A K = zX d 0 387 ls (zI ((ia A a).getD x.toNat 0) :: st) A K := zx_iald z0 dL_law_386 rfl h h0 h1
theorem s0_386s (h : tg A a = 30) (h0 : 0 ≤ x) (h1 : x.toNat < (ia A a).length) : zX d 0 386 ls (zI x :: zO (some a) :: st) A K = zX d 0 387 ls (zI ((ia A a).getD x.toNat 0) :: st) A K := zx_sald z0 dL_law_386 rfl h h0 h1
theorem s0_387 (h : tg A a = 9)  : zX (d + 1) 0 387 ls (zI i0 :: zO (some a) :: [w0]) A K = zX d 147 0 [zO (some a), zI i0] [] A (zK (d + 1) 0 387 390 ls [w0] K) := zx_callV (t := 9) z0 zo0 dL_law_387 rfl C1_43 rfl rfl zm147 rfl rfl (zwt_le (Nat.le_of_ble_eq_true rfl)) rfl h
theorem s0_390 : zX d 0 390 ls (zI y :: zI x :: st) A K = (if x = y then zX d 0 1401 ls st A K else zX d 0 393 ls st A K) := zx_ic_eq z0 dL_law_390 rfl rfl
theorem s0_393 : zX d 0 393 ls st A K = zX d 0 394 ls (zI 0 :: st) A K := zx_const z0 dL_law_393 (by decide) rfl
theorem s0_394 (h : x = 0 ∨ x = 1) : zX d 0 394 ls [zI x] A K = K (Sum.inl (some (zI x))) A := zx_iret z0 dL_law_394 zk0 (by rcases h with q | q <;> subst q <;> rfl)
theorem s0_395 : zX d 0 395 [v0, zO o, v2, v3] st A K = zX d 0 396 [v0, zO o, v2, v3] (zO o :: st) A K := zx_aload_n z0 dL_law_395 rfl rfl
theorem s0_396 (h : tg A a = 1)  : zX (d + 1) 0 396 ls (zO (some a) :: []) A K = zX d 18 0 [zO (some a)] [] A (zK (d + 1) 0 396 399 ls [] K) := zx_callV (t := 1) z0 zo0 dL_law_396 rfl C1_44 rfl rfl zm18 rfl rfl (zwt_le (Nat.le_of_ble_eq_true rfl)) rfl h
theorem s0_399 : zX d 0 399 [v0, v1, zO o, v3] st A K = zX d 0 400 [v0, v1, zO o, v3] (zO o :: st) A K := zx_aload_n z0 dL_law_399 rfl rfl
theorem s0_400 (h : tg A a = 9)  : zX (d + 1) 0 400 ls (zO (some a) :: [w0]) A K = zX d 148 0 [zO (some a)] [] A (zK (d + 1) 0 400 403 ls [w0] K) := zx_callV (t := 9) z0 zo0 dL_law_400 rfl C1_47 rfl rfl zm148 rfl rfl (zwt_le (Nat.le_of_ble_eq_true rfl)) rfl h
theorem s0_403 : zX d 0 403 ls (zI y :: zI x :: st) A K = (if x = y then zX d 0 1401 ls st A K else zX d 0 406 ls st A K) := zx_ic_eq z0 dL_law_403 rfl rfl
theorem s0_406 : zX d 0 406 ls st A K = zX d 0 407 ls (zI 0 :: st) A K := zx_const z0 dL_law_406 (by decide) rfl
theorem s0_407 (h : x = 0 ∨ x = 1) : zX d 0 407 ls [zI x] A K = K (Sum.inl (some (zI x))) A := zx_iret z0 dL_law_407 zk0 (by rcases h with q | q <;> subst q <;> rfl)
theorem s0_408 : zX d 0 408 [v0, zO o, v2, v3] st A K = zX d 0 409 [v0, zO o, v2, v3] (zO o :: st) A K := zx_aload_n z0 dL_law_408 rfl rfl
theorem s0_409 : zX d 0 409 [zO o, v1, v2, v3] st A K = zX d 0 410 [zO o, v1, v2, v3] (zO o :: st) A K := zx_aload_n z0 dL_law_409 rfl rfl
theorem s0_410 : zX d 0 410 [v0, v1, v2, zI x] st A K = zX d 0 411 [v0, v1, v2, zI x] (zI x :: st) A K := zx_iload_n z0 dL_law_410 rfl rfl
theorem s0_411 : zX d 0 411 ls st A K = zX d 0 412 ls (zI 1 :: st) A K := zx_const z0 dL_law_411 (by decide) rfl
theorem s0_412 : zX d 0 412 ls (zI y :: zI x :: st) A K = zX d 0 413 ls (zI (zw (x + y)) :: st) A K := zx_iadd z0 dL_law_412 rfl
theorem s0_413 (h : tg A a = 20) (h0 : 0 ≤ x) (h1 : x.toNat < (ia A a).length) : zX d 0 413 ls (zI x :: zO (some a) :: st) A K = zX d 0 414 ls (zI ((ia A a).getD x.toNat 0) :: st) A K := zx_iald z0 dL_law_413 rfl h h0 h1
theorem s0_413s (h : tg A a = 30) (h0 : 0 ≤ x) (h1 : x.toNat < (ia A a).length) : zX d 0 413 ls (zI x :: zO (some a) :: st) A K = zX d 0 414 ls (zI ((ia A a).getD x.toNat 0) :: st) A K := zx_sald z0 dL_law_413 rfl h h0 h1
theorem s0_414 (h : tg A a = 1)  : zX (d + 1) 0 414 ls (zI i0 :: zO (some a) :: []) A K = zX d 24 0 [zO (some a), zI i0] [] A (zK (d + 1) 0 414 417 ls [] K) := zx_callV (t := 1) z0 zo0 dL_law_414 rfl C1_48 rfl rfl zm24 rfl rfl (zwt_le (Nat.le_of_ble_eq_true rfl)) rfl h
theorem s0_417 : zX d 0 417 [v0, v1, zO o, v3] st A K = zX d 0 418 [v0, v1, zO o, v3] (zO o :: st) A K := zx_aload_n z0 dL_law_417 rfl rfl
theorem s0_418 : zX d 0 418 [zO o, v1, v2, v3] st A K = zX d 0 419 [zO o, v1, v2, v3] (zO o :: st) A K := zx_aload_n z0 dL_law_418 rfl rfl
theorem s0_419 : zX d 0 419 [v0, v1, v2, zI x] st A K = zX d 0 420 [v0, v1, v2, zI x] (zI x :: st) A K := zx_iload_n z0 dL_law_419 rfl rfl
theorem s0_420 : zX d 0 420 ls st A K = zX d 0 421 ls (zI 1 :: st) A K := zx_const z0 dL_law_420 (by decide) rfl
theorem s0_421 : zX d 0 421 ls (zI y :: zI x :: st) A K = zX d 0 422 ls (zI (zw (x + y)) :: st) A K := zx_iadd z0 dL_law_421 rfl
theorem s0_422 (h : tg A a = 20) (h0 : 0 ≤ x) (h1 : x.toNat < (ia A a).length) : zX d 0 422 ls (zI x :: zO (some a) :: st) A K = zX d 0 423 ls (zI ((ia A a).getD x.toNat 0) :: st) A K := zx_iald z0 dL_law_422 rfl h h0 h1
theorem s0_422s (h : tg A a = 30) (h0 : 0 ≤ x) (h1 : x.toNat < (ia A a).length) : zX d 0 422 ls (zI x :: zO (some a) :: st) A K = zX d 0 423 ls (zI ((ia A a).getD x.toNat 0) :: st) A K := zx_sald z0 dL_law_422 rfl h h0 h1
theorem s0_423 (h : tg A a = 9)  : zX (d + 1) 0 423 ls (zI i0 :: zO (some a) :: [w0]) A K = zX d 150 0 [zO (some a), zI i0] [] A (zK (d + 1) 0 423 426 ls [w0] K) := zx_callV (t := 9) z0 zo0 dL_law_423 rfl C1_51 rfl rfl zm150 rfl rfl (zwt_le (Nat.le_of_ble_eq_true rfl)) rfl h
theorem s0_426 : zX d 0 426 ls (zI y :: zI x :: st) A K = (if x = y then zX d 0 1401 ls st A K else zX d 0 429 ls st A K) := zx_ic_eq z0 dL_law_426 rfl rfl
theorem s0_429 : zX d 0 429 ls st A K = zX d 0 430 ls (zI 0 :: st) A K := zx_const z0 dL_law_429 (by decide) rfl
theorem s0_430 (h : x = 0 ∨ x = 1) : zX d 0 430 ls [zI x] A K = K (Sum.inl (some (zI x))) A := zx_iret z0 dL_law_430 zk0 (by rcases h with q | q <;> subst q <;> rfl)
theorem s0_431 : zX d 0 431 [v0, zO o, v2, v3] st A K = zX d 0 432 [v0, zO o, v2, v3] (zO o :: st) A K := zx_aload_n z0 dL_law_431 rfl rfl
theorem s0_432 : zX d 0 432 [zO o, v1, v2, v3] st A K = zX d 0 433 [zO o, v1, v2, v3] (zO o :: st) A K := zx_aload_n z0 dL_law_432 rfl rfl
theorem s0_433 : zX d 0 433 [v0, v1, v2, zI x] st A K = zX d 0 434 [v0, v1, v2, zI x] (zI x :: st) A K := zx_iload_n z0 dL_law_433 rfl rfl
theorem s0_434 : zX d 0 434 ls st A K = zX d 0 435 ls (zI 1 :: st) A K := zx_const z0 dL_law_434 (by decide) rfl
theorem s0_435 : zX d 0 435 ls (zI y :: zI x :: st) A K = zX d 0 436 ls (zI (zw (x + y)) :: st) A K := zx_iadd z0 dL_law_435 rfl
theorem s0_436 (h : tg A a = 20) (h0 : 0 ≤ x) (h1 : x.toNat < (ia A a).length) : zX d 0 436 ls (zI x :: zO (some a) :: st) A K = zX d 0 437 ls (zI ((ia A a).getD x.toNat 0) :: st) A K := zx_iald z0 dL_law_436 rfl h h0 h1
theorem s0_436s (h : tg A a = 30) (h0 : 0 ≤ x) (h1 : x.toNat < (ia A a).length) : zX d 0 436 ls (zI x :: zO (some a) :: st) A K = zX d 0 437 ls (zI ((ia A a).getD x.toNat 0) :: st) A K := zx_sald z0 dL_law_436 rfl h h0 h1
theorem s0_437 (h : tg A a = 1)  : zX (d + 1) 0 437 ls (zI i0 :: zO (some a) :: []) A K = zX d 26 0 [zO (some a), zI i0] [] A (zK (d + 1) 0 437 440 ls [] K) := zx_callV (t := 1) z0 zo0 dL_law_437 rfl C1_52 rfl rfl zm26 rfl rfl (zwt_le (Nat.le_of_ble_eq_true rfl)) rfl h
theorem s0_440 : zX d 0 440 [v0, v1, zO o, v3] st A K = zX d 0 441 [v0, v1, zO o, v3] (zO o :: st) A K := zx_aload_n z0 dL_law_440 rfl rfl
theorem s0_441 : zX d 0 441 [zO o, v1, v2, v3] st A K = zX d 0 442 [zO o, v1, v2, v3] (zO o :: st) A K := zx_aload_n z0 dL_law_441 rfl rfl
theorem s0_442 : zX d 0 442 [v0, v1, v2, zI x] st A K = zX d 0 443 [v0, v1, v2, zI x] (zI x :: st) A K := zx_iload_n z0 dL_law_442 rfl rfl
theorem s0_443 : zX d 0 443 ls st A K = zX d 0 444 ls (zI 1 :: st) A K := zx_const z0 dL_law_443 (by decide) rfl
theorem s0_444 : zX d 0 444 ls (zI y :: zI x :: st) A K = zX d 0 445 ls (zI (zw (x + y)) :: st) A K := zx_iadd z0 dL_law_444 rfl
theorem s0_445 (h : tg A a = 20) (h0 : 0 ≤ x) (h1 : x.toNat < (ia A a).length) : zX d 0 445 ls (zI x :: zO (some a) :: st) A K = zX d 0 446 ls (zI ((ia A a).getD x.toNat 0) :: st) A K := zx_iald z0 dL_law_445 rfl h h0 h1
theorem s0_445s (h : tg A a = 30) (h0 : 0 ≤ x) (h1 : x.toNat < (ia A a).length) : zX d 0 445 ls (zI x :: zO (some a) :: st) A K = zX d 0 446 ls (zI ((ia A a).getD x.toNat 0) :: st) A K := zx_sald z0 dL_law_445 rfl h h0 h1
theorem s0_446 (h : tg A a = 9)  : zX (d + 1) 0 446 ls (zI i0 :: zO (some a) :: [w0]) A K = zX d 152 0 [zO (some a), zI i0] [] A (zK (d + 1) 0 446 449 ls [w0] K) := zx_callV (t := 9) z0 zo0 dL_law_446 rfl C1_55 rfl rfl zm152 rfl rfl (zwt_le (Nat.le_of_ble_eq_true rfl)) rfl h
theorem s0_449 : zX d 0 449 ls (zI y :: zI x :: st) A K = (if x = y then zX d 0 1401 ls st A K else zX d 0 452 ls st A K) := zx_ic_eq z0 dL_law_449 rfl rfl
theorem s0_452 : zX d 0 452 ls st A K = zX d 0 453 ls (zI 0 :: st) A K := zx_const z0 dL_law_452 (by decide) rfl
theorem s0_453 (h : x = 0 ∨ x = 1) : zX d 0 453 ls [zI x] A K = K (Sum.inl (some (zI x))) A := zx_iret z0 dL_law_453 zk0 (by rcases h with q | q <;> subst q <;> rfl)
theorem s0_454 : zX d 0 454 [v0, zO o, v2, v3] st A K = zX d 0 455 [v0, zO o, v2, v3] (zO o :: st) A K := zx_aload_n z0 dL_law_454 rfl rfl
theorem s0_455 : zX d 0 455 [zO o, v1, v2, v3] st A K = zX d 0 456 [zO o, v1, v2, v3] (zO o :: st) A K := zx_aload_n z0 dL_law_455 rfl rfl
theorem s0_456 : zX d 0 456 [v0, v1, v2, zI x] st A K = zX d 0 457 [v0, v1, v2, zI x] (zI x :: st) A K := zx_iload_n z0 dL_law_456 rfl rfl
theorem s0_457 : zX d 0 457 ls st A K = zX d 0 458 ls (zI 1 :: st) A K := zx_const z0 dL_law_457 (by decide) rfl
theorem s0_458 : zX d 0 458 ls (zI y :: zI x :: st) A K = zX d 0 459 ls (zI (zw (x + y)) :: st) A K := zx_iadd z0 dL_law_458 rfl
theorem s0_459 (h : tg A a = 20) (h0 : 0 ≤ x) (h1 : x.toNat < (ia A a).length) : zX d 0 459 ls (zI x :: zO (some a) :: st) A K = zX d 0 460 ls (zI ((ia A a).getD x.toNat 0) :: st) A K := zx_iald z0 dL_law_459 rfl h h0 h1
theorem s0_459s (h : tg A a = 30) (h0 : 0 ≤ x) (h1 : x.toNat < (ia A a).length) : zX d 0 459 ls (zI x :: zO (some a) :: st) A K = zX d 0 460 ls (zI ((ia A a).getD x.toNat 0) :: st) A K := zx_sald z0 dL_law_459 rfl h h0 h1
theorem s0_460 (h : tg A a = 1)  : zX (d + 1) 0 460 ls (zI i0 :: zO (some a) :: []) A K = zX d 27 0 [zO (some a), zI i0] [] A (zK (d + 1) 0 460 463 ls [] K) := zx_callV (t := 1) z0 zo0 dL_law_460 rfl C1_56 rfl rfl zm27 rfl rfl (zwt_le (Nat.le_of_ble_eq_true rfl)) rfl h
theorem s0_463 : zX d 0 463 [v0, v1, zO o, v3] st A K = zX d 0 464 [v0, v1, zO o, v3] (zO o :: st) A K := zx_aload_n z0 dL_law_463 rfl rfl
theorem s0_464 : zX d 0 464 [zO o, v1, v2, v3] st A K = zX d 0 465 [zO o, v1, v2, v3] (zO o :: st) A K := zx_aload_n z0 dL_law_464 rfl rfl
theorem s0_465 : zX d 0 465 [v0, v1, v2, zI x] st A K = zX d 0 466 [v0, v1, v2, zI x] (zI x :: st) A K := zx_iload_n z0 dL_law_465 rfl rfl
theorem s0_466 : zX d 0 466 ls st A K = zX d 0 467 ls (zI 1 :: st) A K := zx_const z0 dL_law_466 (by decide) rfl
theorem s0_467 : zX d 0 467 ls (zI y :: zI x :: st) A K = zX d 0 468 ls (zI (zw (x + y)) :: st) A K := zx_iadd z0 dL_law_467 rfl
theorem s0_468 (h : tg A a = 20) (h0 : 0 ≤ x) (h1 : x.toNat < (ia A a).length) : zX d 0 468 ls (zI x :: zO (some a) :: st) A K = zX d 0 469 ls (zI ((ia A a).getD x.toNat 0) :: st) A K := zx_iald z0 dL_law_468 rfl h h0 h1
theorem s0_468s (h : tg A a = 30) (h0 : 0 ≤ x) (h1 : x.toNat < (ia A a).length) : zX d 0 468 ls (zI x :: zO (some a) :: st) A K = zX d 0 469 ls (zI ((ia A a).getD x.toNat 0) :: st) A K := zx_sald z0 dL_law_468 rfl h h0 h1
theorem s0_469 (h : tg A a = 9)  : zX (d + 1) 0 469 ls (zI i0 :: zO (some a) :: [w0]) A K = zX d 153 0 [zO (some a), zI i0] [] A (zK (d + 1) 0 469 472 ls [w0] K) := zx_callV (t := 9) z0 zo0 dL_law_469 rfl C1_59 rfl rfl zm153 rfl rfl (zwt_le (Nat.le_of_ble_eq_true rfl)) rfl h
theorem s0_472 : zX d 0 472 ls (zI y :: zI x :: st) A K = (if x = y then zX d 0 1401 ls st A K else zX d 0 475 ls st A K) := zx_ic_eq z0 dL_law_472 rfl rfl
theorem s0_475 : zX d 0 475 ls st A K = zX d 0 476 ls (zI 0 :: st) A K := zx_const z0 dL_law_475 (by decide) rfl
theorem s0_476 (h : x = 0 ∨ x = 1) : zX d 0 476 ls [zI x] A K = K (Sum.inl (some (zI x))) A := zx_iret z0 dL_law_476 zk0 (by rcases h with q | q <;> subst q <;> rfl)
theorem s0_477 : zX d 0 477 [v0, zO o, v2, v3] st A K = zX d 0 478 [v0, zO o, v2, v3] (zO o :: st) A K := zx_aload_n z0 dL_law_477 rfl rfl
theorem s0_478 : zX d 0 478 [zO o, v1, v2, v3] st A K = zX d 0 479 [zO o, v1, v2, v3] (zO o :: st) A K := zx_aload_n z0 dL_law_478 rfl rfl
theorem s0_479 : zX d 0 479 [v0, v1, v2, zI x] st A K = zX d 0 480 [v0, v1, v2, zI x] (zI x :: st) A K := zx_iload_n z0 dL_law_479 rfl rfl
theorem s0_480 : zX d 0 480 ls st A K = zX d 0 481 ls (zI 1 :: st) A K := zx_const z0 dL_law_480 (by decide) rfl
theorem s0_481 : zX d 0 481 ls (zI y :: zI x :: st) A K = zX d 0 482 ls (zI (zw (x + y)) :: st) A K := zx_iadd z0 dL_law_481 rfl
theorem s0_482 (h : tg A a = 20) (h0 : 0 ≤ x) (h1 : x.toNat < (ia A a).length) : zX d 0 482 ls (zI x :: zO (some a) :: st) A K = zX d 0 483 ls (zI ((ia A a).getD x.toNat 0) :: st) A K := zx_iald z0 dL_law_482 rfl h h0 h1
theorem s0_482s (h : tg A a = 30) (h0 : 0 ≤ x) (h1 : x.toNat < (ia A a).length) : zX d 0 482 ls (zI x :: zO (some a) :: st) A K = zX d 0 483 ls (zI ((ia A a).getD x.toNat 0) :: st) A K := zx_sald z0 dL_law_482 rfl h h0 h1
theorem s0_483 (h : tg A a = 1)  : zX (d + 1) 0 483 ls (zI i0 :: zO (some a) :: []) A K = zX d 28 0 [zO (some a), zI i0] [] A (zK (d + 1) 0 483 486 ls [] K) := zx_callV (t := 1) z0 zo0 dL_law_483 rfl C1_60 rfl rfl zm28 rfl rfl (zwt_le (Nat.le_of_ble_eq_true rfl)) rfl h
theorem s0_486 : zX d 0 486 [v0, v1, zO o, v3] st A K = zX d 0 487 [v0, v1, zO o, v3] (zO o :: st) A K := zx_aload_n z0 dL_law_486 rfl rfl
theorem s0_487 : zX d 0 487 [zO o, v1, v2, v3] st A K = zX d 0 488 [zO o, v1, v2, v3] (zO o :: st) A K := zx_aload_n z0 dL_law_487 rfl rfl
theorem s0_488 : zX d 0 488 [v0, v1, v2, zI x] st A K = zX d 0 489 [v0, v1, v2, zI x] (zI x :: st) A K := zx_iload_n z0 dL_law_488 rfl rfl
theorem s0_489 : zX d 0 489 ls st A K = zX d 0 490 ls (zI 1 :: st) A K := zx_const z0 dL_law_489 (by decide) rfl
theorem s0_490 : zX d 0 490 ls (zI y :: zI x :: st) A K = zX d 0 491 ls (zI (zw (x + y)) :: st) A K := zx_iadd z0 dL_law_490 rfl
theorem s0_491 (h : tg A a = 20) (h0 : 0 ≤ x) (h1 : x.toNat < (ia A a).length) : zX d 0 491 ls (zI x :: zO (some a) :: st) A K = zX d 0 492 ls (zI ((ia A a).getD x.toNat 0) :: st) A K := zx_iald z0 dL_law_491 rfl h h0 h1
theorem s0_491s (h : tg A a = 30) (h0 : 0 ≤ x) (h1 : x.toNat < (ia A a).length) : zX d 0 491 ls (zI x :: zO (some a) :: st) A K = zX d 0 492 ls (zI ((ia A a).getD x.toNat 0) :: st) A K := zx_sald z0 dL_law_491 rfl h h0 h1
theorem s0_492 (h : tg A a = 9)  : zX (d + 1) 0 492 ls (zI i0 :: zO (some a) :: [w0]) A K = zX d 156 0 [zO (some a), zI i0] [] A (zK (d + 1) 0 492 495 ls [w0] K) := zx_callV (t := 9) z0 zo0 dL_law_492 rfl C1_63 rfl rfl zm156 rfl rfl (zwt_le (Nat.le_of_ble_eq_true rfl)) rfl h
theorem s0_495 : zX d 0 495 ls (zI y :: zI x :: st) A K = (if x = y then zX d 0 1401 ls st A K else zX d 0 498 ls st A K) := zx_ic_eq z0 dL_law_495 rfl rfl
theorem s0_498 : zX d 0 498 ls st A K = zX d 0 499 ls (zI 0 :: st) A K := zx_const z0 dL_law_498 (by decide) rfl
theorem s0_499 (h : x = 0 ∨ x = 1) : zX d 0 499 ls [zI x] A K = K (Sum.inl (some (zI x))) A := zx_iret z0 dL_law_499 zk0 (by rcases h with q | q <;> subst q <;> rfl)
theorem s0_500 : zX d 0 500 [v0, zO o, v2, v3] st A K = zX d 0 501 [v0, zO o, v2, v3] (zO o :: st) A K := zx_aload_n z0 dL_law_500 rfl rfl
theorem s0_501 : zX d 0 501 [zO o, v1, v2, v3] st A K = zX d 0 502 [zO o, v1, v2, v3] (zO o :: st) A K := zx_aload_n z0 dL_law_501 rfl rfl
theorem s0_502 : zX d 0 502 [v0, v1, v2, zI x] st A K = zX d 0 503 [v0, v1, v2, zI x] (zI x :: st) A K := zx_iload_n z0 dL_law_502 rfl rfl
theorem s0_503 : zX d 0 503 ls st A K = zX d 0 504 ls (zI 1 :: st) A K := zx_const z0 dL_law_503 (by decide) rfl
theorem s0_504 : zX d 0 504 ls (zI y :: zI x :: st) A K = zX d 0 505 ls (zI (zw (x + y)) :: st) A K := zx_iadd z0 dL_law_504 rfl
theorem s0_505 (h : tg A a = 20) (h0 : 0 ≤ x) (h1 : x.toNat < (ia A a).length) : zX d 0 505 ls (zI x :: zO (some a) :: st) A K = zX d 0 506 ls (zI ((ia A a).getD x.toNat 0) :: st) A K := zx_iald z0 dL_law_505 rfl h h0 h1
theorem s0_505s (h : tg A a = 30) (h0 : 0 ≤ x) (h1 : x.toNat < (ia A a).length) : zX d 0 505 ls (zI x :: zO (some a) :: st) A K = zX d 0 506 ls (zI ((ia A a).getD x.toNat 0) :: st) A K := zx_sald z0 dL_law_505 rfl h h0 h1
theorem s0_506 : zX d 0 506 [zO o, v1, v2, v3] st A K = zX d 0 507 [zO o, v1, v2, v3] (zO o :: st) A K := zx_aload_n z0 dL_law_506 rfl rfl
theorem s0_507 : zX d 0 507 [v0, v1, v2, zI x] st A K = zX d 0 508 [v0, v1, v2, zI x] (zI x :: st) A K := zx_iload_n z0 dL_law_507 rfl rfl
theorem s0_508 : zX d 0 508 ls st A K = zX d 0 509 ls (zI 2 :: st) A K := zx_const z0 dL_law_508 (by decide) rfl
theorem s0_509 : zX d 0 509 ls (zI y :: zI x :: st) A K = zX d 0 510 ls (zI (zw (x + y)) :: st) A K := zx_iadd z0 dL_law_509 rfl
theorem s0_510 (h : tg A a = 20) (h0 : 0 ≤ x) (h1 : x.toNat < (ia A a).length) : zX d 0 510 ls (zI x :: zO (some a) :: st) A K = zX d 0 511 ls (zI ((ia A a).getD x.toNat 0) :: st) A K := zx_iald z0 dL_law_510 rfl h h0 h1
theorem s0_510s (h : tg A a = 30) (h0 : 0 ≤ x) (h1 : x.toNat < (ia A a).length) : zX d 0 510 ls (zI x :: zO (some a) :: st) A K = zX d 0 511 ls (zI ((ia A a).getD x.toNat 0) :: st) A K := zx_sald z0 dL_law_510 rfl h h0 h1
theorem s0_511 (h : tg A a = 1)  : zX (d + 1) 0 511 ls (zI i1 :: zI i0 :: zO (some a) :: []) A K = zX d 29 0 [zO (some a), zI i0, zI i1] [] A (zK (d + 1) 0 511 514 ls [] K) := zx_callV (t := 1) z0 zo0 dL_law_511 rfl C1_64 rfl rfl zm29 rfl rfl (zwt_le (Nat.le_of_ble_eq_true rfl)) rfl h
theorem s0_514 : zX d 0 514 [v0, v1, zO o, v3] st A K = zX d 0 515 [v0, v1, zO o, v3] (zO o :: st) A K := zx_aload_n z0 dL_law_514 rfl rfl
theorem s0_515 : zX d 0 515 [zO o, v1, v2, v3] st A K = zX d 0 516 [zO o, v1, v2, v3] (zO o :: st) A K := zx_aload_n z0 dL_law_515 rfl rfl
theorem s0_516 : zX d 0 516 [v0, v1, v2, zI x] st A K = zX d 0 517 [v0, v1, v2, zI x] (zI x :: st) A K := zx_iload_n z0 dL_law_516 rfl rfl
theorem s0_517 : zX d 0 517 ls st A K = zX d 0 518 ls (zI 1 :: st) A K := zx_const z0 dL_law_517 (by decide) rfl
theorem s0_518 : zX d 0 518 ls (zI y :: zI x :: st) A K = zX d 0 519 ls (zI (zw (x + y)) :: st) A K := zx_iadd z0 dL_law_518 rfl
theorem s0_519 (h : tg A a = 20) (h0 : 0 ≤ x) (h1 : x.toNat < (ia A a).length) : zX d 0 519 ls (zI x :: zO (some a) :: st) A K = zX d 0 520 ls (zI ((ia A a).getD x.toNat 0) :: st) A K := zx_iald z0 dL_law_519 rfl h h0 h1
theorem s0_519s (h : tg A a = 30) (h0 : 0 ≤ x) (h1 : x.toNat < (ia A a).length) : zX d 0 519 ls (zI x :: zO (some a) :: st) A K = zX d 0 520 ls (zI ((ia A a).getD x.toNat 0) :: st) A K := zx_sald z0 dL_law_519 rfl h h0 h1
theorem s0_520 : zX d 0 520 [zO o, v1, v2, v3] st A K = zX d 0 521 [zO o, v1, v2, v3] (zO o :: st) A K := zx_aload_n z0 dL_law_520 rfl rfl
theorem s0_521 : zX d 0 521 [v0, v1, v2, zI x] st A K = zX d 0 522 [v0, v1, v2, zI x] (zI x :: st) A K := zx_iload_n z0 dL_law_521 rfl rfl
theorem s0_522 : zX d 0 522 ls st A K = zX d 0 523 ls (zI 2 :: st) A K := zx_const z0 dL_law_522 (by decide) rfl
theorem s0_523 : zX d 0 523 ls (zI y :: zI x :: st) A K = zX d 0 524 ls (zI (zw (x + y)) :: st) A K := zx_iadd z0 dL_law_523 rfl
theorem s0_524 (h : tg A a = 20) (h0 : 0 ≤ x) (h1 : x.toNat < (ia A a).length) : zX d 0 524 ls (zI x :: zO (some a) :: st) A K = zX d 0 525 ls (zI ((ia A a).getD x.toNat 0) :: st) A K := zx_iald z0 dL_law_524 rfl h h0 h1
theorem s0_524s (h : tg A a = 30) (h0 : 0 ≤ x) (h1 : x.toNat < (ia A a).length) : zX d 0 524 ls (zI x :: zO (some a) :: st) A K = zX d 0 525 ls (zI ((ia A a).getD x.toNat 0) :: st) A K := zx_sald z0 dL_law_524 rfl h h0 h1
theorem s0_525 (h : tg A a = 9)  : zX (d + 1) 0 525 ls (zI i1 :: zI i0 :: zO (some a) :: [w0]) A K = zX d 159 0 [zO (some a), zI i0, zI i1] [] A (zK (d + 1) 0 525 528 ls [w0] K) := zx_callV (t := 9) z0 zo0 dL_law_525 rfl C1_67 rfl rfl zm159 rfl rfl (zwt_le (Nat.le_of_ble_eq_true rfl)) rfl h
theorem s0_528 : zX d 0 528 ls (zI y :: zI x :: st) A K = (if x = y then zX d 0 1401 ls st A K else zX d 0 531 ls st A K) := zx_ic_eq z0 dL_law_528 rfl rfl
theorem s0_531 : zX d 0 531 ls st A K = zX d 0 532 ls (zI 0 :: st) A K := zx_const z0 dL_law_531 (by decide) rfl
theorem s0_532 (h : x = 0 ∨ x = 1) : zX d 0 532 ls [zI x] A K = K (Sum.inl (some (zI x))) A := zx_iret z0 dL_law_532 zk0 (by rcases h with q | q <;> subst q <;> rfl)
theorem s0_533 : zX d 0 533 [v0, zO o, v2, v3] st A K = zX d 0 534 [v0, zO o, v2, v3] (zO o :: st) A K := zx_aload_n z0 dL_law_533 rfl rfl
theorem s0_534 (h : tg A a = 1)  : zX (d + 1) 0 534 ls (zO (some a) :: []) A K = zX d 31 0 [zO (some a), zU, zU, zU] [] A (zK (d + 1) 0 534 537 ls [] K) := zx_callV (t := 1) z0 zo0 dL_law_534 rfl C1_68 rfl rfl zm31 rfl rfl (zwt_le (Nat.le_of_ble_eq_true rfl)) rfl h
theorem s0_537 : zX d 0 537 [v0, v1, zO o, v3] st A K = zX d 0 538 [v0, v1, zO o, v3] (zO o :: st) A K := zx_aload_n z0 dL_law_537 rfl rfl
theorem s0_538 (h : tg A a = 9)  : zX (d + 1) 0 538 ls (zO (some a) :: [w0]) A K = zX d 165 0 [zO (some a), zU, zU, zU, zU] [] A (zK (d + 1) 0 538 541 ls [w0] K) := zx_callV (t := 9) z0 zo0 dL_law_538 rfl C1_71 rfl rfl zm165 rfl rfl (zwt_le (Nat.le_of_ble_eq_true rfl)) rfl h
theorem s0_541 : zX d 0 541 ls (zI y :: zI x :: st) A K = (if x = y then zX d 0 1401 ls st A K else zX d 0 544 ls st A K) := zx_ic_eq z0 dL_law_541 rfl rfl
theorem s0_544 : zX d 0 544 ls st A K = zX d 0 545 ls (zI 0 :: st) A K := zx_const z0 dL_law_544 (by decide) rfl
theorem s0_545 (h : x = 0 ∨ x = 1) : zX d 0 545 ls [zI x] A K = K (Sum.inl (some (zI x))) A := zx_iret z0 dL_law_545 zk0 (by rcases h with q | q <;> subst q <;> rfl)
theorem s0_546 : zX d 0 546 [v0, zO o, v2, v3] st A K = zX d 0 547 [v0, zO o, v2, v3] (zO o :: st) A K := zx_aload_n z0 dL_law_546 rfl rfl
theorem s0_547 (h : tg A a = 1)  : zX (d + 1) 0 547 ls (zO (some a) :: []) A K = zX d 32 0 [zO (some a)] [] A (zK (d + 1) 0 547 550 ls [] K) := zx_callV (t := 1) z0 zo0 dL_law_547 rfl C1_72 rfl rfl zm32 rfl rfl (zwt_le (Nat.le_of_ble_eq_true rfl)) rfl h
theorem s0_550 : zX d 0 550 [v0, v1, zO o, v3] st A K = zX d 0 551 [v0, v1, zO o, v3] (zO o :: st) A K := zx_aload_n z0 dL_law_550 rfl rfl
theorem s0_551 (h : tg A a = 9)  : zX (d + 1) 0 551 ls (zO (some a) :: [w0]) A K = zX d 166 0 [zO (some a)] [] A (zK (d + 1) 0 551 554 ls [w0] K) := zx_callV (t := 9) z0 zo0 dL_law_551 rfl C1_75 rfl rfl zm166 rfl rfl (zwt_le (Nat.le_of_ble_eq_true rfl)) rfl h
theorem s0_554 : zX d 0 554 ls (zI y :: zI x :: st) A K = (if x = y then zX d 0 1401 ls st A K else zX d 0 557 ls st A K) := zx_ic_eq z0 dL_law_554 rfl rfl
theorem s0_557 : zX d 0 557 ls st A K = zX d 0 558 ls (zI 0 :: st) A K := zx_const z0 dL_law_557 (by decide) rfl
theorem s0_558 (h : x = 0 ∨ x = 1) : zX d 0 558 ls [zI x] A K = K (Sum.inl (some (zI x))) A := zx_iret z0 dL_law_558 zk0 (by rcases h with q | q <;> subst q <;> rfl)
theorem s0_559 : zX d 0 559 [v0, zO o, v2, v3] st A K = zX d 0 560 [v0, zO o, v2, v3] (zO o :: st) A K := zx_aload_n z0 dL_law_559 rfl rfl
theorem s0_560 : zX d 0 560 [zO o, v1, v2, v3] st A K = zX d 0 561 [zO o, v1, v2, v3] (zO o :: st) A K := zx_aload_n z0 dL_law_560 rfl rfl
theorem s0_561 : zX d 0 561 [v0, v1, v2, zI x] st A K = zX d 0 562 [v0, v1, v2, zI x] (zI x :: st) A K := zx_iload_n z0 dL_law_561 rfl rfl
theorem s0_562 : zX d 0 562 ls st A K = zX d 0 563 ls (zI 1 :: st) A K := zx_const z0 dL_law_562 (by decide) rfl
theorem s0_563 : zX d 0 563 ls (zI y :: zI x :: st) A K = zX d 0 564 ls (zI (zw (x + y)) :: st) A K := zx_iadd z0 dL_law_563 rfl
theorem s0_564 (h : tg A a = 20) (h0 : 0 ≤ x) (h1 : x.toNat < (ia A a).length) : zX d 0 564 ls (zI x :: zO (some a) :: st) A K = zX d 0 565 ls (zI ((ia A a).getD x.toNat 0) :: st) A K := zx_iald z0 dL_law_564 rfl h h0 h1
theorem s0_564s (h : tg A a = 30) (h0 : 0 ≤ x) (h1 : x.toNat < (ia A a).length) : zX d 0 564 ls (zI x :: zO (some a) :: st) A K = zX d 0 565 ls (zI ((ia A a).getD x.toNat 0) :: st) A K := zx_sald z0 dL_law_564 rfl h h0 h1
theorem s0_565 (h : tg A a = 1)  : zX (d + 1) 0 565 ls (zI i0 :: zO (some a) :: []) A K = zX d 33 0 [zO (some a), zI i0] [] A (zK (d + 1) 0 565 568 ls [] K) := zx_callV (t := 1) z0 zo0 dL_law_565 rfl C1_76 rfl rfl zm33 rfl rfl (zwt_le (Nat.le_of_ble_eq_true rfl)) rfl h
theorem s0_568 : zX d 0 568 [v0, v1, zO o, v3] st A K = zX d 0 569 [v0, v1, zO o, v3] (zO o :: st) A K := zx_aload_n z0 dL_law_568 rfl rfl
theorem s0_569 : zX d 0 569 [zO o, v1, v2, v3] st A K = zX d 0 570 [zO o, v1, v2, v3] (zO o :: st) A K := zx_aload_n z0 dL_law_569 rfl rfl
theorem s0_570 : zX d 0 570 [v0, v1, v2, zI x] st A K = zX d 0 571 [v0, v1, v2, zI x] (zI x :: st) A K := zx_iload_n z0 dL_law_570 rfl rfl
theorem s0_571 : zX d 0 571 ls st A K = zX d 0 572 ls (zI 1 :: st) A K := zx_const z0 dL_law_571 (by decide) rfl
theorem s0_572 : zX d 0 572 ls (zI y :: zI x :: st) A K = zX d 0 573 ls (zI (zw (x + y)) :: st) A K := zx_iadd z0 dL_law_572 rfl
theorem s0_573 (h : tg A a = 20) (h0 : 0 ≤ x) (h1 : x.toNat < (ia A a).length) : zX d 0 573 ls (zI x :: zO (some a) :: st) A K = zX d 0 574 ls (zI ((ia A a).getD x.toNat 0) :: st) A K := zx_iald z0 dL_law_573 rfl h h0 h1
theorem s0_573s (h : tg A a = 30) (h0 : 0 ≤ x) (h1 : x.toNat < (ia A a).length) : zX d 0 573 ls (zI x :: zO (some a) :: st) A K = zX d 0 574 ls (zI ((ia A a).getD x.toNat 0) :: st) A K := zx_sald z0 dL_law_573 rfl h h0 h1
theorem s0_574 (h : tg A a = 9)  : zX (d + 1) 0 574 ls (zI i0 :: zO (some a) :: [w0]) A K = zX d 170 0 [zO (some a), zI i0] [] A (zK (d + 1) 0 574 577 ls [w0] K) := zx_callV (t := 9) z0 zo0 dL_law_574 rfl C1_79 rfl rfl zm170 rfl rfl (zwt_le (Nat.le_of_ble_eq_true rfl)) rfl h
theorem s0_577 : zX d 0 577 ls (zI y :: zI x :: st) A K = (if x = y then zX d 0 1401 ls st A K else zX d 0 580 ls st A K) := zx_ic_eq z0 dL_law_577 rfl rfl
theorem s0_580 : zX d 0 580 ls st A K = zX d 0 581 ls (zI 0 :: st) A K := zx_const z0 dL_law_580 (by decide) rfl
theorem s0_581 (h : x = 0 ∨ x = 1) : zX d 0 581 ls [zI x] A K = K (Sum.inl (some (zI x))) A := zx_iret z0 dL_law_581 zk0 (by rcases h with q | q <;> subst q <;> rfl)
theorem s0_582 : zX d 0 582 [v0, zO o, v2, v3] st A K = zX d 0 583 [v0, zO o, v2, v3] (zO o :: st) A K := zx_aload_n z0 dL_law_582 rfl rfl
theorem s0_583 : zX d 0 583 [zO o, v1, v2, v3] st A K = zX d 0 584 [zO o, v1, v2, v3] (zO o :: st) A K := zx_aload_n z0 dL_law_583 rfl rfl
theorem s0_584 : zX d 0 584 [v0, v1, v2, zI x] st A K = zX d 0 585 [v0, v1, v2, zI x] (zI x :: st) A K := zx_iload_n z0 dL_law_584 rfl rfl
theorem s0_585 : zX d 0 585 ls st A K = zX d 0 586 ls (zI 1 :: st) A K := zx_const z0 dL_law_585 (by decide) rfl
theorem s0_586 : zX d 0 586 ls (zI y :: zI x :: st) A K = zX d 0 587 ls (zI (zw (x + y)) :: st) A K := zx_iadd z0 dL_law_586 rfl
theorem s0_587 (h : tg A a = 20) (h0 : 0 ≤ x) (h1 : x.toNat < (ia A a).length) : zX d 0 587 ls (zI x :: zO (some a) :: st) A K = zX d 0 588 ls (zI ((ia A a).getD x.toNat 0) :: st) A K := zx_iald z0 dL_law_587 rfl h h0 h1
theorem s0_587s (h : tg A a = 30) (h0 : 0 ≤ x) (h1 : x.toNat < (ia A a).length) : zX d 0 587 ls (zI x :: zO (some a) :: st) A K = zX d 0 588 ls (zI ((ia A a).getD x.toNat 0) :: st) A K := zx_sald z0 dL_law_587 rfl h h0 h1
theorem s0_588 : zX d 0 588 [zO o, v1, v2, v3] st A K = zX d 0 589 [zO o, v1, v2, v3] (zO o :: st) A K := zx_aload_n z0 dL_law_588 rfl rfl
theorem s0_589 : zX d 0 589 [v0, v1, v2, zI x] st A K = zX d 0 590 [v0, v1, v2, zI x] (zI x :: st) A K := zx_iload_n z0 dL_law_589 rfl rfl
theorem s0_590 : zX d 0 590 ls st A K = zX d 0 591 ls (zI 2 :: st) A K := zx_const z0 dL_law_590 (by decide) rfl
theorem s0_591 : zX d 0 591 ls (zI y :: zI x :: st) A K = zX d 0 592 ls (zI (zw (x + y)) :: st) A K := zx_iadd z0 dL_law_591 rfl
theorem s0_592 (h : tg A a = 20) (h0 : 0 ≤ x) (h1 : x.toNat < (ia A a).length) : zX d 0 592 ls (zI x :: zO (some a) :: st) A K = zX d 0 593 ls (zI ((ia A a).getD x.toNat 0) :: st) A K := zx_iald z0 dL_law_592 rfl h h0 h1
theorem s0_592s (h : tg A a = 30) (h0 : 0 ≤ x) (h1 : x.toNat < (ia A a).length) : zX d 0 592 ls (zI x :: zO (some a) :: st) A K = zX d 0 593 ls (zI ((ia A a).getD x.toNat 0) :: st) A K := zx_sald z0 dL_law_592 rfl h h0 h1
theorem s0_593 : zX d 0 593 [zO o, v1, v2, v3] st A K = zX d 0 594 [zO o, v1, v2, v3] (zO o :: st) A K := zx_aload_n z0 dL_law_593 rfl rfl
theorem s0_594 : zX d 0 594 [v0, v1, v2, zI x] st A K = zX d 0 595 [v0, v1, v2, zI x] (zI x :: st) A K := zx_iload_n z0 dL_law_594 rfl rfl
theorem s0_595 : zX d 0 595 ls st A K = zX d 0 596 ls (zI 3 :: st) A K := zx_const z0 dL_law_595 (by decide) rfl
theorem s0_596 : zX d 0 596 ls (zI y :: zI x :: st) A K = zX d 0 597 ls (zI (zw (x + y)) :: st) A K := zx_iadd z0 dL_law_596 rfl
theorem s0_597 (h : tg A a = 20) (h0 : 0 ≤ x) (h1 : x.toNat < (ia A a).length) : zX d 0 597 ls (zI x :: zO (some a) :: st) A K = zX d 0 598 ls (zI ((ia A a).getD x.toNat 0) :: st) A K := zx_iald z0 dL_law_597 rfl h h0 h1
theorem s0_597s (h : tg A a = 30) (h0 : 0 ≤ x) (h1 : x.toNat < (ia A a).length) : zX d 0 597 ls (zI x :: zO (some a) :: st) A K = zX d 0 598 ls (zI ((ia A a).getD x.toNat 0) :: st) A K := zx_sald z0 dL_law_597 rfl h h0 h1
theorem s0_598 (h : tg A a = 1)  : zX (d + 1) 0 598 ls (zI i2 :: zI i1 :: zI i0 :: zO (some a) :: []) A K = zX d 34 0 [zO (some a), zI i0, zI i1, zI i2, zU, zU] [] A (zK (d + 1) 0 598 601 ls [] K) := zx_callV (t := 1) z0 zo0 dL_law_598 rfl C1_80 rfl rfl zm34 rfl rfl (zwt_le (Nat.le_of_ble_eq_true rfl)) rfl h
theorem s0_601 : zX d 0 601 [v0, v1, zO o, v3] st A K = zX d 0 602 [v0, v1, zO o, v3] (zO o :: st) A K := zx_aload_n z0 dL_law_601 rfl rfl
theorem s0_602 : zX d 0 602 [zO o, v1, v2, v3] st A K = zX d 0 603 [zO o, v1, v2, v3] (zO o :: st) A K := zx_aload_n z0 dL_law_602 rfl rfl
theorem s0_603 : zX d 0 603 [v0, v1, v2, zI x] st A K = zX d 0 604 [v0, v1, v2, zI x] (zI x :: st) A K := zx_iload_n z0 dL_law_603 rfl rfl
theorem s0_604 : zX d 0 604 ls st A K = zX d 0 605 ls (zI 1 :: st) A K := zx_const z0 dL_law_604 (by decide) rfl
theorem s0_605 : zX d 0 605 ls (zI y :: zI x :: st) A K = zX d 0 606 ls (zI (zw (x + y)) :: st) A K := zx_iadd z0 dL_law_605 rfl
theorem s0_606 (h : tg A a = 20) (h0 : 0 ≤ x) (h1 : x.toNat < (ia A a).length) : zX d 0 606 ls (zI x :: zO (some a) :: st) A K = zX d 0 607 ls (zI ((ia A a).getD x.toNat 0) :: st) A K := zx_iald z0 dL_law_606 rfl h h0 h1
theorem s0_606s (h : tg A a = 30) (h0 : 0 ≤ x) (h1 : x.toNat < (ia A a).length) : zX d 0 606 ls (zI x :: zO (some a) :: st) A K = zX d 0 607 ls (zI ((ia A a).getD x.toNat 0) :: st) A K := zx_sald z0 dL_law_606 rfl h h0 h1
theorem s0_607 : zX d 0 607 [zO o, v1, v2, v3] st A K = zX d 0 608 [zO o, v1, v2, v3] (zO o :: st) A K := zx_aload_n z0 dL_law_607 rfl rfl
theorem s0_608 : zX d 0 608 [v0, v1, v2, zI x] st A K = zX d 0 609 [v0, v1, v2, zI x] (zI x :: st) A K := zx_iload_n z0 dL_law_608 rfl rfl
theorem s0_609 : zX d 0 609 ls st A K = zX d 0 610 ls (zI 2 :: st) A K := zx_const z0 dL_law_609 (by decide) rfl
theorem s0_610 : zX d 0 610 ls (zI y :: zI x :: st) A K = zX d 0 611 ls (zI (zw (x + y)) :: st) A K := zx_iadd z0 dL_law_610 rfl
theorem s0_611 (h : tg A a = 20) (h0 : 0 ≤ x) (h1 : x.toNat < (ia A a).length) : zX d 0 611 ls (zI x :: zO (some a) :: st) A K = zX d 0 612 ls (zI ((ia A a).getD x.toNat 0) :: st) A K := zx_iald z0 dL_law_611 rfl h h0 h1
theorem s0_611s (h : tg A a = 30) (h0 : 0 ≤ x) (h1 : x.toNat < (ia A a).length) : zX d 0 611 ls (zI x :: zO (some a) :: st) A K = zX d 0 612 ls (zI ((ia A a).getD x.toNat 0) :: st) A K := zx_sald z0 dL_law_611 rfl h h0 h1
theorem s0_612 : zX d 0 612 [zO o, v1, v2, v3] st A K = zX d 0 613 [zO o, v1, v2, v3] (zO o :: st) A K := zx_aload_n z0 dL_law_612 rfl rfl
theorem s0_613 : zX d 0 613 [v0, v1, v2, zI x] st A K = zX d 0 614 [v0, v1, v2, zI x] (zI x :: st) A K := zx_iload_n z0 dL_law_613 rfl rfl
theorem s0_614 : zX d 0 614 ls st A K = zX d 0 615 ls (zI 3 :: st) A K := zx_const z0 dL_law_614 (by decide) rfl
theorem s0_615 : zX d 0 615 ls (zI y :: zI x :: st) A K = zX d 0 616 ls (zI (zw (x + y)) :: st) A K := zx_iadd z0 dL_law_615 rfl
theorem s0_616 (h : tg A a = 20) (h0 : 0 ≤ x) (h1 : x.toNat < (ia A a).length) : zX d 0 616 ls (zI x :: zO (some a) :: st) A K = zX d 0 617 ls (zI ((ia A a).getD x.toNat 0) :: st) A K := zx_iald z0 dL_law_616 rfl h h0 h1
theorem s0_616s (h : tg A a = 30) (h0 : 0 ≤ x) (h1 : x.toNat < (ia A a).length) : zX d 0 616 ls (zI x :: zO (some a) :: st) A K = zX d 0 617 ls (zI ((ia A a).getD x.toNat 0) :: st) A K := zx_sald z0 dL_law_616 rfl h h0 h1
theorem s0_617 (h : tg A a = 9)  : zX (d + 1) 0 617 ls (zI i2 :: zI i1 :: zI i0 :: zO (some a) :: [w0]) A K = zX d 171 0 [zO (some a), zI i0, zI i1, zI i2] [] A (zK (d + 1) 0 617 620 ls [w0] K) := zx_callV (t := 9) z0 zo0 dL_law_617 rfl C1_84 rfl rfl zm171 rfl rfl (zwt_le (Nat.le_of_ble_eq_true rfl)) rfl h
theorem s0_620 : zX d 0 620 ls (zI y :: zI x :: st) A K = (if x = y then zX d 0 1401 ls st A K else zX d 0 623 ls st A K) := zx_ic_eq z0 dL_law_620 rfl rfl
theorem s0_623 : zX d 0 623 ls st A K = zX d 0 624 ls (zI 0 :: st) A K := zx_const z0 dL_law_623 (by decide) rfl
theorem s0_624 (h : x = 0 ∨ x = 1) : zX d 0 624 ls [zI x] A K = K (Sum.inl (some (zI x))) A := zx_iret z0 dL_law_624 zk0 (by rcases h with q | q <;> subst q <;> rfl)
theorem s0_625 : zX d 0 625 [v0, zO o, v2, v3] st A K = zX d 0 626 [v0, zO o, v2, v3] (zO o :: st) A K := zx_aload_n z0 dL_law_625 rfl rfl
theorem s0_626 (h : tg A a = 1)  : zX (d + 1) 0 626 ls (zO (some a) :: []) A K = zX d 35 0 [zO (some a)] [] A (zK (d + 1) 0 626 629 ls [] K) := zx_callV (t := 1) z0 zo0 dL_law_626 rfl C1_85 rfl rfl zm35 rfl rfl (zwt_le (Nat.le_of_ble_eq_true rfl)) rfl h
theorem s0_629 : zX d 0 629 [v0, v1, zO o, v3] st A K = zX d 0 630 [v0, v1, zO o, v3] (zO o :: st) A K := zx_aload_n z0 dL_law_629 rfl rfl
theorem s0_630 (h : tg A a = 9)  : zX (d + 1) 0 630 ls (zO (some a) :: [w0]) A K = zX d 174 0 [zO (some a)] [] A (zK (d + 1) 0 630 633 ls [w0] K) := zx_callV (t := 9) z0 zo0 dL_law_630 rfl C1_88 rfl rfl zm174 rfl rfl (zwt_le (Nat.le_of_ble_eq_true rfl)) rfl h
theorem s0_633 : zX d 0 633 ls (zI y :: zI x :: st) A K = (if x = y then zX d 0 1401 ls st A K else zX d 0 636 ls st A K) := zx_ic_eq z0 dL_law_633 rfl rfl
theorem s0_636 : zX d 0 636 ls st A K = zX d 0 637 ls (zI 0 :: st) A K := zx_const z0 dL_law_636 (by decide) rfl
theorem s0_637 (h : x = 0 ∨ x = 1) : zX d 0 637 ls [zI x] A K = K (Sum.inl (some (zI x))) A := zx_iret z0 dL_law_637 zk0 (by rcases h with q | q <;> subst q <;> rfl)
theorem s0_638 : zX d 0 638 [v0, zO o, v2, v3] st A K = zX d 0 639 [v0, zO o, v2, v3] (zO o :: st) A K := zx_aload_n z0 dL_law_638 rfl rfl
theorem s0_639 (h : tg A a = 1)  : zX (d + 1) 0 639 ls (zO (some a) :: []) A K = zX d 39 0 [zO (some a), zU, zU, zU] [] A (zK (d + 1) 0 639 642 ls [] K) := zx_callV (t := 1) z0 zo0 dL_law_639 rfl C1_89 rfl rfl zm39 rfl rfl (zwt_le (Nat.le_of_ble_eq_true rfl)) rfl h
theorem s0_642 : zX d 0 642 [v0, v1, zO o, v3] st A K = zX d 0 643 [v0, v1, zO o, v3] (zO o :: st) A K := zx_aload_n z0 dL_law_642 rfl rfl
theorem s0_643 (h : tg A a = 9)  : zX (d + 1) 0 643 ls (zO (some a) :: [w0]) A K = zX d 181 0 [zO (some a), zU, zU] [] A (zK (d + 1) 0 643 646 ls [w0] K) := zx_callV (t := 9) z0 zo0 dL_law_643 rfl C1_92 rfl rfl zm181 rfl rfl (zwt_le (Nat.le_of_ble_eq_true rfl)) rfl h
theorem s0_646 : zX d 0 646 ls (zI y :: zI x :: st) A K = (if x = y then zX d 0 1401 ls st A K else zX d 0 649 ls st A K) := zx_ic_eq z0 dL_law_646 rfl rfl
theorem s0_649 : zX d 0 649 ls st A K = zX d 0 650 ls (zI 0 :: st) A K := zx_const z0 dL_law_649 (by decide) rfl
theorem s0_650 (h : x = 0 ∨ x = 1) : zX d 0 650 ls [zI x] A K = K (Sum.inl (some (zI x))) A := zx_iret z0 dL_law_650 zk0 (by rcases h with q | q <;> subst q <;> rfl)
theorem s0_651 : zX d 0 651 [v0, zO o, v2, v3] st A K = zX d 0 652 [v0, zO o, v2, v3] (zO o :: st) A K := zx_aload_n z0 dL_law_651 rfl rfl
theorem s0_652 (h : tg A a = 1)  : zX (d + 1) 0 652 ls (zO (some a) :: []) A K = zX d 41 0 [zO (some a), zU, zU] [] A (zK (d + 1) 0 652 655 ls [] K) := zx_callV (t := 1) z0 zo0 dL_law_652 rfl C1_93 rfl rfl zm41 rfl rfl (zwt_le (Nat.le_of_ble_eq_true rfl)) rfl h
theorem s0_655 : zX d 0 655 [v0, v1, zO o, v3] st A K = zX d 0 656 [v0, v1, zO o, v3] (zO o :: st) A K := zx_aload_n z0 dL_law_655 rfl rfl
theorem s0_656 (h : tg A a = 9)  : zX (d + 1) 0 656 ls (zO (some a) :: [w0]) A K = zX d 182 0 [zO (some a), zU, zU] [] A (zK (d + 1) 0 656 659 ls [w0] K) := zx_callV (t := 9) z0 zo0 dL_law_656 rfl C1_96 rfl rfl zm182 rfl rfl (zwt_le (Nat.le_of_ble_eq_true rfl)) rfl h
theorem s0_659 : zX d 0 659 ls (zI y :: zI x :: st) A K = (if x = y then zX d 0 1401 ls st A K else zX d 0 662 ls st A K) := zx_ic_eq z0 dL_law_659 rfl rfl
theorem s0_662 : zX d 0 662 ls st A K = zX d 0 663 ls (zI 0 :: st) A K := zx_const z0 dL_law_662 (by decide) rfl
theorem s0_663 (h : x = 0 ∨ x = 1) : zX d 0 663 ls [zI x] A K = K (Sum.inl (some (zI x))) A := zx_iret z0 dL_law_663 zk0 (by rcases h with q | q <;> subst q <;> rfl)
theorem s0_664 : zX d 0 664 [v0, zO o, v2, v3] st A K = zX d 0 665 [v0, zO o, v2, v3] (zO o :: st) A K := zx_aload_n z0 dL_law_664 rfl rfl
theorem s0_665 : zX d 0 665 [zO o, v1, v2, v3] st A K = zX d 0 666 [zO o, v1, v2, v3] (zO o :: st) A K := zx_aload_n z0 dL_law_665 rfl rfl
theorem s0_666 : zX d 0 666 [v0, v1, v2, zI x] st A K = zX d 0 667 [v0, v1, v2, zI x] (zI x :: st) A K := zx_iload_n z0 dL_law_666 rfl rfl
theorem s0_667 : zX d 0 667 ls st A K = zX d 0 668 ls (zI 1 :: st) A K := zx_const z0 dL_law_667 (by decide) rfl
theorem s0_668 : zX d 0 668 ls (zI y :: zI x :: st) A K = zX d 0 669 ls (zI (zw (x + y)) :: st) A K := zx_iadd z0 dL_law_668 rfl
theorem s0_669 (h : tg A a = 20) (h0 : 0 ≤ x) (h1 : x.toNat < (ia A a).length) : zX d 0 669 ls (zI x :: zO (some a) :: st) A K = zX d 0 670 ls (zI ((ia A a).getD x.toNat 0) :: st) A K := zx_iald z0 dL_law_669 rfl h h0 h1
theorem s0_669s (h : tg A a = 30) (h0 : 0 ≤ x) (h1 : x.toNat < (ia A a).length) : zX d 0 669 ls (zI x :: zO (some a) :: st) A K = zX d 0 670 ls (zI ((ia A a).getD x.toNat 0) :: st) A K := zx_sald z0 dL_law_669 rfl h h0 h1
theorem s0_670 (h : tg A a = 1)  : zX (d + 1) 0 670 ls (zI i0 :: zO (some a) :: []) A K = zX d 42 0 [zO (some a), zI i0] [] A (zK (d + 1) 0 670 673 ls [] K) := zx_callV (t := 1) z0 zo0 dL_law_670 rfl C1_97 rfl rfl zm42 rfl rfl (zwt_le (Nat.le_of_ble_eq_true rfl)) rfl h
theorem s0_673 : zX d 0 673 [v0, v1, zO o, v3] st A K = zX d 0 674 [v0, v1, zO o, v3] (zO o :: st) A K := zx_aload_n z0 dL_law_673 rfl rfl
theorem s0_674 : zX d 0 674 [zO o, v1, v2, v3] st A K = zX d 0 675 [zO o, v1, v2, v3] (zO o :: st) A K := zx_aload_n z0 dL_law_674 rfl rfl
theorem s0_675 : zX d 0 675 [v0, v1, v2, zI x] st A K = zX d 0 676 [v0, v1, v2, zI x] (zI x :: st) A K := zx_iload_n z0 dL_law_675 rfl rfl
theorem s0_676 : zX d 0 676 ls st A K = zX d 0 677 ls (zI 1 :: st) A K := zx_const z0 dL_law_676 (by decide) rfl
theorem s0_677 : zX d 0 677 ls (zI y :: zI x :: st) A K = zX d 0 678 ls (zI (zw (x + y)) :: st) A K := zx_iadd z0 dL_law_677 rfl
theorem s0_678 (h : tg A a = 20) (h0 : 0 ≤ x) (h1 : x.toNat < (ia A a).length) : zX d 0 678 ls (zI x :: zO (some a) :: st) A K = zX d 0 679 ls (zI ((ia A a).getD x.toNat 0) :: st) A K := zx_iald z0 dL_law_678 rfl h h0 h1
theorem s0_678s (h : tg A a = 30) (h0 : 0 ≤ x) (h1 : x.toNat < (ia A a).length) : zX d 0 678 ls (zI x :: zO (some a) :: st) A K = zX d 0 679 ls (zI ((ia A a).getD x.toNat 0) :: st) A K := zx_sald z0 dL_law_678 rfl h h0 h1
theorem s0_679 (h : tg A a = 9)  : zX (d + 1) 0 679 ls (zI i0 :: zO (some a) :: [w0]) A K = zX d 183 0 [zO (some a), zI i0] [] A (zK (d + 1) 0 679 682 ls [w0] K) := zx_callV (t := 9) z0 zo0 dL_law_679 rfl C1_100 rfl rfl zm183 rfl rfl (zwt_le (Nat.le_of_ble_eq_true rfl)) rfl h
theorem s0_682 : zX d 0 682 ls (zI y :: zI x :: st) A K = (if x = y then zX d 0 1401 ls st A K else zX d 0 685 ls st A K) := zx_ic_eq z0 dL_law_682 rfl rfl
theorem s0_685 : zX d 0 685 ls st A K = zX d 0 686 ls (zI 0 :: st) A K := zx_const z0 dL_law_685 (by decide) rfl
theorem s0_686 (h : x = 0 ∨ x = 1) : zX d 0 686 ls [zI x] A K = K (Sum.inl (some (zI x))) A := zx_iret z0 dL_law_686 zk0 (by rcases h with q | q <;> subst q <;> rfl)
theorem s0_687 : zX d 0 687 [v0, zO o, v2, v3] st A K = zX d 0 688 [v0, zO o, v2, v3] (zO o :: st) A K := zx_aload_n z0 dL_law_687 rfl rfl
theorem s0_688 (h : tg A a = 1)  : zX (d + 1) 0 688 ls (zO (some a) :: []) A K = zX d 47 0 [zO (some a)] [] A (zK (d + 1) 0 688 691 ls [] K) := zx_callV (t := 1) z0 zo0 dL_law_688 rfl C1_101 rfl rfl zm47 rfl rfl (zwt_le (Nat.le_of_ble_eq_true rfl)) rfl h
theorem s0_691 : zX d 0 691 [v0, v1, zO o, v3] st A K = zX d 0 692 [v0, v1, zO o, v3] (zO o :: st) A K := zx_aload_n z0 dL_law_691 rfl rfl
theorem s0_692 (h : tg A a = 9)  : zX (d + 1) 0 692 ls (zO (some a) :: [w0]) A K = zX d 186 0 [zO (some a)] [] A (zK (d + 1) 0 692 695 ls [w0] K) := zx_callV (t := 9) z0 zo0 dL_law_692 rfl C1_104 rfl rfl zm186 rfl rfl (zwt_le (Nat.le_of_ble_eq_true rfl)) rfl h
theorem s0_695 : zX d 0 695 ls (zI y :: zI x :: st) A K = (if x = y then zX d 0 1401 ls st A K else zX d 0 698 ls st A K) := zx_ic_eq z0 dL_law_695 rfl rfl
theorem s0_698 : zX d 0 698 ls st A K = zX d 0 699 ls (zI 0 :: st) A K := zx_const z0 dL_law_698 (by decide) rfl
theorem s0_699 (h : x = 0 ∨ x = 1) : zX d 0 699 ls [zI x] A K = K (Sum.inl (some (zI x))) A := zx_iret z0 dL_law_699 zk0 (by rcases h with q | q <;> subst q <;> rfl)
theorem s0_700 : zX d 0 700 [v0, zO o, v2, v3] st A K = zX d 0 701 [v0, zO o, v2, v3] (zO o :: st) A K := zx_aload_n z0 dL_law_700 rfl rfl
theorem s0_701 (h : tg A a = 1)  : zX (d + 1) 0 701 ls (zO (some a) :: []) A K = zX d 50 0 [zO (some a), zU, zU] [] A (zK (d + 1) 0 701 704 ls [] K) := zx_callV (t := 1) z0 zo0 dL_law_701 rfl C1_105 rfl rfl zm50 rfl rfl (zwt_le (Nat.le_of_ble_eq_true rfl)) rfl h
theorem s0_704 : zX d 0 704 [v0, v1, zO o, v3] st A K = zX d 0 705 [v0, v1, zO o, v3] (zO o :: st) A K := zx_aload_n z0 dL_law_704 rfl rfl
theorem s0_705 (h : tg A a = 9)  : zX (d + 1) 0 705 ls (zO (some a) :: [w0]) A K = zX d 188 0 [zO (some a), zU, zU, zU] [] A (zK (d + 1) 0 705 708 ls [w0] K) := zx_callV (t := 9) z0 zo0 dL_law_705 rfl C1_108 rfl rfl zm188 rfl rfl (zwt_le (Nat.le_of_ble_eq_true rfl)) rfl h
theorem s0_708 : zX d 0 708 ls (zI y :: zI x :: st) A K = (if x = y then zX d 0 1401 ls st A K else zX d 0 711 ls st A K) := zx_ic_eq z0 dL_law_708 rfl rfl
theorem s0_711 : zX d 0 711 ls st A K = zX d 0 712 ls (zI 0 :: st) A K := zx_const z0 dL_law_711 (by decide) rfl
theorem s0_712 (h : x = 0 ∨ x = 1) : zX d 0 712 ls [zI x] A K = K (Sum.inl (some (zI x))) A := zx_iret z0 dL_law_712 zk0 (by rcases h with q | q <;> subst q <;> rfl)
theorem s0_713 : zX d 0 713 [v0, zO o, v2, v3] st A K = zX d 0 714 [v0, zO o, v2, v3] (zO o :: st) A K := zx_aload_n z0 dL_law_713 rfl rfl
theorem s0_714 (h : tg A a = 1)  : zX (d + 1) 0 714 ls (zO (some a) :: []) A K = zX d 51 0 [zO (some a)] [] A (zK (d + 1) 0 714 717 ls [] K) := zx_callV (t := 1) z0 zo0 dL_law_714 rfl C1_109 rfl rfl zm51 rfl rfl (zwt_le (Nat.le_of_ble_eq_true rfl)) rfl h
theorem s0_717 : zX d 0 717 [v0, v1, zO o, v3] st A K = zX d 0 718 [v0, v1, zO o, v3] (zO o :: st) A K := zx_aload_n z0 dL_law_717 rfl rfl
theorem s0_718 (h : tg A a = 9)  : zX (d + 1) 0 718 ls (zO (some a) :: [w0]) A K = zX d 189 0 [zO (some a), zU] [] A (zK (d + 1) 0 718 721 ls [w0] K) := zx_callV (t := 9) z0 zo0 dL_law_718 rfl C1_112 rfl rfl zm189 rfl rfl (zwt_le (Nat.le_of_ble_eq_true rfl)) rfl h
theorem s0_721 : zX d 0 721 ls (zI y :: zI x :: st) A K = (if x = y then zX d 0 1401 ls st A K else zX d 0 724 ls st A K) := zx_ic_eq z0 dL_law_721 rfl rfl
theorem s0_724 : zX d 0 724 ls st A K = zX d 0 725 ls (zI 0 :: st) A K := zx_const z0 dL_law_724 (by decide) rfl
theorem s0_725 (h : x = 0 ∨ x = 1) : zX d 0 725 ls [zI x] A K = K (Sum.inl (some (zI x))) A := zx_iret z0 dL_law_725 zk0 (by rcases h with q | q <;> subst q <;> rfl)
theorem s0_726 : zX d 0 726 [v0, zO o, v2, v3] st A K = zX d 0 727 [v0, zO o, v2, v3] (zO o :: st) A K := zx_aload_n z0 dL_law_726 rfl rfl
theorem s0_727 (h : tg A a = 1)  : zX (d + 1) 0 727 ls (zO (some a) :: []) A K = zX d 52 0 [zO (some a)] [] A (zK (d + 1) 0 727 730 ls [] K) := zx_callV (t := 1) z0 zo0 dL_law_727 rfl C1_113 rfl rfl zm52 rfl rfl (zwt_le (Nat.le_of_ble_eq_true rfl)) rfl h
theorem s0_730 : zX d 0 730 [v0, v1, zO o, v3] st A K = zX d 0 731 [v0, v1, zO o, v3] (zO o :: st) A K := zx_aload_n z0 dL_law_730 rfl rfl
theorem s0_731 (h : tg A a = 9)  : zX (d + 1) 0 731 ls (zO (some a) :: [w0]) A K = zX d 190 0 [zO (some a)] [] A (zK (d + 1) 0 731 734 ls [w0] K) := zx_callV (t := 9) z0 zo0 dL_law_731 rfl C1_116 rfl rfl zm190 rfl rfl (zwt_le (Nat.le_of_ble_eq_true rfl)) rfl h
theorem s0_734 : zX d 0 734 ls (zI y :: zI x :: st) A K = (if x = y then zX d 0 1401 ls st A K else zX d 0 737 ls st A K) := zx_ic_eq z0 dL_law_734 rfl rfl
theorem s0_737 : zX d 0 737 ls st A K = zX d 0 738 ls (zI 0 :: st) A K := zx_const z0 dL_law_737 (by decide) rfl
theorem s0_738 (h : x = 0 ∨ x = 1) : zX d 0 738 ls [zI x] A K = K (Sum.inl (some (zI x))) A := zx_iret z0 dL_law_738 zk0 (by rcases h with q | q <;> subst q <;> rfl)
theorem s0_739 : zX d 0 739 [v0, zO o, v2, v3] st A K = zX d 0 740 [v0, zO o, v2, v3] (zO o :: st) A K := zx_aload_n z0 dL_law_739 rfl rfl
theorem s0_740 : zX d 0 740 [zO o, v1, v2, v3] st A K = zX d 0 741 [zO o, v1, v2, v3] (zO o :: st) A K := zx_aload_n z0 dL_law_740 rfl rfl
theorem s0_741 : zX d 0 741 [v0, v1, v2, zI x] st A K = zX d 0 742 [v0, v1, v2, zI x] (zI x :: st) A K := zx_iload_n z0 dL_law_741 rfl rfl
theorem s0_742 : zX d 0 742 ls st A K = zX d 0 743 ls (zI 1 :: st) A K := zx_const z0 dL_law_742 (by decide) rfl
theorem s0_743 : zX d 0 743 ls (zI y :: zI x :: st) A K = zX d 0 744 ls (zI (zw (x + y)) :: st) A K := zx_iadd z0 dL_law_743 rfl
theorem s0_744 (h : tg A a = 20) (h0 : 0 ≤ x) (h1 : x.toNat < (ia A a).length) : zX d 0 744 ls (zI x :: zO (some a) :: st) A K = zX d 0 745 ls (zI ((ia A a).getD x.toNat 0) :: st) A K := zx_iald z0 dL_law_744 rfl h h0 h1
theorem s0_744s (h : tg A a = 30) (h0 : 0 ≤ x) (h1 : x.toNat < (ia A a).length) : zX d 0 744 ls (zI x :: zO (some a) :: st) A K = zX d 0 745 ls (zI ((ia A a).getD x.toNat 0) :: st) A K := zx_sald z0 dL_law_744 rfl h h0 h1
theorem s0_745 (h : tg A a = 1)  : zX (d + 1) 0 745 ls (zI i0 :: zO (some a) :: []) A K = zX d 53 0 [zO (some a), zI i0, zU, zU, zU] [] A (zK (d + 1) 0 745 748 ls [] K) := zx_callV (t := 1) z0 zo0 dL_law_745 rfl C1_117 rfl rfl zm53 rfl rfl (zwt_le (Nat.le_of_ble_eq_true rfl)) rfl h
theorem s0_748 : zX d 0 748 [v0, v1, zO o, v3] st A K = zX d 0 749 [v0, v1, zO o, v3] (zO o :: st) A K := zx_aload_n z0 dL_law_748 rfl rfl
theorem s0_749 : zX d 0 749 [zO o, v1, v2, v3] st A K = zX d 0 750 [zO o, v1, v2, v3] (zO o :: st) A K := zx_aload_n z0 dL_law_749 rfl rfl
theorem s0_750 : zX d 0 750 [v0, v1, v2, zI x] st A K = zX d 0 751 [v0, v1, v2, zI x] (zI x :: st) A K := zx_iload_n z0 dL_law_750 rfl rfl
theorem s0_751 : zX d 0 751 ls st A K = zX d 0 752 ls (zI 1 :: st) A K := zx_const z0 dL_law_751 (by decide) rfl
theorem s0_752 : zX d 0 752 ls (zI y :: zI x :: st) A K = zX d 0 753 ls (zI (zw (x + y)) :: st) A K := zx_iadd z0 dL_law_752 rfl
theorem s0_753 (h : tg A a = 20) (h0 : 0 ≤ x) (h1 : x.toNat < (ia A a).length) : zX d 0 753 ls (zI x :: zO (some a) :: st) A K = zX d 0 754 ls (zI ((ia A a).getD x.toNat 0) :: st) A K := zx_iald z0 dL_law_753 rfl h h0 h1
theorem s0_753s (h : tg A a = 30) (h0 : 0 ≤ x) (h1 : x.toNat < (ia A a).length) : zX d 0 753 ls (zI x :: zO (some a) :: st) A K = zX d 0 754 ls (zI ((ia A a).getD x.toNat 0) :: st) A K := zx_sald z0 dL_law_753 rfl h h0 h1
theorem s0_754 (h : tg A a = 9)  : zX (d + 1) 0 754 ls (zI i0 :: zO (some a) :: [w0]) A K = zX d 191 0 [zO (some a), zI i0, zU] [] A (zK (d + 1) 0 754 757 ls [w0] K) := zx_callV (t := 9) z0 zo0 dL_law_754 rfl C1_120 rfl rfl zm191 rfl rfl (zwt_le (Nat.le_of_ble_eq_true rfl)) rfl h
theorem s0_757 : zX d 0 757 ls (zI y :: zI x :: st) A K = (if x = y then zX d 0 1401 ls st A K else zX d 0 760 ls st A K) := zx_ic_eq z0 dL_law_757 rfl rfl
theorem s0_760 : zX d 0 760 ls st A K = zX d 0 761 ls (zI 0 :: st) A K := zx_const z0 dL_law_760 (by decide) rfl
theorem s0_761 (h : x = 0 ∨ x = 1) : zX d 0 761 ls [zI x] A K = K (Sum.inl (some (zI x))) A := zx_iret z0 dL_law_761 zk0 (by rcases h with q | q <;> subst q <;> rfl)
theorem s0_762 : zX d 0 762 [v0, zO o, v2, v3] st A K = zX d 0 763 [v0, zO o, v2, v3] (zO o :: st) A K := zx_aload_n z0 dL_law_762 rfl rfl
theorem s0_763 : zX d 0 763 [zO o, v1, v2, v3] st A K = zX d 0 764 [zO o, v1, v2, v3] (zO o :: st) A K := zx_aload_n z0 dL_law_763 rfl rfl
theorem s0_764 : zX d 0 764 [v0, v1, v2, zI x] st A K = zX d 0 765 [v0, v1, v2, zI x] (zI x :: st) A K := zx_iload_n z0 dL_law_764 rfl rfl
theorem s0_765 : zX d 0 765 ls st A K = zX d 0 766 ls (zI 1 :: st) A K := zx_const z0 dL_law_765 (by decide) rfl
theorem s0_766 : zX d 0 766 ls (zI y :: zI x :: st) A K = zX d 0 767 ls (zI (zw (x + y)) :: st) A K := zx_iadd z0 dL_law_766 rfl
theorem s0_767 (h : tg A a = 20) (h0 : 0 ≤ x) (h1 : x.toNat < (ia A a).length) : zX d 0 767 ls (zI x :: zO (some a) :: st) A K = zX d 0 768 ls (zI ((ia A a).getD x.toNat 0) :: st) A K := zx_iald z0 dL_law_767 rfl h h0 h1
theorem s0_767s (h : tg A a = 30) (h0 : 0 ≤ x) (h1 : x.toNat < (ia A a).length) : zX d 0 767 ls (zI x :: zO (some a) :: st) A K = zX d 0 768 ls (zI ((ia A a).getD x.toNat 0) :: st) A K := zx_sald z0 dL_law_767 rfl h h0 h1
theorem s0_768 (h : tg A a = 1)  : zX (d + 1) 0 768 ls (zI i0 :: zO (some a) :: []) A K = zX d 56 0 [zO (some a), zI i0] [] A (zK (d + 1) 0 768 771 ls [] K) := zx_callV (t := 1) z0 zo0 dL_law_768 rfl C1_121 rfl rfl zm56 rfl rfl (zwt_le (Nat.le_of_ble_eq_true rfl)) rfl h
theorem s0_771 : zX d 0 771 [v0, v1, zO o, v3] st A K = zX d 0 772 [v0, v1, zO o, v3] (zO o :: st) A K := zx_aload_n z0 dL_law_771 rfl rfl
theorem s0_772 : zX d 0 772 [zO o, v1, v2, v3] st A K = zX d 0 773 [zO o, v1, v2, v3] (zO o :: st) A K := zx_aload_n z0 dL_law_772 rfl rfl
theorem s0_773 : zX d 0 773 [v0, v1, v2, zI x] st A K = zX d 0 774 [v0, v1, v2, zI x] (zI x :: st) A K := zx_iload_n z0 dL_law_773 rfl rfl
theorem s0_774 : zX d 0 774 ls st A K = zX d 0 775 ls (zI 1 :: st) A K := zx_const z0 dL_law_774 (by decide) rfl
theorem s0_775 : zX d 0 775 ls (zI y :: zI x :: st) A K = zX d 0 776 ls (zI (zw (x + y)) :: st) A K := zx_iadd z0 dL_law_775 rfl
theorem s0_776 (h : tg A a = 20) (h0 : 0 ≤ x) (h1 : x.toNat < (ia A a).length) : zX d 0 776 ls (zI x :: zO (some a) :: st) A K = zX d 0 777 ls (zI ((ia A a).getD x.toNat 0) :: st) A K := zx_iald z0 dL_law_776 rfl h h0 h1
theorem s0_776s (h : tg A a = 30) (h0 : 0 ≤ x) (h1 : x.toNat < (ia A a).length) : zX d 0 776 ls (zI x :: zO (some a) :: st) A K = zX d 0 777 ls (zI ((ia A a).getD x.toNat 0) :: st) A K := zx_sald z0 dL_law_776 rfl h h0 h1
theorem s0_777 (h : tg A a = 9)  : zX (d + 1) 0 777 ls (zI i0 :: zO (some a) :: [w0]) A K = zX d 193 0 [zO (some a), zI i0] [] A (zK (d + 1) 0 777 780 ls [w0] K) := zx_callV (t := 9) z0 zo0 dL_law_777 rfl C1_124 rfl rfl zm193 rfl rfl (zwt_le (Nat.le_of_ble_eq_true rfl)) rfl h
theorem s0_780 : zX d 0 780 ls (zI y :: zI x :: st) A K = (if x = y then zX d 0 1401 ls st A K else zX d 0 783 ls st A K) := zx_ic_eq z0 dL_law_780 rfl rfl
theorem s0_783 : zX d 0 783 ls st A K = zX d 0 784 ls (zI 0 :: st) A K := zx_const z0 dL_law_783 (by decide) rfl
theorem s0_784 (h : x = 0 ∨ x = 1) : zX d 0 784 ls [zI x] A K = K (Sum.inl (some (zI x))) A := zx_iret z0 dL_law_784 zk0 (by rcases h with q | q <;> subst q <;> rfl)
theorem s0_785 : zX d 0 785 [v0, zO o, v2, v3] st A K = zX d 0 786 [v0, zO o, v2, v3] (zO o :: st) A K := zx_aload_n z0 dL_law_785 rfl rfl
theorem s0_786 : zX d 0 786 [zO o, v1, v2, v3] st A K = zX d 0 787 [zO o, v1, v2, v3] (zO o :: st) A K := zx_aload_n z0 dL_law_786 rfl rfl
theorem s0_787 : zX d 0 787 [v0, v1, v2, zI x] st A K = zX d 0 788 [v0, v1, v2, zI x] (zI x :: st) A K := zx_iload_n z0 dL_law_787 rfl rfl
theorem s0_788 : zX d 0 788 ls st A K = zX d 0 789 ls (zI 1 :: st) A K := zx_const z0 dL_law_788 (by decide) rfl
theorem s0_789 : zX d 0 789 ls (zI y :: zI x :: st) A K = zX d 0 790 ls (zI (zw (x + y)) :: st) A K := zx_iadd z0 dL_law_789 rfl
theorem s0_790 (h : tg A a = 20) (h0 : 0 ≤ x) (h1 : x.toNat < (ia A a).length) : zX d 0 790 ls (zI x :: zO (some a) :: st) A K = zX d 0 791 ls (zI ((ia A a).getD x.toNat 0) :: st) A K := zx_iald z0 dL_law_790 rfl h h0 h1
theorem s0_790s (h : tg A a = 30) (h0 : 0 ≤ x) (h1 : x.toNat < (ia A a).length) : zX d 0 790 ls (zI x :: zO (some a) :: st) A K = zX d 0 791 ls (zI ((ia A a).getD x.toNat 0) :: st) A K := zx_sald z0 dL_law_790 rfl h h0 h1
theorem s0_791 (h : tg A a = 1)  : zX (d + 1) 0 791 ls (zI i0 :: zO (some a) :: []) A K = zX d 57 0 [zO (some a), zI i0] [] A (zK (d + 1) 0 791 794 ls [] K) := zx_callV (t := 1) z0 zo0 dL_law_791 rfl C1_125 rfl rfl zm57 rfl rfl (zwt_le (Nat.le_of_ble_eq_true rfl)) rfl h
theorem s0_794 : zX d 0 794 [v0, v1, zO o, v3] st A K = zX d 0 795 [v0, v1, zO o, v3] (zO o :: st) A K := zx_aload_n z0 dL_law_794 rfl rfl
theorem s0_795 : zX d 0 795 [zO o, v1, v2, v3] st A K = zX d 0 796 [zO o, v1, v2, v3] (zO o :: st) A K := zx_aload_n z0 dL_law_795 rfl rfl
theorem s0_796 : zX d 0 796 [v0, v1, v2, zI x] st A K = zX d 0 797 [v0, v1, v2, zI x] (zI x :: st) A K := zx_iload_n z0 dL_law_796 rfl rfl
theorem s0_797 : zX d 0 797 ls st A K = zX d 0 798 ls (zI 1 :: st) A K := zx_const z0 dL_law_797 (by decide) rfl
theorem s0_798 : zX d 0 798 ls (zI y :: zI x :: st) A K = zX d 0 799 ls (zI (zw (x + y)) :: st) A K := zx_iadd z0 dL_law_798 rfl
theorem s0_799 (h : tg A a = 20) (h0 : 0 ≤ x) (h1 : x.toNat < (ia A a).length) : zX d 0 799 ls (zI x :: zO (some a) :: st) A K = zX d 0 800 ls (zI ((ia A a).getD x.toNat 0) :: st) A K := zx_iald z0 dL_law_799 rfl h h0 h1
theorem s0_799s (h : tg A a = 30) (h0 : 0 ≤ x) (h1 : x.toNat < (ia A a).length) : zX d 0 799 ls (zI x :: zO (some a) :: st) A K = zX d 0 800 ls (zI ((ia A a).getD x.toNat 0) :: st) A K := zx_sald z0 dL_law_799 rfl h h0 h1
theorem s0_800 (h : tg A a = 9)  : zX (d + 1) 0 800 ls (zI i0 :: zO (some a) :: [w0]) A K = zX d 194 0 [zO (some a), zI i0, zU] [] A (zK (d + 1) 0 800 803 ls [w0] K) := zx_callV (t := 9) z0 zo0 dL_law_800 rfl C1_128 rfl rfl zm194 rfl rfl (zwt_le (Nat.le_of_ble_eq_true rfl)) rfl h
theorem s0_803 : zX d 0 803 ls (zI y :: zI x :: st) A K = (if x = y then zX d 0 1401 ls st A K else zX d 0 806 ls st A K) := zx_ic_eq z0 dL_law_803 rfl rfl
theorem s0_806 : zX d 0 806 ls st A K = zX d 0 807 ls (zI 0 :: st) A K := zx_const z0 dL_law_806 (by decide) rfl
theorem s0_807 (h : x = 0 ∨ x = 1) : zX d 0 807 ls [zI x] A K = K (Sum.inl (some (zI x))) A := zx_iret z0 dL_law_807 zk0 (by rcases h with q | q <;> subst q <;> rfl)
theorem s0_808 : zX d 0 808 [v0, zO o, v2, v3] st A K = zX d 0 809 [v0, zO o, v2, v3] (zO o :: st) A K := zx_aload_n z0 dL_law_808 rfl rfl
theorem s0_809 : zX d 0 809 [zO o, v1, v2, v3] st A K = zX d 0 810 [zO o, v1, v2, v3] (zO o :: st) A K := zx_aload_n z0 dL_law_809 rfl rfl
theorem s0_810 : zX d 0 810 [v0, v1, v2, zI x] st A K = zX d 0 811 [v0, v1, v2, zI x] (zI x :: st) A K := zx_iload_n z0 dL_law_810 rfl rfl
theorem s0_811 : zX d 0 811 ls st A K = zX d 0 812 ls (zI 1 :: st) A K := zx_const z0 dL_law_811 (by decide) rfl
theorem s0_812 : zX d 0 812 ls (zI y :: zI x :: st) A K = zX d 0 813 ls (zI (zw (x + y)) :: st) A K := zx_iadd z0 dL_law_812 rfl
theorem s0_813 (h : tg A a = 20) (h0 : 0 ≤ x) (h1 : x.toNat < (ia A a).length) : zX d 0 813 ls (zI x :: zO (some a) :: st) A K = zX d 0 814 ls (zI ((ia A a).getD x.toNat 0) :: st) A K := zx_iald z0 dL_law_813 rfl h h0 h1
theorem s0_813s (h : tg A a = 30) (h0 : 0 ≤ x) (h1 : x.toNat < (ia A a).length) : zX d 0 813 ls (zI x :: zO (some a) :: st) A K = zX d 0 814 ls (zI ((ia A a).getD x.toNat 0) :: st) A K := zx_sald z0 dL_law_813 rfl h h0 h1
theorem s0_814 : zX d 0 814 [zO o, v1, v2, v3] st A K = zX d 0 815 [zO o, v1, v2, v3] (zO o :: st) A K := zx_aload_n z0 dL_law_814 rfl rfl
theorem s0_815 : zX d 0 815 [v0, v1, v2, zI x] st A K = zX d 0 816 [v0, v1, v2, zI x] (zI x :: st) A K := zx_iload_n z0 dL_law_815 rfl rfl
theorem s0_816 : zX d 0 816 ls st A K = zX d 0 817 ls (zI 2 :: st) A K := zx_const z0 dL_law_816 (by decide) rfl
theorem s0_817 : zX d 0 817 ls (zI y :: zI x :: st) A K = zX d 0 818 ls (zI (zw (x + y)) :: st) A K := zx_iadd z0 dL_law_817 rfl
theorem s0_818 (h : tg A a = 20) (h0 : 0 ≤ x) (h1 : x.toNat < (ia A a).length) : zX d 0 818 ls (zI x :: zO (some a) :: st) A K = zX d 0 819 ls (zI ((ia A a).getD x.toNat 0) :: st) A K := zx_iald z0 dL_law_818 rfl h h0 h1
theorem s0_818s (h : tg A a = 30) (h0 : 0 ≤ x) (h1 : x.toNat < (ia A a).length) : zX d 0 818 ls (zI x :: zO (some a) :: st) A K = zX d 0 819 ls (zI ((ia A a).getD x.toNat 0) :: st) A K := zx_sald z0 dL_law_818 rfl h h0 h1
theorem s0_819 (h : tg A a = 1)  : zX (d + 1) 0 819 ls (zI i1 :: zI i0 :: zO (some a) :: []) A K = zX d 59 0 [zO (some a), zI i0, zI i1, zU] [] A (zK (d + 1) 0 819 822 ls [] K) := zx_callV (t := 1) z0 zo0 dL_law_819 rfl C1_129 rfl rfl zm59 rfl rfl (zwt_le (Nat.le_of_ble_eq_true rfl)) rfl h
theorem s0_822 : zX d 0 822 [v0, v1, zO o, v3] st A K = zX d 0 823 [v0, v1, zO o, v3] (zO o :: st) A K := zx_aload_n z0 dL_law_822 rfl rfl
theorem s0_823 : zX d 0 823 [zO o, v1, v2, v3] st A K = zX d 0 824 [zO o, v1, v2, v3] (zO o :: st) A K := zx_aload_n z0 dL_law_823 rfl rfl
theorem s0_824 : zX d 0 824 [v0, v1, v2, zI x] st A K = zX d 0 825 [v0, v1, v2, zI x] (zI x :: st) A K := zx_iload_n z0 dL_law_824 rfl rfl
theorem s0_825 : zX d 0 825 ls st A K = zX d 0 826 ls (zI 1 :: st) A K := zx_const z0 dL_law_825 (by decide) rfl
theorem s0_826 : zX d 0 826 ls (zI y :: zI x :: st) A K = zX d 0 827 ls (zI (zw (x + y)) :: st) A K := zx_iadd z0 dL_law_826 rfl
theorem s0_827 (h : tg A a = 20) (h0 : 0 ≤ x) (h1 : x.toNat < (ia A a).length) : zX d 0 827 ls (zI x :: zO (some a) :: st) A K = zX d 0 828 ls (zI ((ia A a).getD x.toNat 0) :: st) A K := zx_iald z0 dL_law_827 rfl h h0 h1
theorem s0_827s (h : tg A a = 30) (h0 : 0 ≤ x) (h1 : x.toNat < (ia A a).length) : zX d 0 827 ls (zI x :: zO (some a) :: st) A K = zX d 0 828 ls (zI ((ia A a).getD x.toNat 0) :: st) A K := zx_sald z0 dL_law_827 rfl h h0 h1
theorem s0_828 : zX d 0 828 [zO o, v1, v2, v3] st A K = zX d 0 829 [zO o, v1, v2, v3] (zO o :: st) A K := zx_aload_n z0 dL_law_828 rfl rfl
theorem s0_829 : zX d 0 829 [v0, v1, v2, zI x] st A K = zX d 0 830 [v0, v1, v2, zI x] (zI x :: st) A K := zx_iload_n z0 dL_law_829 rfl rfl
theorem s0_830 : zX d 0 830 ls st A K = zX d 0 831 ls (zI 2 :: st) A K := zx_const z0 dL_law_830 (by decide) rfl
theorem s0_831 : zX d 0 831 ls (zI y :: zI x :: st) A K = zX d 0 832 ls (zI (zw (x + y)) :: st) A K := zx_iadd z0 dL_law_831 rfl
theorem s0_832 (h : tg A a = 20) (h0 : 0 ≤ x) (h1 : x.toNat < (ia A a).length) : zX d 0 832 ls (zI x :: zO (some a) :: st) A K = zX d 0 833 ls (zI ((ia A a).getD x.toNat 0) :: st) A K := zx_iald z0 dL_law_832 rfl h h0 h1
theorem s0_832s (h : tg A a = 30) (h0 : 0 ≤ x) (h1 : x.toNat < (ia A a).length) : zX d 0 832 ls (zI x :: zO (some a) :: st) A K = zX d 0 833 ls (zI ((ia A a).getD x.toNat 0) :: st) A K := zx_sald z0 dL_law_832 rfl h h0 h1
theorem s0_833 (h : tg A a = 9)  : zX (d + 1) 0 833 ls (zI i1 :: zI i0 :: zO (some a) :: [w0]) A K = zX d 197 0 [zO (some a), zI i0, zI i1, zU] [] A (zK (d + 1) 0 833 836 ls [w0] K) := zx_callV (t := 9) z0 zo0 dL_law_833 rfl C1_132 rfl rfl zm197 rfl rfl (zwt_le (Nat.le_of_ble_eq_true rfl)) rfl h
theorem s0_836 : zX d 0 836 ls (zI y :: zI x :: st) A K = (if x = y then zX d 0 1401 ls st A K else zX d 0 839 ls st A K) := zx_ic_eq z0 dL_law_836 rfl rfl
theorem s0_839 : zX d 0 839 ls st A K = zX d 0 840 ls (zI 0 :: st) A K := zx_const z0 dL_law_839 (by decide) rfl
theorem s0_840 (h : x = 0 ∨ x = 1) : zX d 0 840 ls [zI x] A K = K (Sum.inl (some (zI x))) A := zx_iret z0 dL_law_840 zk0 (by rcases h with q | q <;> subst q <;> rfl)
theorem s0_841 : zX d 0 841 [v0, zO o, v2, v3] st A K = zX d 0 842 [v0, zO o, v2, v3] (zO o :: st) A K := zx_aload_n z0 dL_law_841 rfl rfl
theorem s0_842 : zX d 0 842 [zO o, v1, v2, v3] st A K = zX d 0 843 [zO o, v1, v2, v3] (zO o :: st) A K := zx_aload_n z0 dL_law_842 rfl rfl
theorem s0_843 : zX d 0 843 [v0, v1, v2, zI x] st A K = zX d 0 844 [v0, v1, v2, zI x] (zI x :: st) A K := zx_iload_n z0 dL_law_843 rfl rfl
theorem s0_844 : zX d 0 844 ls st A K = zX d 0 845 ls (zI 1 :: st) A K := zx_const z0 dL_law_844 (by decide) rfl
theorem s0_845 : zX d 0 845 ls (zI y :: zI x :: st) A K = zX d 0 846 ls (zI (zw (x + y)) :: st) A K := zx_iadd z0 dL_law_845 rfl
theorem s0_846 (h : tg A a = 20) (h0 : 0 ≤ x) (h1 : x.toNat < (ia A a).length) : zX d 0 846 ls (zI x :: zO (some a) :: st) A K = zX d 0 847 ls (zI ((ia A a).getD x.toNat 0) :: st) A K := zx_iald z0 dL_law_846 rfl h h0 h1
theorem s0_846s (h : tg A a = 30) (h0 : 0 ≤ x) (h1 : x.toNat < (ia A a).length) : zX d 0 846 ls (zI x :: zO (some a) :: st) A K = zX d 0 847 ls (zI ((ia A a).getD x.toNat 0) :: st) A K := zx_sald z0 dL_law_846 rfl h h0 h1
theorem s0_847 : zX d 0 847 [zO o, v1, v2, v3] st A K = zX d 0 848 [zO o, v1, v2, v3] (zO o :: st) A K := zx_aload_n z0 dL_law_847 rfl rfl
theorem s0_848 : zX d 0 848 [v0, v1, v2, zI x] st A K = zX d 0 849 [v0, v1, v2, zI x] (zI x :: st) A K := zx_iload_n z0 dL_law_848 rfl rfl
theorem s0_849 : zX d 0 849 ls st A K = zX d 0 850 ls (zI 2 :: st) A K := zx_const z0 dL_law_849 (by decide) rfl
theorem s0_850 : zX d 0 850 ls (zI y :: zI x :: st) A K = zX d 0 851 ls (zI (zw (x + y)) :: st) A K := zx_iadd z0 dL_law_850 rfl
theorem s0_851 (h : tg A a = 20) (h0 : 0 ≤ x) (h1 : x.toNat < (ia A a).length) : zX d 0 851 ls (zI x :: zO (some a) :: st) A K = zX d 0 852 ls (zI ((ia A a).getD x.toNat 0) :: st) A K := zx_iald z0 dL_law_851 rfl h h0 h1
theorem s0_851s (h : tg A a = 30) (h0 : 0 ≤ x) (h1 : x.toNat < (ia A a).length) : zX d 0 851 ls (zI x :: zO (some a) :: st) A K = zX d 0 852 ls (zI ((ia A a).getD x.toNat 0) :: st) A K := zx_sald z0 dL_law_851 rfl h h0 h1
theorem s0_852 (h : tg A a = 1)  : zX (d + 1) 0 852 ls (zI i1 :: zI i0 :: zO (some a) :: []) A K = zX d 60 0 [zO (some a), zI i0, zI i1, zU] [] A (zK (d + 1) 0 852 855 ls [] K) := zx_callV (t := 1) z0 zo0 dL_law_852 rfl C1_133 rfl rfl zm60 rfl rfl (zwt_le (Nat.le_of_ble_eq_true rfl)) rfl h
theorem s0_855 : zX d 0 855 [v0, v1, zO o, v3] st A K = zX d 0 856 [v0, v1, zO o, v3] (zO o :: st) A K := zx_aload_n z0 dL_law_855 rfl rfl
theorem s0_856 : zX d 0 856 [zO o, v1, v2, v3] st A K = zX d 0 857 [zO o, v1, v2, v3] (zO o :: st) A K := zx_aload_n z0 dL_law_856 rfl rfl
theorem s0_857 : zX d 0 857 [v0, v1, v2, zI x] st A K = zX d 0 858 [v0, v1, v2, zI x] (zI x :: st) A K := zx_iload_n z0 dL_law_857 rfl rfl
theorem s0_858 : zX d 0 858 ls st A K = zX d 0 859 ls (zI 1 :: st) A K := zx_const z0 dL_law_858 (by decide) rfl
theorem s0_859 : zX d 0 859 ls (zI y :: zI x :: st) A K = zX d 0 860 ls (zI (zw (x + y)) :: st) A K := zx_iadd z0 dL_law_859 rfl
theorem s0_860 (h : tg A a = 20) (h0 : 0 ≤ x) (h1 : x.toNat < (ia A a).length) : zX d 0 860 ls (zI x :: zO (some a) :: st) A K = zX d 0 861 ls (zI ((ia A a).getD x.toNat 0) :: st) A K := zx_iald z0 dL_law_860 rfl h h0 h1
theorem s0_860s (h : tg A a = 30) (h0 : 0 ≤ x) (h1 : x.toNat < (ia A a).length) : zX d 0 860 ls (zI x :: zO (some a) :: st) A K = zX d 0 861 ls (zI ((ia A a).getD x.toNat 0) :: st) A K := zx_sald z0 dL_law_860 rfl h h0 h1
theorem s0_861 : zX d 0 861 [zO o, v1, v2, v3] st A K = zX d 0 862 [zO o, v1, v2, v3] (zO o :: st) A K := zx_aload_n z0 dL_law_861 rfl rfl
theorem s0_862 : zX d 0 862 [v0, v1, v2, zI x] st A K = zX d 0 863 [v0, v1, v2, zI x] (zI x :: st) A K := zx_iload_n z0 dL_law_862 rfl rfl
theorem s0_863 : zX d 0 863 ls st A K = zX d 0 864 ls (zI 2 :: st) A K := zx_const z0 dL_law_863 (by decide) rfl
theorem s0_864 : zX d 0 864 ls (zI y :: zI x :: st) A K = zX d 0 865 ls (zI (zw (x + y)) :: st) A K := zx_iadd z0 dL_law_864 rfl
theorem s0_865 (h : tg A a = 20) (h0 : 0 ≤ x) (h1 : x.toNat < (ia A a).length) : zX d 0 865 ls (zI x :: zO (some a) :: st) A K = zX d 0 866 ls (zI ((ia A a).getD x.toNat 0) :: st) A K := zx_iald z0 dL_law_865 rfl h h0 h1
theorem s0_865s (h : tg A a = 30) (h0 : 0 ≤ x) (h1 : x.toNat < (ia A a).length) : zX d 0 865 ls (zI x :: zO (some a) :: st) A K = zX d 0 866 ls (zI ((ia A a).getD x.toNat 0) :: st) A K := zx_sald z0 dL_law_865 rfl h h0 h1
theorem s0_866 (h : tg A a = 9)  : zX (d + 1) 0 866 ls (zI i1 :: zI i0 :: zO (some a) :: [w0]) A K = zX d 198 0 [zO (some a), zI i0, zI i1, zU] [] A (zK (d + 1) 0 866 869 ls [w0] K) := zx_callV (t := 9) z0 zo0 dL_law_866 rfl C1_136 rfl rfl zm198 rfl rfl (zwt_le (Nat.le_of_ble_eq_true rfl)) rfl h
theorem s0_869 : zX d 0 869 ls (zI y :: zI x :: st) A K = (if x = y then zX d 0 1401 ls st A K else zX d 0 872 ls st A K) := zx_ic_eq z0 dL_law_869 rfl rfl
theorem s0_872 : zX d 0 872 ls st A K = zX d 0 873 ls (zI 0 :: st) A K := zx_const z0 dL_law_872 (by decide) rfl
theorem s0_873 (h : x = 0 ∨ x = 1) : zX d 0 873 ls [zI x] A K = K (Sum.inl (some (zI x))) A := zx_iret z0 dL_law_873 zk0 (by rcases h with q | q <;> subst q <;> rfl)
theorem s0_874 : zX d 0 874 [v0, zO o, v2, v3] st A K = zX d 0 875 [v0, zO o, v2, v3] (zO o :: st) A K := zx_aload_n z0 dL_law_874 rfl rfl
theorem s0_875 : zX d 0 875 [zO o, v1, v2, v3] st A K = zX d 0 876 [zO o, v1, v2, v3] (zO o :: st) A K := zx_aload_n z0 dL_law_875 rfl rfl
theorem s0_876 : zX d 0 876 [v0, v1, v2, zI x] st A K = zX d 0 877 [v0, v1, v2, zI x] (zI x :: st) A K := zx_iload_n z0 dL_law_876 rfl rfl
theorem s0_877 : zX d 0 877 ls st A K = zX d 0 878 ls (zI 1 :: st) A K := zx_const z0 dL_law_877 (by decide) rfl
theorem s0_878 : zX d 0 878 ls (zI y :: zI x :: st) A K = zX d 0 879 ls (zI (zw (x + y)) :: st) A K := zx_iadd z0 dL_law_878 rfl
theorem s0_879 (h : tg A a = 20) (h0 : 0 ≤ x) (h1 : x.toNat < (ia A a).length) : zX d 0 879 ls (zI x :: zO (some a) :: st) A K = zX d 0 880 ls (zI ((ia A a).getD x.toNat 0) :: st) A K := zx_iald z0 dL_law_879 rfl h h0 h1
theorem s0_879s (h : tg A a = 30) (h0 : 0 ≤ x) (h1 : x.toNat < (ia A a).length) : zX d 0 879 ls (zI x :: zO (some a) :: st) A K = zX d 0 880 ls (zI ((ia A a).getD x.toNat 0) :: st) A K := zx_sald z0 dL_law_879 rfl h h0 h1
theorem s0_880 : zX d 0 880 [zO o, v1, v2, v3] st A K = zX d 0 881 [zO o, v1, v2, v3] (zO o :: st) A K := zx_aload_n z0 dL_law_880 rfl rfl
theorem s0_881 : zX d 0 881 [v0, v1, v2, zI x] st A K = zX d 0 882 [v0, v1, v2, zI x] (zI x :: st) A K := zx_iload_n z0 dL_law_881 rfl rfl
theorem s0_882 : zX d 0 882 ls st A K = zX d 0 883 ls (zI 2 :: st) A K := zx_const z0 dL_law_882 (by decide) rfl
theorem s0_883 : zX d 0 883 ls (zI y :: zI x :: st) A K = zX d 0 884 ls (zI (zw (x + y)) :: st) A K := zx_iadd z0 dL_law_883 rfl
theorem s0_884 (h : tg A a = 20) (h0 : 0 ≤ x) (h1 : x.toNat < (ia A a).length) : zX d 0 884 ls (zI x :: zO (some a) :: st) A K = zX d 0 885 ls (zI ((ia A a).getD x.toNat 0) :: st) A K := zx_iald z0 dL_law_884 rfl h h0 h1
theorem s0_884s (h : tg A a = 30) (h0 : 0 ≤ x) (h1 : x.toNat < (ia A a).length) : zX d 0 884 ls (zI x :: zO (some a) :: st) A K = zX d 0 885 ls (zI ((ia A a).getD x.toNat 0) :: st) A K := zx_sald z0 dL_law_884 rfl h h0 h1
theorem s0_885 (h : tg A a = 1)  : zX (d + 1) 0 885 ls (zI i1 :: zI i0 :: zO (some a) :: []) A K = zX d 61 0 [zO (some a), zI i0, zI i1] [] A (zK (d + 1) 0 885 888 ls [] K) := zx_callV (t := 1) z0 zo0 dL_law_885 rfl C1_137 rfl rfl zm61 rfl rfl (zwt_le (Nat.le_of_ble_eq_true rfl)) rfl h
theorem s0_888 : zX d 0 888 [v0, v1, zO o, v3] st A K = zX d 0 889 [v0, v1, zO o, v3] (zO o :: st) A K := zx_aload_n z0 dL_law_888 rfl rfl
theorem s0_889 : zX d 0 889 [zO o, v1, v2, v3] st A K = zX d 0 890 [zO o, v1, v2, v3] (zO o :: st) A K := zx_aload_n z0 dL_law_889 rfl rfl
theorem s0_890 : zX d 0 890 [v0, v1, v2, zI x] st A K = zX d 0 891 [v0, v1, v2, zI x] (zI x :: st) A K := zx_iload_n z0 dL_law_890 rfl rfl
theorem s0_891 : zX d 0 891 ls st A K = zX d 0 892 ls (zI 1 :: st) A K := zx_const z0 dL_law_891 (by decide) rfl
theorem s0_892 : zX d 0 892 ls (zI y :: zI x :: st) A K = zX d 0 893 ls (zI (zw (x + y)) :: st) A K := zx_iadd z0 dL_law_892 rfl
theorem s0_893 (h : tg A a = 20) (h0 : 0 ≤ x) (h1 : x.toNat < (ia A a).length) : zX d 0 893 ls (zI x :: zO (some a) :: st) A K = zX d 0 894 ls (zI ((ia A a).getD x.toNat 0) :: st) A K := zx_iald z0 dL_law_893 rfl h h0 h1
theorem s0_893s (h : tg A a = 30) (h0 : 0 ≤ x) (h1 : x.toNat < (ia A a).length) : zX d 0 893 ls (zI x :: zO (some a) :: st) A K = zX d 0 894 ls (zI ((ia A a).getD x.toNat 0) :: st) A K := zx_sald z0 dL_law_893 rfl h h0 h1
theorem s0_894 : zX d 0 894 [zO o, v1, v2, v3] st A K = zX d 0 895 [zO o, v1, v2, v3] (zO o :: st) A K := zx_aload_n z0 dL_law_894 rfl rfl
theorem s0_895 : zX d 0 895 [v0, v1, v2, zI x] st A K = zX d 0 896 [v0, v1, v2, zI x] (zI x :: st) A K := zx_iload_n z0 dL_law_895 rfl rfl
theorem s0_896 : zX d 0 896 ls st A K = zX d 0 897 ls (zI 2 :: st) A K := zx_const z0 dL_law_896 (by decide) rfl
theorem s0_897 : zX d 0 897 ls (zI y :: zI x :: st) A K = zX d 0 898 ls (zI (zw (x + y)) :: st) A K := zx_iadd z0 dL_law_897 rfl
theorem s0_898 (h : tg A a = 20) (h0 : 0 ≤ x) (h1 : x.toNat < (ia A a).length) : zX d 0 898 ls (zI x :: zO (some a) :: st) A K = zX d 0 899 ls (zI ((ia A a).getD x.toNat 0) :: st) A K := zx_iald z0 dL_law_898 rfl h h0 h1
theorem s0_898s (h : tg A a = 30) (h0 : 0 ≤ x) (h1 : x.toNat < (ia A a).length) : zX d 0 898 ls (zI x :: zO (some a) :: st) A K = zX d 0 899 ls (zI ((ia A a).getD x.toNat 0) :: st) A K := zx_sald z0 dL_law_898 rfl h h0 h1
theorem s0_899 (h : tg A a = 9)  : zX (d + 1) 0 899 ls (zI i1 :: zI i0 :: zO (some a) :: [w0]) A K = zX d 200 0 [zO (some a), zI i0, zI i1] [] A (zK (d + 1) 0 899 902 ls [w0] K) := zx_callV (t := 9) z0 zo0 dL_law_899 rfl C1_140 rfl rfl zm200 rfl rfl (zwt_le (Nat.le_of_ble_eq_true rfl)) rfl h
theorem s0_902 : zX d 0 902 ls (zI y :: zI x :: st) A K = (if x = y then zX d 0 1401 ls st A K else zX d 0 905 ls st A K) := zx_ic_eq z0 dL_law_902 rfl rfl
theorem s0_905 : zX d 0 905 ls st A K = zX d 0 906 ls (zI 0 :: st) A K := zx_const z0 dL_law_905 (by decide) rfl
theorem s0_906 (h : x = 0 ∨ x = 1) : zX d 0 906 ls [zI x] A K = K (Sum.inl (some (zI x))) A := zx_iret z0 dL_law_906 zk0 (by rcases h with q | q <;> subst q <;> rfl)
theorem s0_907 : zX d 0 907 [v0, zO o, v2, v3] st A K = zX d 0 908 [v0, zO o, v2, v3] (zO o :: st) A K := zx_aload_n z0 dL_law_907 rfl rfl
theorem s0_908 : zX d 0 908 [zO o, v1, v2, v3] st A K = zX d 0 909 [zO o, v1, v2, v3] (zO o :: st) A K := zx_aload_n z0 dL_law_908 rfl rfl
theorem s0_909 : zX d 0 909 [v0, v1, v2, zI x] st A K = zX d 0 910 [v0, v1, v2, zI x] (zI x :: st) A K := zx_iload_n z0 dL_law_909 rfl rfl
theorem s0_910 : zX d 0 910 ls st A K = zX d 0 911 ls (zI 1 :: st) A K := zx_const z0 dL_law_910 (by decide) rfl
theorem s0_911 : zX d 0 911 ls (zI y :: zI x :: st) A K = zX d 0 912 ls (zI (zw (x + y)) :: st) A K := zx_iadd z0 dL_law_911 rfl
theorem s0_912 (h : tg A a = 20) (h0 : 0 ≤ x) (h1 : x.toNat < (ia A a).length) : zX d 0 912 ls (zI x :: zO (some a) :: st) A K = zX d 0 913 ls (zI ((ia A a).getD x.toNat 0) :: st) A K := zx_iald z0 dL_law_912 rfl h h0 h1
theorem s0_912s (h : tg A a = 30) (h0 : 0 ≤ x) (h1 : x.toNat < (ia A a).length) : zX d 0 912 ls (zI x :: zO (some a) :: st) A K = zX d 0 913 ls (zI ((ia A a).getD x.toNat 0) :: st) A K := zx_sald z0 dL_law_912 rfl h h0 h1
theorem s0_913 : zX d 0 913 [zO o, v1, v2, v3] st A K = zX d 0 914 [zO o, v1, v2, v3] (zO o :: st) A K := zx_aload_n z0 dL_law_913 rfl rfl
theorem s0_914 : zX d 0 914 [v0, v1, v2, zI x] st A K = zX d 0 915 [v0, v1, v2, zI x] (zI x :: st) A K := zx_iload_n z0 dL_law_914 rfl rfl
theorem s0_915 : zX d 0 915 ls st A K = zX d 0 916 ls (zI 2 :: st) A K := zx_const z0 dL_law_915 (by decide) rfl
theorem s0_916 : zX d 0 916 ls (zI y :: zI x :: st) A K = zX d 0 917 ls (zI (zw (x + y)) :: st) A K := zx_iadd z0 dL_law_916 rfl
theorem s0_917 (h : tg A a = 20) (h0 : 0 ≤ x) (h1 : x.toNat < (ia A a).length) : zX d 0 917 ls (zI x :: zO (some a) :: st) A K = zX d 0 918 ls (zI ((ia A a).getD x.toNat 0) :: st) A K := zx_iald z0 dL_law_917 rfl h h0 h1
theorem s0_917s (h : tg A a = 30) (h0 : 0 ≤ x) (h1 : x.toNat < (ia A a).length) : zX d 0 917 ls (zI x :: zO (some a) :: st) A K = zX d 0 918 ls (zI ((ia A a).getD x.toNat 0) :: st) A K := zx_sald z0 dL_law_917 rfl h h0 h1
theorem s0_918 (h : tg A a = 1)  : zX (d + 1) 0 918 ls (zI i1 :: zI i0 :: zO (some a) :: []) A K = zX d 62 0 [zO (some a), zI i0, zI i1] [] A (zK (d + 1) 0 918 921 ls [] K) := zx_callV (t := 1) z0 zo0 dL_law_918 rfl C1_141 rfl rfl zm62 rfl rfl (zwt_le (Nat.le_of_ble_eq_true rfl)) rfl h
theorem s0_921 : zX d 0 921 [v0, v1, zO o, v3] st A K = zX d 0 922 [v0, v1, zO o, v3] (zO o :: st) A K := zx_aload_n z0 dL_law_921 rfl rfl
theorem s0_922 : zX d 0 922 [zO o, v1, v2, v3] st A K = zX d 0 923 [zO o, v1, v2, v3] (zO o :: st) A K := zx_aload_n z0 dL_law_922 rfl rfl
theorem s0_923 : zX d 0 923 [v0, v1, v2, zI x] st A K = zX d 0 924 [v0, v1, v2, zI x] (zI x :: st) A K := zx_iload_n z0 dL_law_923 rfl rfl
theorem s0_924 : zX d 0 924 ls st A K = zX d 0 925 ls (zI 1 :: st) A K := zx_const z0 dL_law_924 (by decide) rfl
theorem s0_925 : zX d 0 925 ls (zI y :: zI x :: st) A K = zX d 0 926 ls (zI (zw (x + y)) :: st) A K := zx_iadd z0 dL_law_925 rfl
theorem s0_926 (h : tg A a = 20) (h0 : 0 ≤ x) (h1 : x.toNat < (ia A a).length) : zX d 0 926 ls (zI x :: zO (some a) :: st) A K = zX d 0 927 ls (zI ((ia A a).getD x.toNat 0) :: st) A K := zx_iald z0 dL_law_926 rfl h h0 h1
theorem s0_926s (h : tg A a = 30) (h0 : 0 ≤ x) (h1 : x.toNat < (ia A a).length) : zX d 0 926 ls (zI x :: zO (some a) :: st) A K = zX d 0 927 ls (zI ((ia A a).getD x.toNat 0) :: st) A K := zx_sald z0 dL_law_926 rfl h h0 h1
theorem s0_927 : zX d 0 927 [zO o, v1, v2, v3] st A K = zX d 0 928 [zO o, v1, v2, v3] (zO o :: st) A K := zx_aload_n z0 dL_law_927 rfl rfl
theorem s0_928 : zX d 0 928 [v0, v1, v2, zI x] st A K = zX d 0 929 [v0, v1, v2, zI x] (zI x :: st) A K := zx_iload_n z0 dL_law_928 rfl rfl
theorem s0_929 : zX d 0 929 ls st A K = zX d 0 930 ls (zI 2 :: st) A K := zx_const z0 dL_law_929 (by decide) rfl
theorem s0_930 : zX d 0 930 ls (zI y :: zI x :: st) A K = zX d 0 931 ls (zI (zw (x + y)) :: st) A K := zx_iadd z0 dL_law_930 rfl
theorem s0_931 (h : tg A a = 20) (h0 : 0 ≤ x) (h1 : x.toNat < (ia A a).length) : zX d 0 931 ls (zI x :: zO (some a) :: st) A K = zX d 0 932 ls (zI ((ia A a).getD x.toNat 0) :: st) A K := zx_iald z0 dL_law_931 rfl h h0 h1
theorem s0_931s (h : tg A a = 30) (h0 : 0 ≤ x) (h1 : x.toNat < (ia A a).length) : zX d 0 931 ls (zI x :: zO (some a) :: st) A K = zX d 0 932 ls (zI ((ia A a).getD x.toNat 0) :: st) A K := zx_sald z0 dL_law_931 rfl h h0 h1
theorem s0_932 (h : tg A a = 9)  : zX (d + 1) 0 932 ls (zI i1 :: zI i0 :: zO (some a) :: [w0]) A K = zX d 201 0 [zO (some a), zI i0, zI i1] [] A (zK (d + 1) 0 932 935 ls [w0] K) := zx_callV (t := 9) z0 zo0 dL_law_932 rfl C1_144 rfl rfl zm201 rfl rfl (zwt_le (Nat.le_of_ble_eq_true rfl)) rfl h
theorem s0_935 : zX d 0 935 ls (zI y :: zI x :: st) A K = (if x = y then zX d 0 1401 ls st A K else zX d 0 938 ls st A K) := zx_ic_eq z0 dL_law_935 rfl rfl
theorem s0_938 : zX d 0 938 ls st A K = zX d 0 939 ls (zI 0 :: st) A K := zx_const z0 dL_law_938 (by decide) rfl
theorem s0_939 (h : x = 0 ∨ x = 1) : zX d 0 939 ls [zI x] A K = K (Sum.inl (some (zI x))) A := zx_iret z0 dL_law_939 zk0 (by rcases h with q | q <;> subst q <;> rfl)
theorem s0_940 : zX d 0 940 [v0, zO o, v2, v3] st A K = zX d 0 941 [v0, zO o, v2, v3] (zO o :: st) A K := zx_aload_n z0 dL_law_940 rfl rfl
theorem s0_941 : zX d 0 941 [zO o, v1, v2, v3] st A K = zX d 0 942 [zO o, v1, v2, v3] (zO o :: st) A K := zx_aload_n z0 dL_law_941 rfl rfl
theorem s0_942 : zX d 0 942 [v0, v1, v2, zI x] st A K = zX d 0 943 [v0, v1, v2, zI x] (zI x :: st) A K := zx_iload_n z0 dL_law_942 rfl rfl
theorem s0_943 : zX d 0 943 ls st A K = zX d 0 944 ls (zI 1 :: st) A K := zx_const z0 dL_law_943 (by decide) rfl
theorem s0_944 : zX d 0 944 ls (zI y :: zI x :: st) A K = zX d 0 945 ls (zI (zw (x + y)) :: st) A K := zx_iadd z0 dL_law_944 rfl
theorem s0_945 (h : tg A a = 20) (h0 : 0 ≤ x) (h1 : x.toNat < (ia A a).length) : zX d 0 945 ls (zI x :: zO (some a) :: st) A K = zX d 0 946 ls (zI ((ia A a).getD x.toNat 0) :: st) A K := zx_iald z0 dL_law_945 rfl h h0 h1
theorem s0_945s (h : tg A a = 30) (h0 : 0 ≤ x) (h1 : x.toNat < (ia A a).length) : zX d 0 945 ls (zI x :: zO (some a) :: st) A K = zX d 0 946 ls (zI ((ia A a).getD x.toNat 0) :: st) A K := zx_sald z0 dL_law_945 rfl h h0 h1
theorem s0_946 : zX d 0 946 [zO o, v1, v2, v3] st A K = zX d 0 947 [zO o, v1, v2, v3] (zO o :: st) A K := zx_aload_n z0 dL_law_946 rfl rfl
theorem s0_947 : zX d 0 947 [v0, v1, v2, zI x] st A K = zX d 0 948 [v0, v1, v2, zI x] (zI x :: st) A K := zx_iload_n z0 dL_law_947 rfl rfl
theorem s0_948 : zX d 0 948 ls st A K = zX d 0 949 ls (zI 2 :: st) A K := zx_const z0 dL_law_948 (by decide) rfl
theorem s0_949 : zX d 0 949 ls (zI y :: zI x :: st) A K = zX d 0 950 ls (zI (zw (x + y)) :: st) A K := zx_iadd z0 dL_law_949 rfl
theorem s0_950 (h : tg A a = 20) (h0 : 0 ≤ x) (h1 : x.toNat < (ia A a).length) : zX d 0 950 ls (zI x :: zO (some a) :: st) A K = zX d 0 951 ls (zI ((ia A a).getD x.toNat 0) :: st) A K := zx_iald z0 dL_law_950 rfl h h0 h1
theorem s0_950s (h : tg A a = 30) (h0 : 0 ≤ x) (h1 : x.toNat < (ia A a).length) : zX d 0 950 ls (zI x :: zO (some a) :: st) A K = zX d 0 951 ls (zI ((ia A a).getD x.toNat 0) :: st) A K := zx_sald z0 dL_law_950 rfl h h0 h1
theorem s0_951 (h : tg A a = 1)  : zX (d + 1) 0 951 ls (zI i1 :: zI i0 :: zO (some a) :: []) A K = zX d 63 0 [zO (some a), zI i0, zI i1] [] A (zK (d + 1) 0 951 954 ls [] K) := zx_callV (t := 1) z0 zo0 dL_law_951 rfl C1_145 rfl rfl zm63 rfl rfl (zwt_le (Nat.le_of_ble_eq_true rfl)) rfl h
theorem s0_954 : zX d 0 954 [v0, v1, zO o, v3] st A K = zX d 0 955 [v0, v1, zO o, v3] (zO o :: st) A K := zx_aload_n z0 dL_law_954 rfl rfl
theorem s0_955 : zX d 0 955 [zO o, v1, v2, v3] st A K = zX d 0 956 [zO o, v1, v2, v3] (zO o :: st) A K := zx_aload_n z0 dL_law_955 rfl rfl
theorem s0_956 : zX d 0 956 [v0, v1, v2, zI x] st A K = zX d 0 957 [v0, v1, v2, zI x] (zI x :: st) A K := zx_iload_n z0 dL_law_956 rfl rfl
theorem s0_957 : zX d 0 957 ls st A K = zX d 0 958 ls (zI 1 :: st) A K := zx_const z0 dL_law_957 (by decide) rfl
theorem s0_958 : zX d 0 958 ls (zI y :: zI x :: st) A K = zX d 0 959 ls (zI (zw (x + y)) :: st) A K := zx_iadd z0 dL_law_958 rfl
theorem s0_959 (h : tg A a = 20) (h0 : 0 ≤ x) (h1 : x.toNat < (ia A a).length) : zX d 0 959 ls (zI x :: zO (some a) :: st) A K = zX d 0 960 ls (zI ((ia A a).getD x.toNat 0) :: st) A K := zx_iald z0 dL_law_959 rfl h h0 h1
theorem s0_959s (h : tg A a = 30) (h0 : 0 ≤ x) (h1 : x.toNat < (ia A a).length) : zX d 0 959 ls (zI x :: zO (some a) :: st) A K = zX d 0 960 ls (zI ((ia A a).getD x.toNat 0) :: st) A K := zx_sald z0 dL_law_959 rfl h h0 h1
theorem s0_960 : zX d 0 960 [zO o, v1, v2, v3] st A K = zX d 0 961 [zO o, v1, v2, v3] (zO o :: st) A K := zx_aload_n z0 dL_law_960 rfl rfl
theorem s0_961 : zX d 0 961 [v0, v1, v2, zI x] st A K = zX d 0 962 [v0, v1, v2, zI x] (zI x :: st) A K := zx_iload_n z0 dL_law_961 rfl rfl
theorem s0_962 : zX d 0 962 ls st A K = zX d 0 963 ls (zI 2 :: st) A K := zx_const z0 dL_law_962 (by decide) rfl
theorem s0_963 : zX d 0 963 ls (zI y :: zI x :: st) A K = zX d 0 964 ls (zI (zw (x + y)) :: st) A K := zx_iadd z0 dL_law_963 rfl
theorem s0_964 (h : tg A a = 20) (h0 : 0 ≤ x) (h1 : x.toNat < (ia A a).length) : zX d 0 964 ls (zI x :: zO (some a) :: st) A K = zX d 0 965 ls (zI ((ia A a).getD x.toNat 0) :: st) A K := zx_iald z0 dL_law_964 rfl h h0 h1
theorem s0_964s (h : tg A a = 30) (h0 : 0 ≤ x) (h1 : x.toNat < (ia A a).length) : zX d 0 964 ls (zI x :: zO (some a) :: st) A K = zX d 0 965 ls (zI ((ia A a).getD x.toNat 0) :: st) A K := zx_sald z0 dL_law_964 rfl h h0 h1
theorem s0_965 (h : tg A a = 9)  : zX (d + 1) 0 965 ls (zI i1 :: zI i0 :: zO (some a) :: [w0]) A K = zX d 203 0 [zO (some a), zI i0, zI i1] [] A (zK (d + 1) 0 965 968 ls [w0] K) := zx_callV (t := 9) z0 zo0 dL_law_965 rfl C1_148 rfl rfl zm203 rfl rfl (zwt_le (Nat.le_of_ble_eq_true rfl)) rfl h
theorem s0_968 : zX d 0 968 ls (zI y :: zI x :: st) A K = (if x = y then zX d 0 1401 ls st A K else zX d 0 971 ls st A K) := zx_ic_eq z0 dL_law_968 rfl rfl
theorem s0_971 : zX d 0 971 ls st A K = zX d 0 972 ls (zI 0 :: st) A K := zx_const z0 dL_law_971 (by decide) rfl
theorem s0_972 (h : x = 0 ∨ x = 1) : zX d 0 972 ls [zI x] A K = K (Sum.inl (some (zI x))) A := zx_iret z0 dL_law_972 zk0 (by rcases h with q | q <;> subst q <;> rfl)
theorem s0_973 : zX d 0 973 [v0, zO o, v2, v3] st A K = zX d 0 974 [v0, zO o, v2, v3] (zO o :: st) A K := zx_aload_n z0 dL_law_973 rfl rfl
theorem s0_974 : zX d 0 974 [zO o, v1, v2, v3] st A K = zX d 0 975 [zO o, v1, v2, v3] (zO o :: st) A K := zx_aload_n z0 dL_law_974 rfl rfl
theorem s0_975 : zX d 0 975 [v0, v1, v2, zI x] st A K = zX d 0 976 [v0, v1, v2, zI x] (zI x :: st) A K := zx_iload_n z0 dL_law_975 rfl rfl
theorem s0_976 : zX d 0 976 ls st A K = zX d 0 977 ls (zI 1 :: st) A K := zx_const z0 dL_law_976 (by decide) rfl
theorem s0_977 : zX d 0 977 ls (zI y :: zI x :: st) A K = zX d 0 978 ls (zI (zw (x + y)) :: st) A K := zx_iadd z0 dL_law_977 rfl
theorem s0_978 (h : tg A a = 20) (h0 : 0 ≤ x) (h1 : x.toNat < (ia A a).length) : zX d 0 978 ls (zI x :: zO (some a) :: st) A K = zX d 0 979 ls (zI ((ia A a).getD x.toNat 0) :: st) A K := zx_iald z0 dL_law_978 rfl h h0 h1
theorem s0_978s (h : tg A a = 30) (h0 : 0 ≤ x) (h1 : x.toNat < (ia A a).length) : zX d 0 978 ls (zI x :: zO (some a) :: st) A K = zX d 0 979 ls (zI ((ia A a).getD x.toNat 0) :: st) A K := zx_sald z0 dL_law_978 rfl h h0 h1
theorem s0_979 : zX d 0 979 [zO o, v1, v2, v3] st A K = zX d 0 980 [zO o, v1, v2, v3] (zO o :: st) A K := zx_aload_n z0 dL_law_979 rfl rfl
theorem s0_980 : zX d 0 980 [v0, v1, v2, zI x] st A K = zX d 0 981 [v0, v1, v2, zI x] (zI x :: st) A K := zx_iload_n z0 dL_law_980 rfl rfl
theorem s0_981 : zX d 0 981 ls st A K = zX d 0 982 ls (zI 2 :: st) A K := zx_const z0 dL_law_981 (by decide) rfl
theorem s0_982 : zX d 0 982 ls (zI y :: zI x :: st) A K = zX d 0 983 ls (zI (zw (x + y)) :: st) A K := zx_iadd z0 dL_law_982 rfl
theorem s0_983 (h : tg A a = 20) (h0 : 0 ≤ x) (h1 : x.toNat < (ia A a).length) : zX d 0 983 ls (zI x :: zO (some a) :: st) A K = zX d 0 984 ls (zI ((ia A a).getD x.toNat 0) :: st) A K := zx_iald z0 dL_law_983 rfl h h0 h1
theorem s0_983s (h : tg A a = 30) (h0 : 0 ≤ x) (h1 : x.toNat < (ia A a).length) : zX d 0 983 ls (zI x :: zO (some a) :: st) A K = zX d 0 984 ls (zI ((ia A a).getD x.toNat 0) :: st) A K := zx_sald z0 dL_law_983 rfl h h0 h1
theorem s0_984 : zX d 0 984 [zO o, v1, v2, v3] st A K = zX d 0 985 [zO o, v1, v2, v3] (zO o :: st) A K := zx_aload_n z0 dL_law_984 rfl rfl
theorem s0_985 : zX d 0 985 [v0, v1, v2, zI x] st A K = zX d 0 986 [v0, v1, v2, zI x] (zI x :: st) A K := zx_iload_n z0 dL_law_985 rfl rfl
theorem s0_986 : zX d 0 986 ls st A K = zX d 0 987 ls (zI 3 :: st) A K := zx_const z0 dL_law_986 (by decide) rfl
theorem s0_987 : zX d 0 987 ls (zI y :: zI x :: st) A K = zX d 0 988 ls (zI (zw (x + y)) :: st) A K := zx_iadd z0 dL_law_987 rfl
theorem s0_988 (h : tg A a = 20) (h0 : 0 ≤ x) (h1 : x.toNat < (ia A a).length) : zX d 0 988 ls (zI x :: zO (some a) :: st) A K = zX d 0 989 ls (zI ((ia A a).getD x.toNat 0) :: st) A K := zx_iald z0 dL_law_988 rfl h h0 h1
theorem s0_988s (h : tg A a = 30) (h0 : 0 ≤ x) (h1 : x.toNat < (ia A a).length) : zX d 0 988 ls (zI x :: zO (some a) :: st) A K = zX d 0 989 ls (zI ((ia A a).getD x.toNat 0) :: st) A K := zx_sald z0 dL_law_988 rfl h h0 h1
theorem s0_989 (h : tg A a = 1)  : zX (d + 1) 0 989 ls (zI i2 :: zI i1 :: zI i0 :: zO (some a) :: []) A K = zX d 64 0 [zO (some a), zI i0, zI i1, zI i2] [] A (zK (d + 1) 0 989 992 ls [] K) := zx_callV (t := 1) z0 zo0 dL_law_989 rfl C1_149 rfl rfl zm64 rfl rfl (zwt_le (Nat.le_of_ble_eq_true rfl)) rfl h
theorem s0_992 : zX d 0 992 [v0, v1, zO o, v3] st A K = zX d 0 993 [v0, v1, zO o, v3] (zO o :: st) A K := zx_aload_n z0 dL_law_992 rfl rfl
theorem s0_993 : zX d 0 993 [zO o, v1, v2, v3] st A K = zX d 0 994 [zO o, v1, v2, v3] (zO o :: st) A K := zx_aload_n z0 dL_law_993 rfl rfl
theorem s0_994 : zX d 0 994 [v0, v1, v2, zI x] st A K = zX d 0 995 [v0, v1, v2, zI x] (zI x :: st) A K := zx_iload_n z0 dL_law_994 rfl rfl
theorem s0_995 : zX d 0 995 ls st A K = zX d 0 996 ls (zI 1 :: st) A K := zx_const z0 dL_law_995 (by decide) rfl
theorem s0_996 : zX d 0 996 ls (zI y :: zI x :: st) A K = zX d 0 997 ls (zI (zw (x + y)) :: st) A K := zx_iadd z0 dL_law_996 rfl
theorem s0_997 (h : tg A a = 20) (h0 : 0 ≤ x) (h1 : x.toNat < (ia A a).length) : zX d 0 997 ls (zI x :: zO (some a) :: st) A K = zX d 0 998 ls (zI ((ia A a).getD x.toNat 0) :: st) A K := zx_iald z0 dL_law_997 rfl h h0 h1
theorem s0_997s (h : tg A a = 30) (h0 : 0 ≤ x) (h1 : x.toNat < (ia A a).length) : zX d 0 997 ls (zI x :: zO (some a) :: st) A K = zX d 0 998 ls (zI ((ia A a).getD x.toNat 0) :: st) A K := zx_sald z0 dL_law_997 rfl h h0 h1
theorem s0_998 : zX d 0 998 [zO o, v1, v2, v3] st A K = zX d 0 999 [zO o, v1, v2, v3] (zO o :: st) A K := zx_aload_n z0 dL_law_998 rfl rfl
theorem s0_999 : zX d 0 999 [v0, v1, v2, zI x] st A K = zX d 0 1000 [v0, v1, v2, zI x] (zI x :: st) A K := zx_iload_n z0 dL_law_999 rfl rfl
theorem s0_1000 : zX d 0 1000 ls st A K = zX d 0 1001 ls (zI 2 :: st) A K := zx_const z0 dL_law_1000 (by decide) rfl
theorem s0_1001 : zX d 0 1001 ls (zI y :: zI x :: st) A K = zX d 0 1002 ls (zI (zw (x + y)) :: st) A K := zx_iadd z0 dL_law_1001 rfl
theorem s0_1002 (h : tg A a = 20) (h0 : 0 ≤ x) (h1 : x.toNat < (ia A a).length) : zX d 0 1002 ls (zI x :: zO (some a) :: st) A K = zX d 0 1003 ls (zI ((ia A a).getD x.toNat 0) :: st) A K := zx_iald z0 dL_law_1002 rfl h h0 h1
theorem s0_1002s (h : tg A a = 30) (h0 : 0 ≤ x) (h1 : x.toNat < (ia A a).length) : zX d 0 1002 ls (zI x :: zO (some a) :: st) A K = zX d 0 1003 ls (zI ((ia A a).getD x.toNat 0) :: st) A K := zx_sald z0 dL_law_1002 rfl h h0 h1
theorem s0_1003 : zX d 0 1003 [zO o, v1, v2, v3] st A K = zX d 0 1004 [zO o, v1, v2, v3] (zO o :: st) A K := zx_aload_n z0 dL_law_1003 rfl rfl
theorem s0_1004 : zX d 0 1004 [v0, v1, v2, zI x] st A K = zX d 0 1005 [v0, v1, v2, zI x] (zI x :: st) A K := zx_iload_n z0 dL_law_1004 rfl rfl
theorem s0_1005 : zX d 0 1005 ls st A K = zX d 0 1006 ls (zI 3 :: st) A K := zx_const z0 dL_law_1005 (by decide) rfl
theorem s0_1006 : zX d 0 1006 ls (zI y :: zI x :: st) A K = zX d 0 1007 ls (zI (zw (x + y)) :: st) A K := zx_iadd z0 dL_law_1006 rfl
theorem s0_1007 (h : tg A a = 20) (h0 : 0 ≤ x) (h1 : x.toNat < (ia A a).length) : zX d 0 1007 ls (zI x :: zO (some a) :: st) A K = zX d 0 1008 ls (zI ((ia A a).getD x.toNat 0) :: st) A K := zx_iald z0 dL_law_1007 rfl h h0 h1
theorem s0_1007s (h : tg A a = 30) (h0 : 0 ≤ x) (h1 : x.toNat < (ia A a).length) : zX d 0 1007 ls (zI x :: zO (some a) :: st) A K = zX d 0 1008 ls (zI ((ia A a).getD x.toNat 0) :: st) A K := zx_sald z0 dL_law_1007 rfl h h0 h1
theorem s0_1008 (h : tg A a = 9)  : zX (d + 1) 0 1008 ls (zI i2 :: zI i1 :: zI i0 :: zO (some a) :: [w0]) A K = zX d 204 0 [zO (some a), zI i0, zI i1, zI i2] [] A (zK (d + 1) 0 1008 1011 ls [w0] K) := zx_callV (t := 9) z0 zo0 dL_law_1008 rfl C1_152 rfl rfl zm204 rfl rfl (zwt_le (Nat.le_of_ble_eq_true rfl)) rfl h
theorem s0_1011 : zX d 0 1011 ls (zI y :: zI x :: st) A K = (if x = y then zX d 0 1401 ls st A K else zX d 0 1014 ls st A K) := zx_ic_eq z0 dL_law_1011 rfl rfl
theorem s0_1014 : zX d 0 1014 ls st A K = zX d 0 1015 ls (zI 0 :: st) A K := zx_const z0 dL_law_1014 (by decide) rfl
theorem s0_1015 (h : x = 0 ∨ x = 1) : zX d 0 1015 ls [zI x] A K = K (Sum.inl (some (zI x))) A := zx_iret z0 dL_law_1015 zk0 (by rcases h with q | q <;> subst q <;> rfl)
theorem s0_1016 : zX d 0 1016 [v0, zO o, v2, v3] st A K = zX d 0 1017 [v0, zO o, v2, v3] (zO o :: st) A K := zx_aload_n z0 dL_law_1016 rfl rfl
theorem s0_1017 : zX d 0 1017 [zO o, v1, v2, v3] st A K = zX d 0 1018 [zO o, v1, v2, v3] (zO o :: st) A K := zx_aload_n z0 dL_law_1017 rfl rfl
theorem s0_1018 : zX d 0 1018 [v0, v1, v2, zI x] st A K = zX d 0 1019 [v0, v1, v2, zI x] (zI x :: st) A K := zx_iload_n z0 dL_law_1018 rfl rfl
theorem s0_1019 : zX d 0 1019 ls st A K = zX d 0 1020 ls (zI 1 :: st) A K := zx_const z0 dL_law_1019 (by decide) rfl
theorem s0_1020 : zX d 0 1020 ls (zI y :: zI x :: st) A K = zX d 0 1021 ls (zI (zw (x + y)) :: st) A K := zx_iadd z0 dL_law_1020 rfl
theorem s0_1021 (h : tg A a = 20) (h0 : 0 ≤ x) (h1 : x.toNat < (ia A a).length) : zX d 0 1021 ls (zI x :: zO (some a) :: st) A K = zX d 0 1022 ls (zI ((ia A a).getD x.toNat 0) :: st) A K := zx_iald z0 dL_law_1021 rfl h h0 h1
theorem s0_1021s (h : tg A a = 30) (h0 : 0 ≤ x) (h1 : x.toNat < (ia A a).length) : zX d 0 1021 ls (zI x :: zO (some a) :: st) A K = zX d 0 1022 ls (zI ((ia A a).getD x.toNat 0) :: st) A K := zx_sald z0 dL_law_1021 rfl h h0 h1
theorem s0_1022 (h : tg A a = 1)  : zX (d + 1) 0 1022 ls (zI i0 :: zO (some a) :: []) A K = zX d 67 0 [zO (some a), zI i0, zU, zU, zU] [] A (zK (d + 1) 0 1022 1025 ls [] K) := zx_callV (t := 1) z0 zo0 dL_law_1022 rfl C1_153 rfl rfl zm67 rfl rfl (zwt_le (Nat.le_of_ble_eq_true rfl)) rfl h
theorem s0_1025 : zX d 0 1025 [v0, v1, zO o, v3] st A K = zX d 0 1026 [v0, v1, zO o, v3] (zO o :: st) A K := zx_aload_n z0 dL_law_1025 rfl rfl
theorem s0_1026 : zX d 0 1026 [zO o, v1, v2, v3] st A K = zX d 0 1027 [zO o, v1, v2, v3] (zO o :: st) A K := zx_aload_n z0 dL_law_1026 rfl rfl
theorem s0_1027 : zX d 0 1027 [v0, v1, v2, zI x] st A K = zX d 0 1028 [v0, v1, v2, zI x] (zI x :: st) A K := zx_iload_n z0 dL_law_1027 rfl rfl
theorem s0_1028 : zX d 0 1028 ls st A K = zX d 0 1029 ls (zI 1 :: st) A K := zx_const z0 dL_law_1028 (by decide) rfl
theorem s0_1029 : zX d 0 1029 ls (zI y :: zI x :: st) A K = zX d 0 1030 ls (zI (zw (x + y)) :: st) A K := zx_iadd z0 dL_law_1029 rfl
theorem s0_1030 (h : tg A a = 20) (h0 : 0 ≤ x) (h1 : x.toNat < (ia A a).length) : zX d 0 1030 ls (zI x :: zO (some a) :: st) A K = zX d 0 1031 ls (zI ((ia A a).getD x.toNat 0) :: st) A K := zx_iald z0 dL_law_1030 rfl h h0 h1
theorem s0_1030s (h : tg A a = 30) (h0 : 0 ≤ x) (h1 : x.toNat < (ia A a).length) : zX d 0 1030 ls (zI x :: zO (some a) :: st) A K = zX d 0 1031 ls (zI ((ia A a).getD x.toNat 0) :: st) A K := zx_sald z0 dL_law_1030 rfl h h0 h1
theorem s0_1031 (h : tg A a = 9)  : zX (d + 1) 0 1031 ls (zI i0 :: zO (some a) :: [w0]) A K = zX d 208 0 [zO (some a), zI i0] [] A (zK (d + 1) 0 1031 1034 ls [w0] K) := zx_callV (t := 9) z0 zo0 dL_law_1031 rfl C1_156 rfl rfl zm208 rfl rfl (zwt_le (Nat.le_of_ble_eq_true rfl)) rfl h
theorem s0_1034 : zX d 0 1034 ls (zI y :: zI x :: st) A K = (if x = y then zX d 0 1401 ls st A K else zX d 0 1037 ls st A K) := zx_ic_eq z0 dL_law_1034 rfl rfl
theorem s0_1037 : zX d 0 1037 ls st A K = zX d 0 1038 ls (zI 0 :: st) A K := zx_const z0 dL_law_1037 (by decide) rfl
theorem s0_1038 (h : x = 0 ∨ x = 1) : zX d 0 1038 ls [zI x] A K = K (Sum.inl (some (zI x))) A := zx_iret z0 dL_law_1038 zk0 (by rcases h with q | q <;> subst q <;> rfl)
theorem s0_1039 : zX d 0 1039 [v0, zO o, v2, v3] st A K = zX d 0 1040 [v0, zO o, v2, v3] (zO o :: st) A K := zx_aload_n z0 dL_law_1039 rfl rfl
theorem s0_1040 : zX d 0 1040 [zO o, v1, v2, v3] st A K = zX d 0 1041 [zO o, v1, v2, v3] (zO o :: st) A K := zx_aload_n z0 dL_law_1040 rfl rfl
theorem s0_1041 : zX d 0 1041 [v0, v1, v2, zI x] st A K = zX d 0 1042 [v0, v1, v2, zI x] (zI x :: st) A K := zx_iload_n z0 dL_law_1041 rfl rfl
theorem s0_1042 : zX d 0 1042 ls st A K = zX d 0 1043 ls (zI 1 :: st) A K := zx_const z0 dL_law_1042 (by decide) rfl
theorem s0_1043 : zX d 0 1043 ls (zI y :: zI x :: st) A K = zX d 0 1044 ls (zI (zw (x + y)) :: st) A K := zx_iadd z0 dL_law_1043 rfl
theorem s0_1044 (h : tg A a = 20) (h0 : 0 ≤ x) (h1 : x.toNat < (ia A a).length) : zX d 0 1044 ls (zI x :: zO (some a) :: st) A K = zX d 0 1045 ls (zI ((ia A a).getD x.toNat 0) :: st) A K := zx_iald z0 dL_law_1044 rfl h h0 h1
theorem s0_1044s (h : tg A a = 30) (h0 : 0 ≤ x) (h1 : x.toNat < (ia A a).length) : zX d 0 1044 ls (zI x :: zO (some a) :: st) A K = zX d 0 1045 ls (zI ((ia A a).getD x.toNat 0) :: st) A K := zx_sald z0 dL_law_1044 rfl h h0 h1
theorem s0_1045 : zX d 0 1045 [zO o, v1, v2, v3] st A K = zX d 0 1046 [zO o, v1, v2, v3] (zO o :: st) A K := zx_aload_n z0 dL_law_1045 rfl rfl
theorem s0_1046 : zX d 0 1046 [v0, v1, v2, zI x] st A K = zX d 0 1047 [v0, v1, v2, zI x] (zI x :: st) A K := zx_iload_n z0 dL_law_1046 rfl rfl
theorem s0_1047 : zX d 0 1047 ls st A K = zX d 0 1048 ls (zI 2 :: st) A K := zx_const z0 dL_law_1047 (by decide) rfl
theorem s0_1048 : zX d 0 1048 ls (zI y :: zI x :: st) A K = zX d 0 1049 ls (zI (zw (x + y)) :: st) A K := zx_iadd z0 dL_law_1048 rfl
theorem s0_1049 (h : tg A a = 20) (h0 : 0 ≤ x) (h1 : x.toNat < (ia A a).length) : zX d 0 1049 ls (zI x :: zO (some a) :: st) A K = zX d 0 1050 ls (zI ((ia A a).getD x.toNat 0) :: st) A K := zx_iald z0 dL_law_1049 rfl h h0 h1
theorem s0_1049s (h : tg A a = 30) (h0 : 0 ≤ x) (h1 : x.toNat < (ia A a).length) : zX d 0 1049 ls (zI x :: zO (some a) :: st) A K = zX d 0 1050 ls (zI ((ia A a).getD x.toNat 0) :: st) A K := zx_sald z0 dL_law_1049 rfl h h0 h1
theorem s0_1050 (h : tg A a = 1)  : zX (d + 1) 0 1050 ls (zI i1 :: zI i0 :: zO (some a) :: []) A K = zX d 70 0 [zO (some a), zI i0, zI i1, zU, zU, zU] [] A (zK (d + 1) 0 1050 1053 ls [] K) := zx_callV (t := 1) z0 zo0 dL_law_1050 rfl C1_157 rfl rfl zm70 rfl rfl (zwt_le (Nat.le_of_ble_eq_true rfl)) rfl h
theorem s0_1053 : zX d 0 1053 [v0, v1, zO o, v3] st A K = zX d 0 1054 [v0, v1, zO o, v3] (zO o :: st) A K := zx_aload_n z0 dL_law_1053 rfl rfl
theorem s0_1054 : zX d 0 1054 [zO o, v1, v2, v3] st A K = zX d 0 1055 [zO o, v1, v2, v3] (zO o :: st) A K := zx_aload_n z0 dL_law_1054 rfl rfl
theorem s0_1055 : zX d 0 1055 [v0, v1, v2, zI x] st A K = zX d 0 1056 [v0, v1, v2, zI x] (zI x :: st) A K := zx_iload_n z0 dL_law_1055 rfl rfl
theorem s0_1056 : zX d 0 1056 ls st A K = zX d 0 1057 ls (zI 1 :: st) A K := zx_const z0 dL_law_1056 (by decide) rfl
theorem s0_1057 : zX d 0 1057 ls (zI y :: zI x :: st) A K = zX d 0 1058 ls (zI (zw (x + y)) :: st) A K := zx_iadd z0 dL_law_1057 rfl
theorem s0_1058 (h : tg A a = 20) (h0 : 0 ≤ x) (h1 : x.toNat < (ia A a).length) : zX d 0 1058 ls (zI x :: zO (some a) :: st) A K = zX d 0 1059 ls (zI ((ia A a).getD x.toNat 0) :: st) A K := zx_iald z0 dL_law_1058 rfl h h0 h1
theorem s0_1058s (h : tg A a = 30) (h0 : 0 ≤ x) (h1 : x.toNat < (ia A a).length) : zX d 0 1058 ls (zI x :: zO (some a) :: st) A K = zX d 0 1059 ls (zI ((ia A a).getD x.toNat 0) :: st) A K := zx_sald z0 dL_law_1058 rfl h h0 h1
theorem s0_1059 : zX d 0 1059 [zO o, v1, v2, v3] st A K = zX d 0 1060 [zO o, v1, v2, v3] (zO o :: st) A K := zx_aload_n z0 dL_law_1059 rfl rfl
theorem s0_1060 : zX d 0 1060 [v0, v1, v2, zI x] st A K = zX d 0 1061 [v0, v1, v2, zI x] (zI x :: st) A K := zx_iload_n z0 dL_law_1060 rfl rfl
theorem s0_1061 : zX d 0 1061 ls st A K = zX d 0 1062 ls (zI 2 :: st) A K := zx_const z0 dL_law_1061 (by decide) rfl
theorem s0_1062 : zX d 0 1062 ls (zI y :: zI x :: st) A K = zX d 0 1063 ls (zI (zw (x + y)) :: st) A K := zx_iadd z0 dL_law_1062 rfl
theorem s0_1063 (h : tg A a = 20) (h0 : 0 ≤ x) (h1 : x.toNat < (ia A a).length) : zX d 0 1063 ls (zI x :: zO (some a) :: st) A K = zX d 0 1064 ls (zI ((ia A a).getD x.toNat 0) :: st) A K := zx_iald z0 dL_law_1063 rfl h h0 h1
theorem s0_1063s (h : tg A a = 30) (h0 : 0 ≤ x) (h1 : x.toNat < (ia A a).length) : zX d 0 1063 ls (zI x :: zO (some a) :: st) A K = zX d 0 1064 ls (zI ((ia A a).getD x.toNat 0) :: st) A K := zx_sald z0 dL_law_1063 rfl h h0 h1
theorem s0_1064 (h : tg A a = 9)  : zX (d + 1) 0 1064 ls (zI i1 :: zI i0 :: zO (some a) :: [w0]) A K = zX d 211 0 [zO (some a), zI i0, zI i1] [] A (zK (d + 1) 0 1064 1067 ls [w0] K) := zx_callV (t := 9) z0 zo0 dL_law_1064 rfl C1_160 rfl rfl zm211 rfl rfl (zwt_le (Nat.le_of_ble_eq_true rfl)) rfl h
theorem s0_1067 : zX d 0 1067 ls (zI y :: zI x :: st) A K = (if x = y then zX d 0 1401 ls st A K else zX d 0 1070 ls st A K) := zx_ic_eq z0 dL_law_1067 rfl rfl
theorem s0_1070 : zX d 0 1070 ls st A K = zX d 0 1071 ls (zI 0 :: st) A K := zx_const z0 dL_law_1070 (by decide) rfl
theorem s0_1071 (h : x = 0 ∨ x = 1) : zX d 0 1071 ls [zI x] A K = K (Sum.inl (some (zI x))) A := zx_iret z0 dL_law_1071 zk0 (by rcases h with q | q <;> subst q <;> rfl)
theorem s0_1072 : zX d 0 1072 [v0, zO o, v2, v3] st A K = zX d 0 1073 [v0, zO o, v2, v3] (zO o :: st) A K := zx_aload_n z0 dL_law_1072 rfl rfl
theorem s0_1073 : zX d 0 1073 [zO o, v1, v2, v3] st A K = zX d 0 1074 [zO o, v1, v2, v3] (zO o :: st) A K := zx_aload_n z0 dL_law_1073 rfl rfl
theorem s0_1074 : zX d 0 1074 [v0, v1, v2, zI x] st A K = zX d 0 1075 [v0, v1, v2, zI x] (zI x :: st) A K := zx_iload_n z0 dL_law_1074 rfl rfl
theorem s0_1075 : zX d 0 1075 ls st A K = zX d 0 1076 ls (zI 1 :: st) A K := zx_const z0 dL_law_1075 (by decide) rfl
theorem s0_1076 : zX d 0 1076 ls (zI y :: zI x :: st) A K = zX d 0 1077 ls (zI (zw (x + y)) :: st) A K := zx_iadd z0 dL_law_1076 rfl
theorem s0_1077 (h : tg A a = 20) (h0 : 0 ≤ x) (h1 : x.toNat < (ia A a).length) : zX d 0 1077 ls (zI x :: zO (some a) :: st) A K = zX d 0 1078 ls (zI ((ia A a).getD x.toNat 0) :: st) A K := zx_iald z0 dL_law_1077 rfl h h0 h1
theorem s0_1077s (h : tg A a = 30) (h0 : 0 ≤ x) (h1 : x.toNat < (ia A a).length) : zX d 0 1077 ls (zI x :: zO (some a) :: st) A K = zX d 0 1078 ls (zI ((ia A a).getD x.toNat 0) :: st) A K := zx_sald z0 dL_law_1077 rfl h h0 h1
theorem s0_1078 : zX d 0 1078 [zO o, v1, v2, v3] st A K = zX d 0 1079 [zO o, v1, v2, v3] (zO o :: st) A K := zx_aload_n z0 dL_law_1078 rfl rfl
theorem s0_1079 : zX d 0 1079 [v0, v1, v2, zI x] st A K = zX d 0 1080 [v0, v1, v2, zI x] (zI x :: st) A K := zx_iload_n z0 dL_law_1079 rfl rfl
theorem s0_1080 : zX d 0 1080 ls st A K = zX d 0 1081 ls (zI 2 :: st) A K := zx_const z0 dL_law_1080 (by decide) rfl
theorem s0_1081 : zX d 0 1081 ls (zI y :: zI x :: st) A K = zX d 0 1082 ls (zI (zw (x + y)) :: st) A K := zx_iadd z0 dL_law_1081 rfl
theorem s0_1082 (h : tg A a = 20) (h0 : 0 ≤ x) (h1 : x.toNat < (ia A a).length) : zX d 0 1082 ls (zI x :: zO (some a) :: st) A K = zX d 0 1083 ls (zI ((ia A a).getD x.toNat 0) :: st) A K := zx_iald z0 dL_law_1082 rfl h h0 h1
theorem s0_1082s (h : tg A a = 30) (h0 : 0 ≤ x) (h1 : x.toNat < (ia A a).length) : zX d 0 1082 ls (zI x :: zO (some a) :: st) A K = zX d 0 1083 ls (zI ((ia A a).getD x.toNat 0) :: st) A K := zx_sald z0 dL_law_1082 rfl h h0 h1
theorem s0_1083 (h : tg A a = 1)  : zX (d + 1) 0 1083 ls (zI i1 :: zI i0 :: zO (some a) :: []) A K = zX d 71 0 [zO (some a), zI i0, zI i1, zU] [] A (zK (d + 1) 0 1083 1086 ls [] K) := zx_callV (t := 1) z0 zo0 dL_law_1083 rfl C1_161 rfl rfl zm71 rfl rfl (zwt_le (Nat.le_of_ble_eq_true rfl)) rfl h
theorem s0_1086 : zX d 0 1086 [v0, v1, zO o, v3] st A K = zX d 0 1087 [v0, v1, zO o, v3] (zO o :: st) A K := zx_aload_n z0 dL_law_1086 rfl rfl
theorem s0_1087 : zX d 0 1087 [zO o, v1, v2, v3] st A K = zX d 0 1088 [zO o, v1, v2, v3] (zO o :: st) A K := zx_aload_n z0 dL_law_1087 rfl rfl
theorem s0_1088 : zX d 0 1088 [v0, v1, v2, zI x] st A K = zX d 0 1089 [v0, v1, v2, zI x] (zI x :: st) A K := zx_iload_n z0 dL_law_1088 rfl rfl
theorem s0_1089 : zX d 0 1089 ls st A K = zX d 0 1090 ls (zI 1 :: st) A K := zx_const z0 dL_law_1089 (by decide) rfl
theorem s0_1090 : zX d 0 1090 ls (zI y :: zI x :: st) A K = zX d 0 1091 ls (zI (zw (x + y)) :: st) A K := zx_iadd z0 dL_law_1090 rfl
theorem s0_1091 (h : tg A a = 20) (h0 : 0 ≤ x) (h1 : x.toNat < (ia A a).length) : zX d 0 1091 ls (zI x :: zO (some a) :: st) A K = zX d 0 1092 ls (zI ((ia A a).getD x.toNat 0) :: st) A K := zx_iald z0 dL_law_1091 rfl h h0 h1
theorem s0_1091s (h : tg A a = 30) (h0 : 0 ≤ x) (h1 : x.toNat < (ia A a).length) : zX d 0 1091 ls (zI x :: zO (some a) :: st) A K = zX d 0 1092 ls (zI ((ia A a).getD x.toNat 0) :: st) A K := zx_sald z0 dL_law_1091 rfl h h0 h1
theorem s0_1092 : zX d 0 1092 [zO o, v1, v2, v3] st A K = zX d 0 1093 [zO o, v1, v2, v3] (zO o :: st) A K := zx_aload_n z0 dL_law_1092 rfl rfl
theorem s0_1093 : zX d 0 1093 [v0, v1, v2, zI x] st A K = zX d 0 1094 [v0, v1, v2, zI x] (zI x :: st) A K := zx_iload_n z0 dL_law_1093 rfl rfl
theorem s0_1094 : zX d 0 1094 ls st A K = zX d 0 1095 ls (zI 2 :: st) A K := zx_const z0 dL_law_1094 (by decide) rfl
theorem s0_1095 : zX d 0 1095 ls (zI y :: zI x :: st) A K = zX d 0 1096 ls (zI (zw (x + y)) :: st) A K := zx_iadd z0 dL_law_1095 rfl
theorem s0_1096 (h : tg A a = 20) (h0 : 0 ≤ x) (h1 : x.toNat < (ia A a).length) : zX d 0 1096 ls (zI x :: zO (some a) :: st) A K = zX d 0 1097 ls (zI ((ia A a).getD x.toNat 0) :: st) A K := zx_iald z0 dL_law_1096 rfl h h0 h1
theorem s0_1096s (h : tg A a = 30) (h0 : 0 ≤ x) (h1 : x.toNat < (ia A a).length) : zX d 0 1096 ls (zI x :: zO (some a) :: st) A K = zX d 0 1097 ls (zI ((ia A a).getD x.toNat 0) :: st) A K := zx_sald z0 dL_law_1096 rfl h h0 h1
theorem s0_1097 (h : tg A a = 9)  : zX (d + 1) 0 1097 ls (zI i1 :: zI i0 :: zO (some a) :: [w0]) A K = zX d 212 0 [zO (some a), zI i0, zI i1, zU] [] A (zK (d + 1) 0 1097 1100 ls [w0] K) := zx_callV (t := 9) z0 zo0 dL_law_1097 rfl C1_164 rfl rfl zm212 rfl rfl (zwt_le (Nat.le_of_ble_eq_true rfl)) rfl h
theorem s0_1100 : zX d 0 1100 ls (zI y :: zI x :: st) A K = (if x = y then zX d 0 1401 ls st A K else zX d 0 1103 ls st A K) := zx_ic_eq z0 dL_law_1100 rfl rfl
theorem s0_1103 : zX d 0 1103 ls st A K = zX d 0 1104 ls (zI 0 :: st) A K := zx_const z0 dL_law_1103 (by decide) rfl
theorem s0_1104 (h : x = 0 ∨ x = 1) : zX d 0 1104 ls [zI x] A K = K (Sum.inl (some (zI x))) A := zx_iret z0 dL_law_1104 zk0 (by rcases h with q | q <;> subst q <;> rfl)
theorem s0_1105 : zX d 0 1105 [v0, zO o, v2, v3] st A K = zX d 0 1106 [v0, zO o, v2, v3] (zO o :: st) A K := zx_aload_n z0 dL_law_1105 rfl rfl
theorem s0_1106 : zX d 0 1106 [zO o, v1, v2, v3] st A K = zX d 0 1107 [zO o, v1, v2, v3] (zO o :: st) A K := zx_aload_n z0 dL_law_1106 rfl rfl
theorem s0_1107 : zX d 0 1107 [v0, v1, v2, zI x] st A K = zX d 0 1108 [v0, v1, v2, zI x] (zI x :: st) A K := zx_iload_n z0 dL_law_1107 rfl rfl
theorem s0_1108 : zX d 0 1108 ls st A K = zX d 0 1109 ls (zI 1 :: st) A K := zx_const z0 dL_law_1108 (by decide) rfl
theorem s0_1109 : zX d 0 1109 ls (zI y :: zI x :: st) A K = zX d 0 1110 ls (zI (zw (x + y)) :: st) A K := zx_iadd z0 dL_law_1109 rfl
theorem s0_1110 (h : tg A a = 20) (h0 : 0 ≤ x) (h1 : x.toNat < (ia A a).length) : zX d 0 1110 ls (zI x :: zO (some a) :: st) A K = zX d 0 1111 ls (zI ((ia A a).getD x.toNat 0) :: st) A K := zx_iald z0 dL_law_1110 rfl h h0 h1
theorem s0_1110s (h : tg A a = 30) (h0 : 0 ≤ x) (h1 : x.toNat < (ia A a).length) : zX d 0 1110 ls (zI x :: zO (some a) :: st) A K = zX d 0 1111 ls (zI ((ia A a).getD x.toNat 0) :: st) A K := zx_sald z0 dL_law_1110 rfl h h0 h1
theorem s0_1111 : zX d 0 1111 [zO o, v1, v2, v3] st A K = zX d 0 1112 [zO o, v1, v2, v3] (zO o :: st) A K := zx_aload_n z0 dL_law_1111 rfl rfl
theorem s0_1112 : zX d 0 1112 [v0, v1, v2, zI x] st A K = zX d 0 1113 [v0, v1, v2, zI x] (zI x :: st) A K := zx_iload_n z0 dL_law_1112 rfl rfl
theorem s0_1113 : zX d 0 1113 ls st A K = zX d 0 1114 ls (zI 2 :: st) A K := zx_const z0 dL_law_1113 (by decide) rfl
theorem s0_1114 : zX d 0 1114 ls (zI y :: zI x :: st) A K = zX d 0 1115 ls (zI (zw (x + y)) :: st) A K := zx_iadd z0 dL_law_1114 rfl
theorem s0_1115 (h : tg A a = 20) (h0 : 0 ≤ x) (h1 : x.toNat < (ia A a).length) : zX d 0 1115 ls (zI x :: zO (some a) :: st) A K = zX d 0 1116 ls (zI ((ia A a).getD x.toNat 0) :: st) A K := zx_iald z0 dL_law_1115 rfl h h0 h1
theorem s0_1115s (h : tg A a = 30) (h0 : 0 ≤ x) (h1 : x.toNat < (ia A a).length) : zX d 0 1115 ls (zI x :: zO (some a) :: st) A K = zX d 0 1116 ls (zI ((ia A a).getD x.toNat 0) :: st) A K := zx_sald z0 dL_law_1115 rfl h h0 h1
theorem s0_1116 (h : tg A a = 1)  : zX (d + 1) 0 1116 ls (zI i1 :: zI i0 :: zO (some a) :: []) A K = zX d 75 0 [zO (some a), zI i0, zI i1, zU, zU] [] A (zK (d + 1) 0 1116 1119 ls [] K) := zx_callV (t := 1) z0 zo0 dL_law_1116 rfl C1_165 rfl rfl zm75 rfl rfl (zwt_le (Nat.le_of_ble_eq_true rfl)) rfl h
theorem s0_1119 : zX d 0 1119 [v0, v1, zO o, v3] st A K = zX d 0 1120 [v0, v1, zO o, v3] (zO o :: st) A K := zx_aload_n z0 dL_law_1119 rfl rfl
theorem s0_1120 : zX d 0 1120 [zO o, v1, v2, v3] st A K = zX d 0 1121 [zO o, v1, v2, v3] (zO o :: st) A K := zx_aload_n z0 dL_law_1120 rfl rfl
theorem s0_1121 : zX d 0 1121 [v0, v1, v2, zI x] st A K = zX d 0 1122 [v0, v1, v2, zI x] (zI x :: st) A K := zx_iload_n z0 dL_law_1121 rfl rfl
theorem s0_1122 : zX d 0 1122 ls st A K = zX d 0 1123 ls (zI 1 :: st) A K := zx_const z0 dL_law_1122 (by decide) rfl
theorem s0_1123 : zX d 0 1123 ls (zI y :: zI x :: st) A K = zX d 0 1124 ls (zI (zw (x + y)) :: st) A K := zx_iadd z0 dL_law_1123 rfl
theorem s0_1124 (h : tg A a = 20) (h0 : 0 ≤ x) (h1 : x.toNat < (ia A a).length) : zX d 0 1124 ls (zI x :: zO (some a) :: st) A K = zX d 0 1125 ls (zI ((ia A a).getD x.toNat 0) :: st) A K := zx_iald z0 dL_law_1124 rfl h h0 h1
theorem s0_1124s (h : tg A a = 30) (h0 : 0 ≤ x) (h1 : x.toNat < (ia A a).length) : zX d 0 1124 ls (zI x :: zO (some a) :: st) A K = zX d 0 1125 ls (zI ((ia A a).getD x.toNat 0) :: st) A K := zx_sald z0 dL_law_1124 rfl h h0 h1
theorem s0_1125 : zX d 0 1125 [zO o, v1, v2, v3] st A K = zX d 0 1126 [zO o, v1, v2, v3] (zO o :: st) A K := zx_aload_n z0 dL_law_1125 rfl rfl
theorem s0_1126 : zX d 0 1126 [v0, v1, v2, zI x] st A K = zX d 0 1127 [v0, v1, v2, zI x] (zI x :: st) A K := zx_iload_n z0 dL_law_1126 rfl rfl
theorem s0_1127 : zX d 0 1127 ls st A K = zX d 0 1128 ls (zI 2 :: st) A K := zx_const z0 dL_law_1127 (by decide) rfl
theorem s0_1128 : zX d 0 1128 ls (zI y :: zI x :: st) A K = zX d 0 1129 ls (zI (zw (x + y)) :: st) A K := zx_iadd z0 dL_law_1128 rfl
theorem s0_1129 (h : tg A a = 20) (h0 : 0 ≤ x) (h1 : x.toNat < (ia A a).length) : zX d 0 1129 ls (zI x :: zO (some a) :: st) A K = zX d 0 1130 ls (zI ((ia A a).getD x.toNat 0) :: st) A K := zx_iald z0 dL_law_1129 rfl h h0 h1
theorem s0_1129s (h : tg A a = 30) (h0 : 0 ≤ x) (h1 : x.toNat < (ia A a).length) : zX d 0 1129 ls (zI x :: zO (some a) :: st) A K = zX d 0 1130 ls (zI ((ia A a).getD x.toNat 0) :: st) A K := zx_sald z0 dL_law_1129 rfl h h0 h1
theorem s0_1130 (h : tg A a = 9)  : zX (d + 1) 0 1130 ls (zI i1 :: zI i0 :: zO (some a) :: [w0]) A K = zX d 214 0 [zO (some a), zI i0, zI i1, zU, zU, zU] [] A (zK (d + 1) 0 1130 1133 ls [w0] K) := zx_callV (t := 9) z0 zo0 dL_law_1130 rfl C1_168 rfl rfl zm214 rfl rfl (zwt_le (Nat.le_of_ble_eq_true rfl)) rfl h
theorem s0_1133 : zX d 0 1133 ls (zI y :: zI x :: st) A K = (if x = y then zX d 0 1401 ls st A K else zX d 0 1136 ls st A K) := zx_ic_eq z0 dL_law_1133 rfl rfl
theorem s0_1136 : zX d 0 1136 ls st A K = zX d 0 1137 ls (zI 0 :: st) A K := zx_const z0 dL_law_1136 (by decide) rfl
theorem s0_1137 (h : x = 0 ∨ x = 1) : zX d 0 1137 ls [zI x] A K = K (Sum.inl (some (zI x))) A := zx_iret z0 dL_law_1137 zk0 (by rcases h with q | q <;> subst q <;> rfl)
theorem s0_1138 : zX d 0 1138 [v0, zO o, v2, v3] st A K = zX d 0 1139 [v0, zO o, v2, v3] (zO o :: st) A K := zx_aload_n z0 dL_law_1138 rfl rfl
theorem s0_1139 : zX d 0 1139 [zO o, v1, v2, v3] st A K = zX d 0 1140 [zO o, v1, v2, v3] (zO o :: st) A K := zx_aload_n z0 dL_law_1139 rfl rfl
theorem s0_1140 : zX d 0 1140 [v0, v1, v2, zI x] st A K = zX d 0 1141 [v0, v1, v2, zI x] (zI x :: st) A K := zx_iload_n z0 dL_law_1140 rfl rfl
theorem s0_1141 : zX d 0 1141 ls st A K = zX d 0 1142 ls (zI 1 :: st) A K := zx_const z0 dL_law_1141 (by decide) rfl
theorem s0_1142 : zX d 0 1142 ls (zI y :: zI x :: st) A K = zX d 0 1143 ls (zI (zw (x + y)) :: st) A K := zx_iadd z0 dL_law_1142 rfl
theorem s0_1143 (h : tg A a = 20) (h0 : 0 ≤ x) (h1 : x.toNat < (ia A a).length) : zX d 0 1143 ls (zI x :: zO (some a) :: st) A K = zX d 0 1144 ls (zI ((ia A a).getD x.toNat 0) :: st) A K := zx_iald z0 dL_law_1143 rfl h h0 h1
theorem s0_1143s (h : tg A a = 30) (h0 : 0 ≤ x) (h1 : x.toNat < (ia A a).length) : zX d 0 1143 ls (zI x :: zO (some a) :: st) A K = zX d 0 1144 ls (zI ((ia A a).getD x.toNat 0) :: st) A K := zx_sald z0 dL_law_1143 rfl h h0 h1
theorem s0_1144 : zX d 0 1144 [zO o, v1, v2, v3] st A K = zX d 0 1145 [zO o, v1, v2, v3] (zO o :: st) A K := zx_aload_n z0 dL_law_1144 rfl rfl
theorem s0_1145 : zX d 0 1145 [v0, v1, v2, zI x] st A K = zX d 0 1146 [v0, v1, v2, zI x] (zI x :: st) A K := zx_iload_n z0 dL_law_1145 rfl rfl
theorem s0_1146 : zX d 0 1146 ls st A K = zX d 0 1147 ls (zI 2 :: st) A K := zx_const z0 dL_law_1146 (by decide) rfl
theorem s0_1147 : zX d 0 1147 ls (zI y :: zI x :: st) A K = zX d 0 1148 ls (zI (zw (x + y)) :: st) A K := zx_iadd z0 dL_law_1147 rfl
theorem s0_1148 (h : tg A a = 20) (h0 : 0 ≤ x) (h1 : x.toNat < (ia A a).length) : zX d 0 1148 ls (zI x :: zO (some a) :: st) A K = zX d 0 1149 ls (zI ((ia A a).getD x.toNat 0) :: st) A K := zx_iald z0 dL_law_1148 rfl h h0 h1
theorem s0_1148s (h : tg A a = 30) (h0 : 0 ≤ x) (h1 : x.toNat < (ia A a).length) : zX d 0 1148 ls (zI x :: zO (some a) :: st) A K = zX d 0 1149 ls (zI ((ia A a).getD x.toNat 0) :: st) A K := zx_sald z0 dL_law_1148 rfl h h0 h1
theorem s0_1149 (h : tg A a = 1)  : zX (d + 1) 0 1149 ls (zI i1 :: zI i0 :: zO (some a) :: []) A K = zX d 78 0 [zO (some a), zI i0, zI i1, zU, zU] [] A (zK (d + 1) 0 1149 1152 ls [] K) := zx_callV (t := 1) z0 zo0 dL_law_1149 rfl C1_169 rfl rfl zm78 rfl rfl (zwt_le (Nat.le_of_ble_eq_true rfl)) rfl h
theorem s0_1152 : zX d 0 1152 [v0, v1, zO o, v3] st A K = zX d 0 1153 [v0, v1, zO o, v3] (zO o :: st) A K := zx_aload_n z0 dL_law_1152 rfl rfl
theorem s0_1153 : zX d 0 1153 [zO o, v1, v2, v3] st A K = zX d 0 1154 [zO o, v1, v2, v3] (zO o :: st) A K := zx_aload_n z0 dL_law_1153 rfl rfl
theorem s0_1154 : zX d 0 1154 [v0, v1, v2, zI x] st A K = zX d 0 1155 [v0, v1, v2, zI x] (zI x :: st) A K := zx_iload_n z0 dL_law_1154 rfl rfl
theorem s0_1155 : zX d 0 1155 ls st A K = zX d 0 1156 ls (zI 1 :: st) A K := zx_const z0 dL_law_1155 (by decide) rfl
theorem s0_1156 : zX d 0 1156 ls (zI y :: zI x :: st) A K = zX d 0 1157 ls (zI (zw (x + y)) :: st) A K := zx_iadd z0 dL_law_1156 rfl
theorem s0_1157 (h : tg A a = 20) (h0 : 0 ≤ x) (h1 : x.toNat < (ia A a).length) : zX d 0 1157 ls (zI x :: zO (some a) :: st) A K = zX d 0 1158 ls (zI ((ia A a).getD x.toNat 0) :: st) A K := zx_iald z0 dL_law_1157 rfl h h0 h1
theorem s0_1157s (h : tg A a = 30) (h0 : 0 ≤ x) (h1 : x.toNat < (ia A a).length) : zX d 0 1157 ls (zI x :: zO (some a) :: st) A K = zX d 0 1158 ls (zI ((ia A a).getD x.toNat 0) :: st) A K := zx_sald z0 dL_law_1157 rfl h h0 h1
theorem s0_1158 : zX d 0 1158 [zO o, v1, v2, v3] st A K = zX d 0 1159 [zO o, v1, v2, v3] (zO o :: st) A K := zx_aload_n z0 dL_law_1158 rfl rfl
theorem s0_1159 : zX d 0 1159 [v0, v1, v2, zI x] st A K = zX d 0 1160 [v0, v1, v2, zI x] (zI x :: st) A K := zx_iload_n z0 dL_law_1159 rfl rfl
theorem s0_1160 : zX d 0 1160 ls st A K = zX d 0 1161 ls (zI 2 :: st) A K := zx_const z0 dL_law_1160 (by decide) rfl
theorem s0_1161 : zX d 0 1161 ls (zI y :: zI x :: st) A K = zX d 0 1162 ls (zI (zw (x + y)) :: st) A K := zx_iadd z0 dL_law_1161 rfl
theorem s0_1162 (h : tg A a = 20) (h0 : 0 ≤ x) (h1 : x.toNat < (ia A a).length) : zX d 0 1162 ls (zI x :: zO (some a) :: st) A K = zX d 0 1163 ls (zI ((ia A a).getD x.toNat 0) :: st) A K := zx_iald z0 dL_law_1162 rfl h h0 h1
theorem s0_1162s (h : tg A a = 30) (h0 : 0 ≤ x) (h1 : x.toNat < (ia A a).length) : zX d 0 1162 ls (zI x :: zO (some a) :: st) A K = zX d 0 1163 ls (zI ((ia A a).getD x.toNat 0) :: st) A K := zx_sald z0 dL_law_1162 rfl h h0 h1
theorem s0_1163 (h : tg A a = 9)  : zX (d + 1) 0 1163 ls (zI i1 :: zI i0 :: zO (some a) :: [w0]) A K = zX d 215 0 [zO (some a), zI i0, zI i1, zU, zU, zU] [] A (zK (d + 1) 0 1163 1166 ls [w0] K) := zx_callV (t := 9) z0 zo0 dL_law_1163 rfl C1_172 rfl rfl zm215 rfl rfl (zwt_le (Nat.le_of_ble_eq_true rfl)) rfl h
theorem s0_1166 : zX d 0 1166 ls (zI y :: zI x :: st) A K = (if x = y then zX d 0 1401 ls st A K else zX d 0 1169 ls st A K) := zx_ic_eq z0 dL_law_1166 rfl rfl
theorem s0_1169 : zX d 0 1169 ls st A K = zX d 0 1170 ls (zI 0 :: st) A K := zx_const z0 dL_law_1169 (by decide) rfl
theorem s0_1170 (h : x = 0 ∨ x = 1) : zX d 0 1170 ls [zI x] A K = K (Sum.inl (some (zI x))) A := zx_iret z0 dL_law_1170 zk0 (by rcases h with q | q <;> subst q <;> rfl)
theorem s0_1171 : zX d 0 1171 [v0, zO o, v2, v3] st A K = zX d 0 1172 [v0, zO o, v2, v3] (zO o :: st) A K := zx_aload_n z0 dL_law_1171 rfl rfl
theorem s0_1172 : zX d 0 1172 [zO o, v1, v2, v3] st A K = zX d 0 1173 [zO o, v1, v2, v3] (zO o :: st) A K := zx_aload_n z0 dL_law_1172 rfl rfl
theorem s0_1173 : zX d 0 1173 [v0, v1, v2, zI x] st A K = zX d 0 1174 [v0, v1, v2, zI x] (zI x :: st) A K := zx_iload_n z0 dL_law_1173 rfl rfl
theorem s0_1174 : zX d 0 1174 ls st A K = zX d 0 1175 ls (zI 1 :: st) A K := zx_const z0 dL_law_1174 (by decide) rfl
theorem s0_1175 : zX d 0 1175 ls (zI y :: zI x :: st) A K = zX d 0 1176 ls (zI (zw (x + y)) :: st) A K := zx_iadd z0 dL_law_1175 rfl
theorem s0_1176 (h : tg A a = 20) (h0 : 0 ≤ x) (h1 : x.toNat < (ia A a).length) : zX d 0 1176 ls (zI x :: zO (some a) :: st) A K = zX d 0 1177 ls (zI ((ia A a).getD x.toNat 0) :: st) A K := zx_iald z0 dL_law_1176 rfl h h0 h1
theorem s0_1176s (h : tg A a = 30) (h0 : 0 ≤ x) (h1 : x.toNat < (ia A a).length) : zX d 0 1176 ls (zI x :: zO (some a) :: st) A K = zX d 0 1177 ls (zI ((ia A a).getD x.toNat 0) :: st) A K := zx_sald z0 dL_law_1176 rfl h h0 h1
theorem s0_1177 : zX d 0 1177 [zO o, v1, v2, v3] st A K = zX d 0 1178 [zO o, v1, v2, v3] (zO o :: st) A K := zx_aload_n z0 dL_law_1177 rfl rfl
theorem s0_1178 : zX d 0 1178 [v0, v1, v2, zI x] st A K = zX d 0 1179 [v0, v1, v2, zI x] (zI x :: st) A K := zx_iload_n z0 dL_law_1178 rfl rfl
theorem s0_1179 : zX d 0 1179 ls st A K = zX d 0 1180 ls (zI 2 :: st) A K := zx_const z0 dL_law_1179 (by decide) rfl
theorem s0_1180 : zX d 0 1180 ls (zI y :: zI x :: st) A K = zX d 0 1181 ls (zI (zw (x + y)) :: st) A K := zx_iadd z0 dL_law_1180 rfl
theorem s0_1181 (h : tg A a = 20) (h0 : 0 ≤ x) (h1 : x.toNat < (ia A a).length) : zX d 0 1181 ls (zI x :: zO (some a) :: st) A K = zX d 0 1182 ls (zI ((ia A a).getD x.toNat 0) :: st) A K := zx_iald z0 dL_law_1181 rfl h h0 h1
theorem s0_1181s (h : tg A a = 30) (h0 : 0 ≤ x) (h1 : x.toNat < (ia A a).length) : zX d 0 1181 ls (zI x :: zO (some a) :: st) A K = zX d 0 1182 ls (zI ((ia A a).getD x.toNat 0) :: st) A K := zx_sald z0 dL_law_1181 rfl h h0 h1
theorem s0_1182 (h : tg A a = 1)  : zX (d + 1) 0 1182 ls (zI i1 :: zI i0 :: zO (some a) :: []) A K = zX d 80 0 [zO (some a), zI i0, zI i1, zU] [] A (zK (d + 1) 0 1182 1185 ls [] K) := zx_callV (t := 1) z0 zo0 dL_law_1182 rfl C1_173 rfl rfl zm80 rfl rfl (zwt_le (Nat.le_of_ble_eq_true rfl)) rfl h
theorem s0_1185 : zX d 0 1185 [v0, v1, zO o, v3] st A K = zX d 0 1186 [v0, v1, zO o, v3] (zO o :: st) A K := zx_aload_n z0 dL_law_1185 rfl rfl
theorem s0_1186 : zX d 0 1186 [zO o, v1, v2, v3] st A K = zX d 0 1187 [zO o, v1, v2, v3] (zO o :: st) A K := zx_aload_n z0 dL_law_1186 rfl rfl
theorem s0_1187 : zX d 0 1187 [v0, v1, v2, zI x] st A K = zX d 0 1188 [v0, v1, v2, zI x] (zI x :: st) A K := zx_iload_n z0 dL_law_1187 rfl rfl
theorem s0_1188 : zX d 0 1188 ls st A K = zX d 0 1189 ls (zI 1 :: st) A K := zx_const z0 dL_law_1188 (by decide) rfl
theorem s0_1189 : zX d 0 1189 ls (zI y :: zI x :: st) A K = zX d 0 1190 ls (zI (zw (x + y)) :: st) A K := zx_iadd z0 dL_law_1189 rfl
theorem s0_1190 (h : tg A a = 20) (h0 : 0 ≤ x) (h1 : x.toNat < (ia A a).length) : zX d 0 1190 ls (zI x :: zO (some a) :: st) A K = zX d 0 1191 ls (zI ((ia A a).getD x.toNat 0) :: st) A K := zx_iald z0 dL_law_1190 rfl h h0 h1
theorem s0_1190s (h : tg A a = 30) (h0 : 0 ≤ x) (h1 : x.toNat < (ia A a).length) : zX d 0 1190 ls (zI x :: zO (some a) :: st) A K = zX d 0 1191 ls (zI ((ia A a).getD x.toNat 0) :: st) A K := zx_sald z0 dL_law_1190 rfl h h0 h1
theorem s0_1191 : zX d 0 1191 [zO o, v1, v2, v3] st A K = zX d 0 1192 [zO o, v1, v2, v3] (zO o :: st) A K := zx_aload_n z0 dL_law_1191 rfl rfl
theorem s0_1192 : zX d 0 1192 [v0, v1, v2, zI x] st A K = zX d 0 1193 [v0, v1, v2, zI x] (zI x :: st) A K := zx_iload_n z0 dL_law_1192 rfl rfl
theorem s0_1193 : zX d 0 1193 ls st A K = zX d 0 1194 ls (zI 2 :: st) A K := zx_const z0 dL_law_1193 (by decide) rfl
theorem s0_1194 : zX d 0 1194 ls (zI y :: zI x :: st) A K = zX d 0 1195 ls (zI (zw (x + y)) :: st) A K := zx_iadd z0 dL_law_1194 rfl
theorem s0_1195 (h : tg A a = 20) (h0 : 0 ≤ x) (h1 : x.toNat < (ia A a).length) : zX d 0 1195 ls (zI x :: zO (some a) :: st) A K = zX d 0 1196 ls (zI ((ia A a).getD x.toNat 0) :: st) A K := zx_iald z0 dL_law_1195 rfl h h0 h1
theorem s0_1195s (h : tg A a = 30) (h0 : 0 ≤ x) (h1 : x.toNat < (ia A a).length) : zX d 0 1195 ls (zI x :: zO (some a) :: st) A K = zX d 0 1196 ls (zI ((ia A a).getD x.toNat 0) :: st) A K := zx_sald z0 dL_law_1195 rfl h h0 h1
theorem s0_1196 (h : tg A a = 9)  : zX (d + 1) 0 1196 ls (zI i1 :: zI i0 :: zO (some a) :: [w0]) A K = zX d 218 0 [zO (some a), zI i0, zI i1, zU] [] A (zK (d + 1) 0 1196 1199 ls [w0] K) := zx_callV (t := 9) z0 zo0 dL_law_1196 rfl C1_176 rfl rfl zm218 rfl rfl (zwt_le (Nat.le_of_ble_eq_true rfl)) rfl h
theorem s0_1199 : zX d 0 1199 ls (zI y :: zI x :: st) A K = (if x = y then zX d 0 1401 ls st A K else zX d 0 1202 ls st A K) := zx_ic_eq z0 dL_law_1199 rfl rfl
theorem s0_1202 : zX d 0 1202 ls st A K = zX d 0 1203 ls (zI 0 :: st) A K := zx_const z0 dL_law_1202 (by decide) rfl
theorem s0_1203 (h : x = 0 ∨ x = 1) : zX d 0 1203 ls [zI x] A K = K (Sum.inl (some (zI x))) A := zx_iret z0 dL_law_1203 zk0 (by rcases h with q | q <;> subst q <;> rfl)
theorem s0_1204 : zX d 0 1204 [v0, zO o, v2, v3] st A K = zX d 0 1205 [v0, zO o, v2, v3] (zO o :: st) A K := zx_aload_n z0 dL_law_1204 rfl rfl
theorem s0_1205 : zX d 0 1205 [zO o, v1, v2, v3] st A K = zX d 0 1206 [zO o, v1, v2, v3] (zO o :: st) A K := zx_aload_n z0 dL_law_1205 rfl rfl
theorem s0_1206 : zX d 0 1206 [v0, v1, v2, zI x] st A K = zX d 0 1207 [v0, v1, v2, zI x] (zI x :: st) A K := zx_iload_n z0 dL_law_1206 rfl rfl
theorem s0_1207 : zX d 0 1207 ls st A K = zX d 0 1208 ls (zI 1 :: st) A K := zx_const z0 dL_law_1207 (by decide) rfl
theorem s0_1208 : zX d 0 1208 ls (zI y :: zI x :: st) A K = zX d 0 1209 ls (zI (zw (x + y)) :: st) A K := zx_iadd z0 dL_law_1208 rfl
theorem s0_1209 (h : tg A a = 20) (h0 : 0 ≤ x) (h1 : x.toNat < (ia A a).length) : zX d 0 1209 ls (zI x :: zO (some a) :: st) A K = zX d 0 1210 ls (zI ((ia A a).getD x.toNat 0) :: st) A K := zx_iald z0 dL_law_1209 rfl h h0 h1
theorem s0_1209s (h : tg A a = 30) (h0 : 0 ≤ x) (h1 : x.toNat < (ia A a).length) : zX d 0 1209 ls (zI x :: zO (some a) :: st) A K = zX d 0 1210 ls (zI ((ia A a).getD x.toNat 0) :: st) A K := zx_sald z0 dL_law_1209 rfl h h0 h1
theorem s0_1210 : zX d 0 1210 [zO o, v1, v2, v3] st A K = zX d 0 1211 [zO o, v1, v2, v3] (zO o :: st) A K := zx_aload_n z0 dL_law_1210 rfl rfl
theorem s0_1211 : zX d 0 1211 [v0, v1, v2, zI x] st A K = zX d 0 1212 [v0, v1, v2, zI x] (zI x :: st) A K := zx_iload_n z0 dL_law_1211 rfl rfl
theorem s0_1212 : zX d 0 1212 ls st A K = zX d 0 1213 ls (zI 2 :: st) A K := zx_const z0 dL_law_1212 (by decide) rfl
theorem s0_1213 : zX d 0 1213 ls (zI y :: zI x :: st) A K = zX d 0 1214 ls (zI (zw (x + y)) :: st) A K := zx_iadd z0 dL_law_1213 rfl
theorem s0_1214 (h : tg A a = 20) (h0 : 0 ≤ x) (h1 : x.toNat < (ia A a).length) : zX d 0 1214 ls (zI x :: zO (some a) :: st) A K = zX d 0 1215 ls (zI ((ia A a).getD x.toNat 0) :: st) A K := zx_iald z0 dL_law_1214 rfl h h0 h1
theorem s0_1214s (h : tg A a = 30) (h0 : 0 ≤ x) (h1 : x.toNat < (ia A a).length) : zX d 0 1214 ls (zI x :: zO (some a) :: st) A K = zX d 0 1215 ls (zI ((ia A a).getD x.toNat 0) :: st) A K := zx_sald z0 dL_law_1214 rfl h h0 h1
theorem s0_1215 (h : tg A a = 1)  : zX (d + 1) 0 1215 ls (zI i1 :: zI i0 :: zO (some a) :: []) A K = zX d 83 0 [zO (some a), zI i0, zI i1, zU, zU, zU, zU] [] A (zK (d + 1) 0 1215 1218 ls [] K) := zx_callV (t := 1) z0 zo0 dL_law_1215 rfl C1_177 rfl rfl zm83 rfl rfl (zwt_le (Nat.le_of_ble_eq_true rfl)) rfl h
theorem s0_1218 : zX d 0 1218 [v0, v1, zO o, v3] st A K = zX d 0 1219 [v0, v1, zO o, v3] (zO o :: st) A K := zx_aload_n z0 dL_law_1218 rfl rfl
theorem s0_1219 : zX d 0 1219 [zO o, v1, v2, v3] st A K = zX d 0 1220 [zO o, v1, v2, v3] (zO o :: st) A K := zx_aload_n z0 dL_law_1219 rfl rfl
theorem s0_1220 : zX d 0 1220 [v0, v1, v2, zI x] st A K = zX d 0 1221 [v0, v1, v2, zI x] (zI x :: st) A K := zx_iload_n z0 dL_law_1220 rfl rfl
theorem s0_1221 : zX d 0 1221 ls st A K = zX d 0 1222 ls (zI 1 :: st) A K := zx_const z0 dL_law_1221 (by decide) rfl
theorem s0_1222 : zX d 0 1222 ls (zI y :: zI x :: st) A K = zX d 0 1223 ls (zI (zw (x + y)) :: st) A K := zx_iadd z0 dL_law_1222 rfl
theorem s0_1223 (h : tg A a = 20) (h0 : 0 ≤ x) (h1 : x.toNat < (ia A a).length) : zX d 0 1223 ls (zI x :: zO (some a) :: st) A K = zX d 0 1224 ls (zI ((ia A a).getD x.toNat 0) :: st) A K := zx_iald z0 dL_law_1223 rfl h h0 h1
theorem s0_1223s (h : tg A a = 30) (h0 : 0 ≤ x) (h1 : x.toNat < (ia A a).length) : zX d 0 1223 ls (zI x :: zO (some a) :: st) A K = zX d 0 1224 ls (zI ((ia A a).getD x.toNat 0) :: st) A K := zx_sald z0 dL_law_1223 rfl h h0 h1
theorem s0_1224 : zX d 0 1224 [zO o, v1, v2, v3] st A K = zX d 0 1225 [zO o, v1, v2, v3] (zO o :: st) A K := zx_aload_n z0 dL_law_1224 rfl rfl
theorem s0_1225 : zX d 0 1225 [v0, v1, v2, zI x] st A K = zX d 0 1226 [v0, v1, v2, zI x] (zI x :: st) A K := zx_iload_n z0 dL_law_1225 rfl rfl
theorem s0_1226 : zX d 0 1226 ls st A K = zX d 0 1227 ls (zI 2 :: st) A K := zx_const z0 dL_law_1226 (by decide) rfl
theorem s0_1227 : zX d 0 1227 ls (zI y :: zI x :: st) A K = zX d 0 1228 ls (zI (zw (x + y)) :: st) A K := zx_iadd z0 dL_law_1227 rfl
theorem s0_1228 (h : tg A a = 20) (h0 : 0 ≤ x) (h1 : x.toNat < (ia A a).length) : zX d 0 1228 ls (zI x :: zO (some a) :: st) A K = zX d 0 1229 ls (zI ((ia A a).getD x.toNat 0) :: st) A K := zx_iald z0 dL_law_1228 rfl h h0 h1
theorem s0_1228s (h : tg A a = 30) (h0 : 0 ≤ x) (h1 : x.toNat < (ia A a).length) : zX d 0 1228 ls (zI x :: zO (some a) :: st) A K = zX d 0 1229 ls (zI ((ia A a).getD x.toNat 0) :: st) A K := zx_sald z0 dL_law_1228 rfl h h0 h1
theorem s0_1229 (h : tg A a = 9)  : zX (d + 1) 0 1229 ls (zI i1 :: zI i0 :: zO (some a) :: [w0]) A K = zX d 222 0 [zO (some a), zI i0, zI i1, zU, zU, zU] [] A (zK (d + 1) 0 1229 1232 ls [w0] K) := zx_callV (t := 9) z0 zo0 dL_law_1229 rfl C1_180 rfl rfl zm222 rfl rfl (zwt_le (Nat.le_of_ble_eq_true rfl)) rfl h
theorem s0_1232 : zX d 0 1232 ls (zI y :: zI x :: st) A K = (if x = y then zX d 0 1401 ls st A K else zX d 0 1235 ls st A K) := zx_ic_eq z0 dL_law_1232 rfl rfl
theorem s0_1235 : zX d 0 1235 ls st A K = zX d 0 1236 ls (zI 0 :: st) A K := zx_const z0 dL_law_1235 (by decide) rfl
theorem s0_1236 (h : x = 0 ∨ x = 1) : zX d 0 1236 ls [zI x] A K = K (Sum.inl (some (zI x))) A := zx_iret z0 dL_law_1236 zk0 (by rcases h with q | q <;> subst q <;> rfl)
theorem s0_1237 : zX d 0 1237 [v0, zO o, v2, v3] st A K = zX d 0 1238 [v0, zO o, v2, v3] (zO o :: st) A K := zx_aload_n z0 dL_law_1237 rfl rfl
theorem s0_1238 : zX d 0 1238 [zO o, v1, v2, v3] st A K = zX d 0 1239 [zO o, v1, v2, v3] (zO o :: st) A K := zx_aload_n z0 dL_law_1238 rfl rfl
theorem s0_1239 : zX d 0 1239 [v0, v1, v2, zI x] st A K = zX d 0 1240 [v0, v1, v2, zI x] (zI x :: st) A K := zx_iload_n z0 dL_law_1239 rfl rfl
theorem s0_1240 : zX d 0 1240 ls st A K = zX d 0 1241 ls (zI 1 :: st) A K := zx_const z0 dL_law_1240 (by decide) rfl
theorem s0_1241 : zX d 0 1241 ls (zI y :: zI x :: st) A K = zX d 0 1242 ls (zI (zw (x + y)) :: st) A K := zx_iadd z0 dL_law_1241 rfl
theorem s0_1242 (h : tg A a = 20) (h0 : 0 ≤ x) (h1 : x.toNat < (ia A a).length) : zX d 0 1242 ls (zI x :: zO (some a) :: st) A K = zX d 0 1243 ls (zI ((ia A a).getD x.toNat 0) :: st) A K := zx_iald z0 dL_law_1242 rfl h h0 h1
theorem s0_1242s (h : tg A a = 30) (h0 : 0 ≤ x) (h1 : x.toNat < (ia A a).length) : zX d 0 1242 ls (zI x :: zO (some a) :: st) A K = zX d 0 1243 ls (zI ((ia A a).getD x.toNat 0) :: st) A K := zx_sald z0 dL_law_1242 rfl h h0 h1
theorem s0_1243 : zX d 0 1243 [zO o, v1, v2, v3] st A K = zX d 0 1244 [zO o, v1, v2, v3] (zO o :: st) A K := zx_aload_n z0 dL_law_1243 rfl rfl
theorem s0_1244 : zX d 0 1244 [v0, v1, v2, zI x] st A K = zX d 0 1245 [v0, v1, v2, zI x] (zI x :: st) A K := zx_iload_n z0 dL_law_1244 rfl rfl
theorem s0_1245 : zX d 0 1245 ls st A K = zX d 0 1246 ls (zI 2 :: st) A K := zx_const z0 dL_law_1245 (by decide) rfl
theorem s0_1246 : zX d 0 1246 ls (zI y :: zI x :: st) A K = zX d 0 1247 ls (zI (zw (x + y)) :: st) A K := zx_iadd z0 dL_law_1246 rfl
theorem s0_1247 (h : tg A a = 20) (h0 : 0 ≤ x) (h1 : x.toNat < (ia A a).length) : zX d 0 1247 ls (zI x :: zO (some a) :: st) A K = zX d 0 1248 ls (zI ((ia A a).getD x.toNat 0) :: st) A K := zx_iald z0 dL_law_1247 rfl h h0 h1
theorem s0_1247s (h : tg A a = 30) (h0 : 0 ≤ x) (h1 : x.toNat < (ia A a).length) : zX d 0 1247 ls (zI x :: zO (some a) :: st) A K = zX d 0 1248 ls (zI ((ia A a).getD x.toNat 0) :: st) A K := zx_sald z0 dL_law_1247 rfl h h0 h1
theorem s0_1248 (h : tg A a = 1)  : zX (d + 1) 0 1248 ls (zI i1 :: zI i0 :: zO (some a) :: []) A K = zX d 85 0 [zO (some a), zI i0, zI i1, zU] [] A (zK (d + 1) 0 1248 1251 ls [] K) := zx_callV (t := 1) z0 zo0 dL_law_1248 rfl C1_181 rfl rfl zm85 rfl rfl (zwt_le (Nat.le_of_ble_eq_true rfl)) rfl h
theorem s0_1251 : zX d 0 1251 [v0, v1, zO o, v3] st A K = zX d 0 1252 [v0, v1, zO o, v3] (zO o :: st) A K := zx_aload_n z0 dL_law_1251 rfl rfl
theorem s0_1252 : zX d 0 1252 [zO o, v1, v2, v3] st A K = zX d 0 1253 [zO o, v1, v2, v3] (zO o :: st) A K := zx_aload_n z0 dL_law_1252 rfl rfl
theorem s0_1253 : zX d 0 1253 [v0, v1, v2, zI x] st A K = zX d 0 1254 [v0, v1, v2, zI x] (zI x :: st) A K := zx_iload_n z0 dL_law_1253 rfl rfl
theorem s0_1254 : zX d 0 1254 ls st A K = zX d 0 1255 ls (zI 1 :: st) A K := zx_const z0 dL_law_1254 (by decide) rfl
theorem s0_1255 : zX d 0 1255 ls (zI y :: zI x :: st) A K = zX d 0 1256 ls (zI (zw (x + y)) :: st) A K := zx_iadd z0 dL_law_1255 rfl
theorem s0_1256 (h : tg A a = 20) (h0 : 0 ≤ x) (h1 : x.toNat < (ia A a).length) : zX d 0 1256 ls (zI x :: zO (some a) :: st) A K = zX d 0 1257 ls (zI ((ia A a).getD x.toNat 0) :: st) A K := zx_iald z0 dL_law_1256 rfl h h0 h1
theorem s0_1256s (h : tg A a = 30) (h0 : 0 ≤ x) (h1 : x.toNat < (ia A a).length) : zX d 0 1256 ls (zI x :: zO (some a) :: st) A K = zX d 0 1257 ls (zI ((ia A a).getD x.toNat 0) :: st) A K := zx_sald z0 dL_law_1256 rfl h h0 h1
theorem s0_1257 : zX d 0 1257 [zO o, v1, v2, v3] st A K = zX d 0 1258 [zO o, v1, v2, v3] (zO o :: st) A K := zx_aload_n z0 dL_law_1257 rfl rfl
theorem s0_1258 : zX d 0 1258 [v0, v1, v2, zI x] st A K = zX d 0 1259 [v0, v1, v2, zI x] (zI x :: st) A K := zx_iload_n z0 dL_law_1258 rfl rfl
theorem s0_1259 : zX d 0 1259 ls st A K = zX d 0 1260 ls (zI 2 :: st) A K := zx_const z0 dL_law_1259 (by decide) rfl
theorem s0_1260 : zX d 0 1260 ls (zI y :: zI x :: st) A K = zX d 0 1261 ls (zI (zw (x + y)) :: st) A K := zx_iadd z0 dL_law_1260 rfl
theorem s0_1261 (h : tg A a = 20) (h0 : 0 ≤ x) (h1 : x.toNat < (ia A a).length) : zX d 0 1261 ls (zI x :: zO (some a) :: st) A K = zX d 0 1262 ls (zI ((ia A a).getD x.toNat 0) :: st) A K := zx_iald z0 dL_law_1261 rfl h h0 h1
theorem s0_1261s (h : tg A a = 30) (h0 : 0 ≤ x) (h1 : x.toNat < (ia A a).length) : zX d 0 1261 ls (zI x :: zO (some a) :: st) A K = zX d 0 1262 ls (zI ((ia A a).getD x.toNat 0) :: st) A K := zx_sald z0 dL_law_1261 rfl h h0 h1
theorem s0_1262 (h : tg A a = 9)  : zX (d + 1) 0 1262 ls (zI i1 :: zI i0 :: zO (some a) :: [w0]) A K = zX d 224 0 [zO (some a), zI i0, zI i1, zU] [] A (zK (d + 1) 0 1262 1265 ls [w0] K) := zx_callV (t := 9) z0 zo0 dL_law_1262 rfl C1_184 rfl rfl zm224 rfl rfl (zwt_le (Nat.le_of_ble_eq_true rfl)) rfl h
theorem s0_1265 : zX d 0 1265 ls (zI y :: zI x :: st) A K = (if x = y then zX d 0 1401 ls st A K else zX d 0 1268 ls st A K) := zx_ic_eq z0 dL_law_1265 rfl rfl
theorem s0_1268 : zX d 0 1268 ls st A K = zX d 0 1269 ls (zI 0 :: st) A K := zx_const z0 dL_law_1268 (by decide) rfl
theorem s0_1269 (h : x = 0 ∨ x = 1) : zX d 0 1269 ls [zI x] A K = K (Sum.inl (some (zI x))) A := zx_iret z0 dL_law_1269 zk0 (by rcases h with q | q <;> subst q <;> rfl)
theorem s0_1270 : zX d 0 1270 [v0, zO o, v2, v3] st A K = zX d 0 1271 [v0, zO o, v2, v3] (zO o :: st) A K := zx_aload_n z0 dL_law_1270 rfl rfl
theorem s0_1271 : zX d 0 1271 [zO o, v1, v2, v3] st A K = zX d 0 1272 [zO o, v1, v2, v3] (zO o :: st) A K := zx_aload_n z0 dL_law_1271 rfl rfl
theorem s0_1272 : zX d 0 1272 [v0, v1, v2, zI x] st A K = zX d 0 1273 [v0, v1, v2, zI x] (zI x :: st) A K := zx_iload_n z0 dL_law_1272 rfl rfl
theorem s0_1273 : zX d 0 1273 ls st A K = zX d 0 1274 ls (zI 1 :: st) A K := zx_const z0 dL_law_1273 (by decide) rfl
theorem s0_1274 : zX d 0 1274 ls (zI y :: zI x :: st) A K = zX d 0 1275 ls (zI (zw (x + y)) :: st) A K := zx_iadd z0 dL_law_1274 rfl
theorem s0_1275 (h : tg A a = 20) (h0 : 0 ≤ x) (h1 : x.toNat < (ia A a).length) : zX d 0 1275 ls (zI x :: zO (some a) :: st) A K = zX d 0 1276 ls (zI ((ia A a).getD x.toNat 0) :: st) A K := zx_iald z0 dL_law_1275 rfl h h0 h1
theorem s0_1275s (h : tg A a = 30) (h0 : 0 ≤ x) (h1 : x.toNat < (ia A a).length) : zX d 0 1275 ls (zI x :: zO (some a) :: st) A K = zX d 0 1276 ls (zI ((ia A a).getD x.toNat 0) :: st) A K := zx_sald z0 dL_law_1275 rfl h h0 h1
theorem s0_1276 : zX d 0 1276 [zO o, v1, v2, v3] st A K = zX d 0 1277 [zO o, v1, v2, v3] (zO o :: st) A K := zx_aload_n z0 dL_law_1276 rfl rfl
theorem s0_1277 : zX d 0 1277 [v0, v1, v2, zI x] st A K = zX d 0 1278 [v0, v1, v2, zI x] (zI x :: st) A K := zx_iload_n z0 dL_law_1277 rfl rfl
theorem s0_1278 : zX d 0 1278 ls st A K = zX d 0 1279 ls (zI 2 :: st) A K := zx_const z0 dL_law_1278 (by decide) rfl
theorem s0_1279 : zX d 0 1279 ls (zI y :: zI x :: st) A K = zX d 0 1280 ls (zI (zw (x + y)) :: st) A K := zx_iadd z0 dL_law_1279 rfl
theorem s0_1280 (h : tg A a = 20) (h0 : 0 ≤ x) (h1 : x.toNat < (ia A a).length) : zX d 0 1280 ls (zI x :: zO (some a) :: st) A K = zX d 0 1281 ls (zI ((ia A a).getD x.toNat 0) :: st) A K := zx_iald z0 dL_law_1280 rfl h h0 h1
theorem s0_1280s (h : tg A a = 30) (h0 : 0 ≤ x) (h1 : x.toNat < (ia A a).length) : zX d 0 1280 ls (zI x :: zO (some a) :: st) A K = zX d 0 1281 ls (zI ((ia A a).getD x.toNat 0) :: st) A K := zx_sald z0 dL_law_1280 rfl h h0 h1
theorem s0_1281 : zX d 0 1281 [zO o, v1, v2, v3] st A K = zX d 0 1282 [zO o, v1, v2, v3] (zO o :: st) A K := zx_aload_n z0 dL_law_1281 rfl rfl
theorem s0_1282 : zX d 0 1282 [v0, v1, v2, zI x] st A K = zX d 0 1283 [v0, v1, v2, zI x] (zI x :: st) A K := zx_iload_n z0 dL_law_1282 rfl rfl
theorem s0_1283 : zX d 0 1283 ls st A K = zX d 0 1284 ls (zI 3 :: st) A K := zx_const z0 dL_law_1283 (by decide) rfl
theorem s0_1284 : zX d 0 1284 ls (zI y :: zI x :: st) A K = zX d 0 1285 ls (zI (zw (x + y)) :: st) A K := zx_iadd z0 dL_law_1284 rfl
theorem s0_1285 (h : tg A a = 20) (h0 : 0 ≤ x) (h1 : x.toNat < (ia A a).length) : zX d 0 1285 ls (zI x :: zO (some a) :: st) A K = zX d 0 1286 ls (zI ((ia A a).getD x.toNat 0) :: st) A K := zx_iald z0 dL_law_1285 rfl h h0 h1
theorem s0_1285s (h : tg A a = 30) (h0 : 0 ≤ x) (h1 : x.toNat < (ia A a).length) : zX d 0 1285 ls (zI x :: zO (some a) :: st) A K = zX d 0 1286 ls (zI ((ia A a).getD x.toNat 0) :: st) A K := zx_sald z0 dL_law_1285 rfl h h0 h1
theorem s0_1286 (h : tg A a = 1)  : zX (d + 1) 0 1286 ls (zI i2 :: zI i1 :: zI i0 :: zO (some a) :: []) A K = zX d 86 0 [zO (some a), zI i0, zI i1, zI i2, zU, zU, zU, zU, zU] [] A (zK (d + 1) 0 1286 1289 ls [] K) := zx_callV (t := 1) z0 zo0 dL_law_1286 rfl C1_185 rfl rfl zm86 rfl rfl (zwt_le (Nat.le_of_ble_eq_true rfl)) rfl h
theorem s0_1289 : zX d 0 1289 [v0, v1, zO o, v3] st A K = zX d 0 1290 [v0, v1, zO o, v3] (zO o :: st) A K := zx_aload_n z0 dL_law_1289 rfl rfl
theorem s0_1290 : zX d 0 1290 [zO o, v1, v2, v3] st A K = zX d 0 1291 [zO o, v1, v2, v3] (zO o :: st) A K := zx_aload_n z0 dL_law_1290 rfl rfl
theorem s0_1291 : zX d 0 1291 [v0, v1, v2, zI x] st A K = zX d 0 1292 [v0, v1, v2, zI x] (zI x :: st) A K := zx_iload_n z0 dL_law_1291 rfl rfl
theorem s0_1292 : zX d 0 1292 ls st A K = zX d 0 1293 ls (zI 1 :: st) A K := zx_const z0 dL_law_1292 (by decide) rfl
theorem s0_1293 : zX d 0 1293 ls (zI y :: zI x :: st) A K = zX d 0 1294 ls (zI (zw (x + y)) :: st) A K := zx_iadd z0 dL_law_1293 rfl
theorem s0_1294 (h : tg A a = 20) (h0 : 0 ≤ x) (h1 : x.toNat < (ia A a).length) : zX d 0 1294 ls (zI x :: zO (some a) :: st) A K = zX d 0 1295 ls (zI ((ia A a).getD x.toNat 0) :: st) A K := zx_iald z0 dL_law_1294 rfl h h0 h1
theorem s0_1294s (h : tg A a = 30) (h0 : 0 ≤ x) (h1 : x.toNat < (ia A a).length) : zX d 0 1294 ls (zI x :: zO (some a) :: st) A K = zX d 0 1295 ls (zI ((ia A a).getD x.toNat 0) :: st) A K := zx_sald z0 dL_law_1294 rfl h h0 h1
theorem s0_1295 : zX d 0 1295 [zO o, v1, v2, v3] st A K = zX d 0 1296 [zO o, v1, v2, v3] (zO o :: st) A K := zx_aload_n z0 dL_law_1295 rfl rfl
theorem s0_1296 : zX d 0 1296 [v0, v1, v2, zI x] st A K = zX d 0 1297 [v0, v1, v2, zI x] (zI x :: st) A K := zx_iload_n z0 dL_law_1296 rfl rfl
theorem s0_1297 : zX d 0 1297 ls st A K = zX d 0 1298 ls (zI 2 :: st) A K := zx_const z0 dL_law_1297 (by decide) rfl
theorem s0_1298 : zX d 0 1298 ls (zI y :: zI x :: st) A K = zX d 0 1299 ls (zI (zw (x + y)) :: st) A K := zx_iadd z0 dL_law_1298 rfl
theorem s0_1299 (h : tg A a = 20) (h0 : 0 ≤ x) (h1 : x.toNat < (ia A a).length) : zX d 0 1299 ls (zI x :: zO (some a) :: st) A K = zX d 0 1300 ls (zI ((ia A a).getD x.toNat 0) :: st) A K := zx_iald z0 dL_law_1299 rfl h h0 h1
theorem s0_1299s (h : tg A a = 30) (h0 : 0 ≤ x) (h1 : x.toNat < (ia A a).length) : zX d 0 1299 ls (zI x :: zO (some a) :: st) A K = zX d 0 1300 ls (zI ((ia A a).getD x.toNat 0) :: st) A K := zx_sald z0 dL_law_1299 rfl h h0 h1
theorem s0_1300 : zX d 0 1300 [zO o, v1, v2, v3] st A K = zX d 0 1301 [zO o, v1, v2, v3] (zO o :: st) A K := zx_aload_n z0 dL_law_1300 rfl rfl
theorem s0_1301 : zX d 0 1301 [v0, v1, v2, zI x] st A K = zX d 0 1302 [v0, v1, v2, zI x] (zI x :: st) A K := zx_iload_n z0 dL_law_1301 rfl rfl
theorem s0_1302 : zX d 0 1302 ls st A K = zX d 0 1303 ls (zI 3 :: st) A K := zx_const z0 dL_law_1302 (by decide) rfl
theorem s0_1303 : zX d 0 1303 ls (zI y :: zI x :: st) A K = zX d 0 1304 ls (zI (zw (x + y)) :: st) A K := zx_iadd z0 dL_law_1303 rfl
theorem s0_1304 (h : tg A a = 20) (h0 : 0 ≤ x) (h1 : x.toNat < (ia A a).length) : zX d 0 1304 ls (zI x :: zO (some a) :: st) A K = zX d 0 1305 ls (zI ((ia A a).getD x.toNat 0) :: st) A K := zx_iald z0 dL_law_1304 rfl h h0 h1
theorem s0_1304s (h : tg A a = 30) (h0 : 0 ≤ x) (h1 : x.toNat < (ia A a).length) : zX d 0 1304 ls (zI x :: zO (some a) :: st) A K = zX d 0 1305 ls (zI ((ia A a).getD x.toNat 0) :: st) A K := zx_sald z0 dL_law_1304 rfl h h0 h1
theorem s0_1305 (h : tg A a = 9)  : zX (d + 1) 0 1305 ls (zI i2 :: zI i1 :: zI i0 :: zO (some a) :: [w0]) A K = zX d 225 0 [zO (some a), zI i0, zI i1, zI i2, zU, zU, zU, zU] [] A (zK (d + 1) 0 1305 1308 ls [w0] K) := zx_callV (t := 9) z0 zo0 dL_law_1305 rfl C1_188 rfl rfl zm225 rfl rfl (zwt_le (Nat.le_of_ble_eq_true rfl)) rfl h
theorem s0_1308 : zX d 0 1308 ls (zI y :: zI x :: st) A K = (if x = y then zX d 0 1401 ls st A K else zX d 0 1311 ls st A K) := zx_ic_eq z0 dL_law_1308 rfl rfl
theorem s0_1311 : zX d 0 1311 ls st A K = zX d 0 1312 ls (zI 0 :: st) A K := zx_const z0 dL_law_1311 (by decide) rfl
theorem s0_1312 (h : x = 0 ∨ x = 1) : zX d 0 1312 ls [zI x] A K = K (Sum.inl (some (zI x))) A := zx_iret z0 dL_law_1312 zk0 (by rcases h with q | q <;> subst q <;> rfl)
theorem s0_1313 : zX d 0 1313 [v0, zO o, v2, v3] st A K = zX d 0 1314 [v0, zO o, v2, v3] (zO o :: st) A K := zx_aload_n z0 dL_law_1313 rfl rfl
theorem s0_1314 (h : tg A a = 1)  : zX (d + 1) 0 1314 ls (zO (some a) :: []) A K = zX d 87 0 [zO (some a), zU, zU, zU, zU, zU] [] A (zK (d + 1) 0 1314 1317 ls [] K) := zx_callV (t := 1) z0 zo0 dL_law_1314 rfl C1_189 rfl rfl zm87 rfl rfl (zwt_le (Nat.le_of_ble_eq_true rfl)) rfl h
theorem s0_1317 : zX d 0 1317 [v0, v1, zO o, v3] st A K = zX d 0 1318 [v0, v1, zO o, v3] (zO o :: st) A K := zx_aload_n z0 dL_law_1317 rfl rfl
theorem s0_1318 (h : tg A a = 9)  : zX (d + 1) 0 1318 ls (zO (some a) :: [w0]) A K = zX d 226 0 [zO (some a), zU, zU] [] A (zK (d + 1) 0 1318 1321 ls [w0] K) := zx_callV (t := 9) z0 zo0 dL_law_1318 rfl C1_192 rfl rfl zm226 rfl rfl (zwt_le (Nat.le_of_ble_eq_true rfl)) rfl h
theorem s0_1321 : zX d 0 1321 ls (zI y :: zI x :: st) A K = (if x = y then zX d 0 1401 ls st A K else zX d 0 1324 ls st A K) := zx_ic_eq z0 dL_law_1321 rfl rfl
theorem s0_1324 : zX d 0 1324 ls st A K = zX d 0 1325 ls (zI 0 :: st) A K := zx_const z0 dL_law_1324 (by decide) rfl
theorem s0_1325 (h : x = 0 ∨ x = 1) : zX d 0 1325 ls [zI x] A K = K (Sum.inl (some (zI x))) A := zx_iret z0 dL_law_1325 zk0 (by rcases h with q | q <;> subst q <;> rfl)
theorem s0_1326 : zX d 0 1326 [v0, zO o, v2, v3] st A K = zX d 0 1327 [v0, zO o, v2, v3] (zO o :: st) A K := zx_aload_n z0 dL_law_1326 rfl rfl
theorem s0_1327 : zX d 0 1327 [zO o, v1, v2, v3] st A K = zX d 0 1328 [zO o, v1, v2, v3] (zO o :: st) A K := zx_aload_n z0 dL_law_1327 rfl rfl
theorem s0_1328 : zX d 0 1328 [v0, v1, v2, zI x] st A K = zX d 0 1329 [v0, v1, v2, zI x] (zI x :: st) A K := zx_iload_n z0 dL_law_1328 rfl rfl
theorem s0_1329 : zX d 0 1329 ls st A K = zX d 0 1330 ls (zI 1 :: st) A K := zx_const z0 dL_law_1329 (by decide) rfl
theorem s0_1330 : zX d 0 1330 ls (zI y :: zI x :: st) A K = zX d 0 1331 ls (zI (zw (x + y)) :: st) A K := zx_iadd z0 dL_law_1330 rfl
theorem s0_1331 (h : tg A a = 20) (h0 : 0 ≤ x) (h1 : x.toNat < (ia A a).length) : zX d 0 1331 ls (zI x :: zO (some a) :: st) A K = zX d 0 1332 ls (zI ((ia A a).getD x.toNat 0) :: st) A K := zx_iald z0 dL_law_1331 rfl h h0 h1
theorem s0_1331s (h : tg A a = 30) (h0 : 0 ≤ x) (h1 : x.toNat < (ia A a).length) : zX d 0 1331 ls (zI x :: zO (some a) :: st) A K = zX d 0 1332 ls (zI ((ia A a).getD x.toNat 0) :: st) A K := zx_sald z0 dL_law_1331 rfl h h0 h1
theorem s0_1332 (h : tg A a = 1)  : zX (d + 1) 0 1332 ls (zI i0 :: zO (some a) :: []) A K = zX d 7 0 [zO (some a), zI i0] [] A (zK (d + 1) 0 1332 1335 ls [] K) := zx_callV (t := 1) z0 zo0 dL_law_1332 rfl C1_193 rfl rfl zm7 rfl rfl (zwt_le (Nat.le_of_ble_eq_true rfl)) rfl h
theorem s0_1335 : zX d 0 1335 [v0, v1, zO o, v3] st A K = zX d 0 1336 [v0, v1, zO o, v3] (zO o :: st) A K := zx_aload_n z0 dL_law_1335 rfl rfl
theorem s0_1336 : zX d 0 1336 [zO o, v1, v2, v3] st A K = zX d 0 1337 [zO o, v1, v2, v3] (zO o :: st) A K := zx_aload_n z0 dL_law_1336 rfl rfl
theorem s0_1337 : zX d 0 1337 [v0, v1, v2, zI x] st A K = zX d 0 1338 [v0, v1, v2, zI x] (zI x :: st) A K := zx_iload_n z0 dL_law_1337 rfl rfl
theorem s0_1338 : zX d 0 1338 ls st A K = zX d 0 1339 ls (zI 1 :: st) A K := zx_const z0 dL_law_1338 (by decide) rfl
theorem s0_1339 : zX d 0 1339 ls (zI y :: zI x :: st) A K = zX d 0 1340 ls (zI (zw (x + y)) :: st) A K := zx_iadd z0 dL_law_1339 rfl
theorem s0_1340 (h : tg A a = 20) (h0 : 0 ≤ x) (h1 : x.toNat < (ia A a).length) : zX d 0 1340 ls (zI x :: zO (some a) :: st) A K = zX d 0 1341 ls (zI ((ia A a).getD x.toNat 0) :: st) A K := zx_iald z0 dL_law_1340 rfl h h0 h1
theorem s0_1340s (h : tg A a = 30) (h0 : 0 ≤ x) (h1 : x.toNat < (ia A a).length) : zX d 0 1340 ls (zI x :: zO (some a) :: st) A K = zX d 0 1341 ls (zI ((ia A a).getD x.toNat 0) :: st) A K := zx_sald z0 dL_law_1340 rfl h h0 h1
theorem s0_1341 (h : tg A a = 9)  : zX (d + 1) 0 1341 ls (zI i0 :: zO (some a) :: [w0]) A K = zX d 227 0 [zO (some a), zI i0] [] A (zK (d + 1) 0 1341 1344 ls [w0] K) := zx_callV (t := 9) z0 zo0 dL_law_1341 rfl C1_196 rfl rfl zm227 rfl rfl (zwt_le (Nat.le_of_ble_eq_true rfl)) rfl h
theorem s0_1344 : zX d 0 1344 ls (zI y :: zI x :: st) A K = (if x = y then zX d 0 1401 ls st A K else zX d 0 1347 ls st A K) := zx_ic_eq z0 dL_law_1344 rfl rfl
theorem s0_1347 : zX d 0 1347 ls st A K = zX d 0 1348 ls (zI 0 :: st) A K := zx_const z0 dL_law_1347 (by decide) rfl
theorem s0_1348 (h : x = 0 ∨ x = 1) : zX d 0 1348 ls [zI x] A K = K (Sum.inl (some (zI x))) A := zx_iret z0 dL_law_1348 zk0 (by rcases h with q | q <;> subst q <;> rfl)
theorem s0_1349 : zX d 0 1349 [v0, zO o, v2, v3] st A K = zX d 0 1350 [v0, zO o, v2, v3] (zO o :: st) A K := zx_aload_n z0 dL_law_1349 rfl rfl
theorem s0_1350 (h : tg A a = 1)  : zX (d + 1) 0 1350 ls (zO (some a) :: []) A K = zX d 8 0 [zO (some a), zU] [] A (zK (d + 1) 0 1350 1353 ls [] K) := zx_callV (t := 1) z0 zo0 dL_law_1350 rfl C1_197 rfl rfl zm8 rfl rfl (zwt_le (Nat.le_of_ble_eq_true rfl)) rfl h
theorem s0_1353 : zX d 0 1353 [v0, v1, zO o, v3] st A K = zX d 0 1354 [v0, v1, zO o, v3] (zO o :: st) A K := zx_aload_n z0 dL_law_1353 rfl rfl
theorem s0_1354 (h : tg A a = 9)  : zX (d + 1) 0 1354 ls (zO (some a) :: [w0]) A K = zX d 228 0 [zO (some a), zU] [] A (zK (d + 1) 0 1354 1357 ls [w0] K) := zx_callV (t := 9) z0 zo0 dL_law_1354 rfl C1_200 rfl rfl zm228 rfl rfl (zwt_le (Nat.le_of_ble_eq_true rfl)) rfl h
theorem s0_1357 : zX d 0 1357 ls (zI y :: zI x :: st) A K = (if x = y then zX d 0 1401 ls st A K else zX d 0 1360 ls st A K) := zx_ic_eq z0 dL_law_1357 rfl rfl
theorem s0_1360 : zX d 0 1360 ls st A K = zX d 0 1361 ls (zI 0 :: st) A K := zx_const z0 dL_law_1360 (by decide) rfl
theorem s0_1361 (h : x = 0 ∨ x = 1) : zX d 0 1361 ls [zI x] A K = K (Sum.inl (some (zI x))) A := zx_iret z0 dL_law_1361 zk0 (by rcases h with q | q <;> subst q <;> rfl)
theorem s0_1362 : zX d 0 1362 [v0, zO o, v2, v3] st A K = zX d 0 1363 [v0, zO o, v2, v3] (zO o :: st) A K := zx_aload_n z0 dL_law_1362 rfl rfl
theorem s0_1363 (h : tg A a = 1)  : zX (d + 1) 0 1363 ls (zO (some a) :: []) A K = zX d 9 0 [zO (some a)] [] A (zK (d + 1) 0 1363 1366 ls [] K) := zx_callV (t := 1) z0 zo0 dL_law_1363 rfl C1_201 rfl rfl zm9 rfl rfl (zwt_le (Nat.le_of_ble_eq_true rfl)) rfl h
theorem s0_1366 : zX d 0 1366 [v0, v1, zO o, v3] st A K = zX d 0 1367 [v0, v1, zO o, v3] (zO o :: st) A K := zx_aload_n z0 dL_law_1366 rfl rfl
theorem s0_1367 (h : tg A a = 9)  : zX (d + 1) 0 1367 ls (zO (some a) :: [w0]) A K = zX d 229 0 [zO (some a)] [] A (zK (d + 1) 0 1367 1370 ls [w0] K) := zx_callV (t := 9) z0 zo0 dL_law_1367 rfl C1_204 rfl rfl zm229 rfl rfl (zwt_le (Nat.le_of_ble_eq_true rfl)) rfl h
theorem s0_1370 : zX d 0 1370 ls (zI y :: zI x :: st) A K = (if x = y then zX d 0 1401 ls st A K else zX d 0 1373 ls st A K) := zx_ic_eq z0 dL_law_1370 rfl rfl
theorem s0_1373 : zX d 0 1373 ls st A K = zX d 0 1374 ls (zI 0 :: st) A K := zx_const z0 dL_law_1373 (by decide) rfl
theorem s0_1374 (h : x = 0 ∨ x = 1) : zX d 0 1374 ls [zI x] A K = K (Sum.inl (some (zI x))) A := zx_iret z0 dL_law_1374 zk0 (by rcases h with q | q <;> subst q <;> rfl)
theorem s0_1375 : zX d 0 1375 [v0, zO o, v2, v3] st A K = zX d 0 1376 [v0, zO o, v2, v3] (zO o :: st) A K := zx_aload_n z0 dL_law_1375 rfl rfl
theorem s0_1376 (h : tg A a = 1)  : zX (d + 1) 0 1376 ls (zO (some a) :: []) A K = zX d 88 0 [zO (some a)] [] A (zK (d + 1) 0 1376 1379 ls [] K) := zx_callV (t := 1) z0 zo0 dL_law_1376 rfl C1_205 rfl rfl zm88 rfl rfl (zwt_le (Nat.le_of_ble_eq_true rfl)) rfl h
theorem s0_1379 : zX d 0 1379 [v0, v1, zO o, v3] st A K = zX d 0 1380 [v0, v1, zO o, v3] (zO o :: st) A K := zx_aload_n z0 dL_law_1379 rfl rfl
theorem s0_1380 (h : tg A a = 9)  : zX (d + 1) 0 1380 ls (zO (some a) :: [w0]) A K = zX d 230 0 [zO (some a)] [] A (zK (d + 1) 0 1380 1383 ls [w0] K) := zx_callV (t := 9) z0 zo0 dL_law_1380 rfl C1_208 rfl rfl zm230 rfl rfl (zwt_le (Nat.le_of_ble_eq_true rfl)) rfl h
theorem s0_1383 : zX d 0 1383 ls (zI y :: zI x :: st) A K = (if x = y then zX d 0 1401 ls st A K else zX d 0 1386 ls st A K) := zx_ic_eq z0 dL_law_1383 rfl rfl
theorem s0_1386 : zX d 0 1386 ls st A K = zX d 0 1387 ls (zI 0 :: st) A K := zx_const z0 dL_law_1386 (by decide) rfl
theorem s0_1387 (h : x = 0 ∨ x = 1) : zX d 0 1387 ls [zI x] A K = K (Sum.inl (some (zI x))) A := zx_iret z0 dL_law_1387 zk0 (by rcases h with q | q <;> subst q <;> rfl)
theorem s0_1388 : zX d 0 1388 [v0, zO o, v2, v3] st A K = zX d 0 1389 [v0, zO o, v2, v3] (zO o :: st) A K := zx_aload_n z0 dL_law_1388 rfl rfl
theorem s0_1389 (h : tg A a = 1)  : zX (d + 1) 0 1389 ls (zO (some a) :: []) A K = zX d 89 0 [zO (some a)] [] A (zK (d + 1) 0 1389 1392 ls [] K) := zx_callV (t := 1) z0 zo0 dL_law_1389 rfl C1_209 rfl rfl zm89 rfl rfl (zwt_le (Nat.le_of_ble_eq_true rfl)) rfl h
theorem s0_1392 : zX d 0 1392 [v0, v1, zO o, v3] st A K = zX d 0 1393 [v0, v1, zO o, v3] (zO o :: st) A K := zx_aload_n z0 dL_law_1392 rfl rfl
theorem s0_1393 (h : tg A a = 9)  : zX (d + 1) 0 1393 ls (zO (some a) :: [w0]) A K = zX d 231 0 [zO (some a)] [] A (zK (d + 1) 0 1393 1396 ls [w0] K) := zx_callV (t := 9) z0 zo0 dL_law_1393 rfl C1_212 rfl rfl zm231 rfl rfl (zwt_le (Nat.le_of_ble_eq_true rfl)) rfl h
theorem s0_1396 : zX d 0 1396 ls (zI y :: zI x :: st) A K = (if x = y then zX d 0 1401 ls st A K else zX d 0 1399 ls st A K) := zx_ic_eq z0 dL_law_1396 rfl rfl
theorem s0_1399 : zX d 0 1399 ls st A K = zX d 0 1400 ls (zI 0 :: st) A K := zx_const z0 dL_law_1399 (by decide) rfl
theorem s0_1400 (h : x = 0 ∨ x = 1) : zX d 0 1400 ls [zI x] A K = K (Sum.inl (some (zI x))) A := zx_iret z0 dL_law_1400 zk0 (by rcases h with q | q <;> subst q <;> rfl)
theorem s0_1401 : zX d 0 1401 [v0, v1, v2, zI x] st A K = zX d 0 1404 [v0, v1, v2, zI (zw (x + 4))] st A K := zx_iinc z0 dL_law_1401 rfl rfl rfl
theorem s0_1404 : zX d 0 1404 ls st A K = zX d 0 18 ls st A K := zx_goto z0 dL_law_1404 rfl
theorem s0_1407 : zX d 0 1407 ls st A K = zX d 0 1408 ls (zI 1 :: st) A K := zx_const z0 dL_law_1407 (by decide) rfl
theorem s0_1408 (h : x = 0 ∨ x = 1) : zX d 0 1408 ls [zI x] A K = K (Sum.inl (some (zI x))) A := zx_iret z0 dL_law_1408 zk0 (by rcases h with q | q <;> subst q <;> rfl)
theorem s90_0 : zX d 90 0 [zO o, v1] st A K = zX d 90 1 [zO o, v1] (zO o :: st) A K := zx_aload_n z90 dX1_init_0 rfl rfl
theorem s90_1 : zX d 90 1 [v0, zO o] st A K = zX d 90 2 [v0, zO o] (zO o :: st) A K := zx_aload_n z90 dX1_init_1 rfl rfl
theorem s90_2 (h : tg A a = 2) : zX d 90 2 ls (zO o :: zO (some a) :: st) A K = zX d 90 5 ls st (pF A a 1 (zO o)) K := zx_putf (q := 3) z90 zo90 dX1_init_2 F3_1 rfl rfl rfl h rfl
theorem s90_5 : zX d 90 5 [zO o, v1] st A K = zX d 90 6 [zO o, v1] (zO o :: st) A K := zx_aload_n z90 dX1_init_5 rfl rfl
theorem s90_6 : zX d 90 6 ls (zO (some a) :: []) A K = zX d 90 9 ls [] A K := zx_inI z90 zo90 dX1_init_6 rfl rfl rfl (zin_1 (zwt_le (Nat.le_of_ble_eq_true rfl)))
theorem s90_9 : zX d 90 9 ls [] A K = K (Sum.inl none) A := zx_vret z90 dX1_init_9 rfl
theorem s91_0 : zX d 91 0 [zO o, v1, v2] st A K = zX d 91 1 [zO o, v1, v2] (zO o :: st) A K := zx_aload_n z91 dX1_rule_0 rfl rfl
theorem s91_1 : zX d 91 1 ls st A K = zX d 91 2 ls (zI 0 :: st) A K := zx_const z91 dX1_rule_1 (by decide) rfl
theorem s91_2 (h : tg A a = 2) : zX d 91 2 ls (zI x :: zO (some a) :: st) A K = zX d 91 5 ls st (pF A a 0 (zI x)) K := zx_putf (q := 0) z91 zo91 dX1_rule_2 F3_13 rfl rfl rfl h rfl
theorem s91_5 : zX d 91 5 [zO o, v1, v2] st A K = zX d 91 6 [zO o, v1, v2] (zO o :: st) A K := zx_aload_n z91 dX1_rule_5 rfl rfl
theorem s91_6 (h : tg A a = 2)  : zX (d + 1) 91 6 ls (zO (some a) :: []) A K = zX d 92 0 [zO (some a)] [] A (zK (d + 1) 91 6 9 ls [] K) := zx_callV (t := 2) z91 zo91 dX1_rule_6 rfl C3_67 rfl rfl zm92 rfl rfl (zwt_le (Nat.le_of_ble_eq_true rfl)) rfl h
theorem s91_9 : zX d 91 9 [v0, v1, v2] (zO o :: st) A K = zX d 91 10 [v0, zO o, v2] st A K := zx_astore_n z91 dX1_rule_9 (Nat.le_of_ble_eq_true rfl) rfl rfl
theorem s91_10 : zX d 91 10 [zO o, v1, v2] st A K = zX d 91 11 [zO o, v1, v2] (zO o :: st) A K := zx_aload_n z91 dX1_rule_10 rfl rfl
theorem s91_11 : zX d 91 11 ls st A K = zX d 91 13 ls (zI (62) :: st) A K := zx_bipush z91 dX1_rule_11 (by decide) rfl
theorem s91_13 (h : tg A a = 2)  : zX (d + 1) 91 13 ls (zI i0 :: zO (some a) :: []) A K = zX d 96 0 [zO (some a), zI i0] [] A (zK (d + 1) 91 13 16 ls [] K) := zx_callV (t := 2) z91 zo91 dX1_rule_13 rfl C3_52 rfl rfl zm96 rfl rfl (zwt_le (Nat.le_of_ble_eq_true rfl)) rfl h
theorem s91_16 : zX d 91 16 [zO o, v1, v2] st A K = zX d 91 17 [zO o, v1, v2] (zO o :: st) A K := zx_aload_n z91 dX1_rule_16 rfl rfl
theorem s91_17 (h : tg A a = 2)  : zX (d + 1) 91 17 ls (zO (some a) :: []) A K = zX d 92 0 [zO (some a)] [] A (zK (d + 1) 91 17 20 ls [] K) := zx_callV (t := 2) z91 zo91 dX1_rule_17 rfl C3_67 rfl rfl zm92 rfl rfl (zwt_le (Nat.le_of_ble_eq_true rfl)) rfl h
theorem s91_20 : zX d 91 20 [v0, v1, v2] (zO o :: st) A K = zX d 91 21 [v0, v1, zO o] st A K := zx_astore_n z91 dX1_rule_20 (Nat.le_of_ble_eq_true rfl) rfl rfl
theorem s91_21 : zX d 91 21 [zO o, v1, v2] st A K = zX d 91 22 [zO o, v1, v2] (zO o :: st) A K := zx_aload_n z91 dX1_rule_21 rfl rfl
theorem s91_22 : zX d 91 22 [zO o, v1, v2] st A K = zX d 91 23 [zO o, v1, v2] (zO o :: st) A K := zx_aload_n z91 dX1_rule_22 rfl rfl
theorem s91_23 (h : tg A a = 2) : zX d 91 23 ls (zO (some a) :: st) A K = zX d 91 26 ls (fd A a 0 :: st) A K := zx_getf z91 zo91 dX1_rule_23 F3_13 rfl h
theorem s91_26 : zX d 91 26 [zO o, v1, v2] st A K = zX d 91 27 [zO o, v1, v2] (zO o :: st) A K := zx_aload_n z91 dX1_rule_26 rfl rfl
theorem s91_27 (h : tg A a = 2) : zX d 91 27 ls (zO (some a) :: st) A K = zX d 91 30 ls (fd A a 1 :: st) A K := zx_getf z91 zo91 dX1_rule_27 F3_1 rfl h
theorem s91_30 (h : tg A a = 1) : zX d 91 30 ls (zO (some a) :: st) A K = zX d 91 33 ls (fd A a 7 :: st) A K := zx_getf z91 zo91 dX1_rule_30 F3_17 rfl h
theorem s91_33 : zX d 91 33 ls (zI y :: zI x :: st) A K = (if x ≠ y then zX d 91 40 ls st A K else zX d 91 36 ls st A K) := zx_ic_ne z91 dX1_rule_33 rfl rfl
theorem s91_36 : zX d 91 36 ls st A K = zX d 91 37 ls (zI 1 :: st) A K := zx_const z91 dX1_rule_36 (by decide) rfl
theorem s91_37 : zX d 91 37 ls st A K = zX d 91 41 ls st A K := zx_goto z91 dX1_rule_37 rfl
theorem s91_40 : zX d 91 40 ls st A K = zX d 91 41 ls (zI 0 :: st) A K := zx_const z91 dX1_rule_40 (by decide) rfl
theorem s91_41 (h : tg A a = 2)  : zX (d + 1) 91 41 ls (zI i0 :: zO (some a) :: []) A K = zX d 95 0 [zO (some a), zI i0] [] A (zK (d + 1) 91 41 44 ls [] K) := zx_callV (t := 2) z91 zo91 dX1_rule_41 rfl C3_35 rfl rfl zm95 rfl rfl (zwt_le (Nat.le_of_ble_eq_true rfl)) rfl h
theorem s91_44 : zX d 91 44 ls st A K = zX d 91 47 ls (zO (some (nx A)) :: st) (nO A 6) K := zx_new z91 zo91 dX1_rule_44 rfl rfl
theorem s91_47 (h : zc v = true) : zX d 91 47 ls (v :: st) A K = zX d 91 48 ls (v :: v :: st) A K := zx_dup z91 dX1_rule_47 rfl h
theorem s91_48 : zX d 91 48 [v0, zO o, v2] st A K = zX d 91 49 [v0, zO o, v2] (zO o :: st) A K := zx_aload_n z91 dX1_rule_48 rfl rfl
theorem s91_49 : zX d 91 49 [v0, v1, zO o] st A K = zX d 91 50 [v0, v1, zO o] (zO o :: st) A K := zx_aload_n z91 dX1_rule_49 rfl rfl
theorem s91_50 : zX (d + 1) 91 50 ls (zO o1 :: zO o0 :: zO (some a) :: [w0]) A K = zX d 120 0 [zO (some a), zO o0, zO o1] [] A (zK (d + 1) 91 50 53 ls [w0] K) := zx_callI z91 zo91 dX1_rule_50 rfl C3_73 rfl rfl zm120 rfl rfl (zwt_le (Nat.le_of_ble_eq_true rfl)) rfl
theorem s91_53 : zX d 91 53 ls [zO o] A K = K (Sum.inl (some (zO o))) A := zx_aret z91 dX1_rule_53 rfl
theorem s92_0 : zX d 92 0 [zO o] st A K = zX d 92 1 [zO o] (zO o :: st) A K := zx_aload_n z92 dX1_builtTerm_0 rfl rfl
theorem s92_1 (h : tg A a = 2) : zX d 92 1 ls (zO (some a) :: st) A K = zX d 92 4 ls (fd A a 1 :: st) A K := zx_getf z92 zo92 dX1_builtTerm_1 F3_1 rfl h
theorem s92_4 : zX d 92 4 ls st A K = zX d 92 5 ls (zI 0 :: st) A K := zx_const z92 dX1_builtTerm_4 (by decide) rfl
theorem s92_5 (h : tg A a = 1) : zX d 92 5 ls (zI x :: zO (some a) :: st) A K = zX d 92 8 ls st (pF A a 5 (zI x)) K := zx_putf (q := 0) z92 zo92 dX1_builtTerm_5 F3_58 rfl rfl rfl h rfl
theorem s92_8 : zX d 92 8 [zO o] st A K = zX d 92 9 [zO o] (zO o :: st) A K := zx_aload_n z92 dX1_builtTerm_8 rfl rfl
theorem s92_9 (h : tg A a = 2)  : zX (d + 1) 92 9 ls (zO (some a) :: []) A K = zX d 93 0 [zO (some a), zU, zU] [] A (zK (d + 1) 92 9 12 ls [] K) := zx_callV (t := 2) z92 zo92 dX1_builtTerm_9 rfl C3_55 rfl rfl zm93 rfl rfl (zwt_le (Nat.le_of_ble_eq_true rfl)) rfl h
theorem s92_12 : zX d 92 12 ls st A K = zX d 92 15 ls (zO (some (nx A)) :: st) (nO A 4) K := zx_new z92 zo92 dX1_builtTerm_12 rfl rfl
theorem s92_15 (h : zc v = true) : zX d 92 15 ls (v :: st) A K = zX d 92 16 ls (v :: v :: st) A K := zx_dup z92 dX1_builtTerm_15 rfl h
theorem s92_16 : zX d 92 16 [zO o] st A K = zX d 92 17 [zO o] (zO o :: st) A K := zx_aload_n z92 dX1_builtTerm_16 rfl rfl
theorem s92_17 (h : tg A a = 2) : zX d 92 17 ls (zO (some a) :: st) A K = zX d 92 20 ls (fd A a 1 :: st) A K := zx_getf z92 zo92 dX1_builtTerm_17 F3_1 rfl h
theorem s92_20 (h : tg A a = 1) : zX d 92 20 ls (zO (some a) :: st) A K = zX d 92 23 ls (fd A a 4 :: st) A K := zx_getf z92 zo92 dX1_builtTerm_20 F3_61 rfl h
theorem s92_23 : zX d 92 23 [zO o] st A K = zX d 92 24 [zO o] (zO o :: st) A K := zx_aload_n z92 dX1_builtTerm_23 rfl rfl
theorem s92_24 (h : tg A a = 2) : zX d 92 24 ls (zO (some a) :: st) A K = zX d 92 27 ls (fd A a 1 :: st) A K := zx_getf z92 zo92 dX1_builtTerm_24 F3_1 rfl h
theorem s92_27 (h : tg A a = 1) : zX d 92 27 ls (zO (some a) :: st) A K = zX d 92 30 ls (fd A a 5 :: st) A K := zx_getf z92 zo92 dX1_builtTerm_27 F3_58 rfl h
theorem s92_30 : zX d 92 30 [zO o] st A K = zX d 92 31 [zO o] (zO o :: st) A K := zx_aload_n z92 dX1_builtTerm_30 rfl rfl
theorem s92_31 (h : tg A a = 2) : zX d 92 31 ls (zO (some a) :: st) A K = zX d 92 34 ls (fd A a 1 :: st) A K := zx_getf z92 zo92 dX1_builtTerm_31 F3_1 rfl h
theorem s92_34 (h : tg A a = 1) : zX d 92 34 ls (zO (some a) :: st) A K = zX d 92 37 ls (fd A a 0 :: st) A K := zx_getf z92 zo92 dX1_builtTerm_34 F3_39 rfl h
theorem s92_37 : zX (d + 1) 92 37 ls (zO o2 :: zI i1 :: zO o0 :: zO (some a) :: [w0]) A K = zX d 104 0 [zO (some a), zO o0, zI i1, zO o2, zU, zU] [] A (zK (d + 1) 92 37 40 ls [w0] K) := zx_callI z92 zo92 dX1_builtTerm_37 rfl C3_64 rfl rfl zm104 rfl rfl (zwt_le (Nat.le_of_ble_eq_true rfl)) rfl
theorem s92_40 : zX d 92 40 ls [zO o] A K = K (Sum.inl (some (zO o))) A := zx_aret z92 dX1_builtTerm_40 rfl
theorem s93_0 : zX d 93 0 [zO o, v1, v2] st A K = zX d 93 1 [zO o, v1, v2] (zO o :: st) A K := zx_aload_n z93 dX1_term_0 rfl rfl
theorem s93_1 (h : tg A a = 2)  : zX (d + 1) 93 1 ls (zO (some a) :: []) A K = zX d 94 0 [zO (some a)] [] A (zK (d + 1) 93 1 4 ls [] K) := zx_callV (t := 2) z93 zo93 dX1_term_1 rfl C3_31 rfl rfl zm94 rfl rfl (zwt_le (Nat.le_of_ble_eq_true rfl)) rfl h
theorem s93_4 : zX d 93 4 [zO o, v1, v2] st A K = zX d 93 5 [zO o, v1, v2] (zO o :: st) A K := zx_aload_n z93 dX1_term_4 rfl rfl
theorem s93_5 (h : tg A a = 2) : zX d 93 5 ls (zO (some a) :: st) A K = zX d 93 8 ls (fd A a 1 :: st) A K := zx_getf z93 zo93 dX1_term_5 F3_1 rfl h
theorem s93_8 (h : tg A a = 1) : zX d 93 8 ls (zO (some a) :: st) A K = zX d 93 11 ls (fd A a 0 :: st) A K := zx_getf z93 zo93 dX1_term_8 F3_39 rfl h
theorem s93_11 : zX (d + 1) 93 11 ls (zO o1 :: zI i0 :: []) A K = zX d 105 0 [zI i0, zO o1] [] A (zK (d + 1) 93 11 14 ls [] K) := zx_callS z93 zo93 dX1_term_11 rfl C3_43 rfl rfl zm105 rfl rfl (zwt_le (Nat.le_of_ble_eq_true rfl)) rfl
theorem s93_14 : zX d 93 14 [v0, v1, v2] (zI x :: st) A K = zX d 93 15 [v0, zI x, v2] st A K := zx_istore_n z93 dX1_term_14 (Nat.le_of_ble_eq_true rfl) rfl rfl
theorem s93_15 : zX d 93 15 [zO o, v1, v2] st A K = zX d 93 16 [zO o, v1, v2] (zO o :: st) A K := zx_aload_n z93 dX1_term_15 rfl rfl
theorem s93_16 : zX d 93 16 [v0, zI x, v2] st A K = zX d 93 17 [v0, zI x, v2] (zI x :: st) A K := zx_iload_n z93 dX1_term_16 rfl rfl
theorem s93_17 : zX d 93 17 ls (zI x :: st) A K = (if x < 0 then zX d 93 24 ls st A K else zX d 93 20 ls st A K) := zx_if_lt z93 dX1_term_17 rfl rfl
theorem s93_20 : zX d 93 20 ls st A K = zX d 93 21 ls (zI 1 :: st) A K := zx_const z93 dX1_term_20 (by decide) rfl
theorem s93_21 : zX d 93 21 ls st A K = zX d 93 25 ls st A K := zx_goto z93 dX1_term_21 rfl
theorem s93_24 : zX d 93 24 ls st A K = zX d 93 25 ls (zI 0 :: st) A K := zx_const z93 dX1_term_24 (by decide) rfl
theorem s93_25 (h : tg A a = 2)  : zX (d + 1) 93 25 ls (zI i0 :: zO (some a) :: []) A K = zX d 95 0 [zO (some a), zI i0] [] A (zK (d + 1) 93 25 28 ls [] K) := zx_callV (t := 2) z93 zo93 dX1_term_25 rfl C3_35 rfl rfl zm95 rfl rfl (zwt_le (Nat.le_of_ble_eq_true rfl)) rfl h
theorem s93_28 : zX d 93 28 [zO o, v1, v2] st A K = zX d 93 29 [zO o, v1, v2] (zO o :: st) A K := zx_aload_n z93 dX1_term_28 rfl rfl
theorem s93_29 (h : tg A a = 2) : zX d 93 29 ls (zO (some a) :: st) A K = zX d 93 32 ls (fd A a 1 :: st) A K := zx_getf z93 zo93 dX1_term_29 F3_1 rfl h
theorem s93_32 : zX d 93 32 [zO o, v1, v2] st A K = zX d 93 33 [zO o, v1, v2] (zO o :: st) A K := zx_aload_n z93 dX1_term_32 rfl rfl
theorem s93_33 (h : tg A a = 2)  : zX (d + 1) 93 33 ls (zO (some a) :: [w0]) A K = zX d 94 0 [zO (some a)] [] A (zK (d + 1) 93 33 36 ls [w0] K) := zx_callV (t := 2) z93 zo93 dX1_term_33 rfl C3_31 rfl rfl zm94 rfl rfl (zwt_le (Nat.le_of_ble_eq_true rfl)) rfl h
theorem s93_36 (h : tg A a = 1)  : zX (d + 1) 93 36 ls (zI i0 :: zO (some a) :: []) A K = zX d 3 0 [zO (some a), zI i0] [] A (zK (d + 1) 93 36 39 ls [] K) := zx_callV (t := 1) z93 zo93 dX1_term_36 rfl C3_49 rfl rfl zm3 rfl rfl (zwt_le (Nat.le_of_ble_eq_true rfl)) rfl h
theorem s93_39 : zX d 93 39 [zO o, v1, v2] st A K = zX d 93 40 [zO o, v1, v2] (zO o :: st) A K := zx_aload_n z93 dX1_term_39 rfl rfl
theorem s93_40 (h : zc v = true) : zX d 93 40 ls (v :: st) A K = zX d 93 41 ls (v :: v :: st) A K := zx_dup z93 dX1_term_40 rfl h
theorem s93_41 (h : tg A a = 2) : zX d 93 41 ls (zO (some a) :: st) A K = zX d 93 44 ls (fd A a 0 :: st) A K := zx_getf z93 zo93 dX1_term_41 F3_13 rfl h
theorem s93_44 : zX d 93 44 ls st A K = zX d 93 45 ls (zI 1 :: st) A K := zx_const z93 dX1_term_44 (by decide) rfl
theorem s93_45 : zX d 93 45 ls (zI y :: zI x :: st) A K = zX d 93 46 ls (zI (zw (x + y)) :: st) A K := zx_iadd z93 dX1_term_45 rfl
theorem s93_46 (h : tg A a = 2) : zX d 93 46 ls (zI x :: zO (some a) :: st) A K = zX d 93 49 ls st (pF A a 0 (zI x)) K := zx_putf (q := 0) z93 zo93 dX1_term_46 F3_13 rfl rfl rfl h rfl
theorem s93_49 : zX d 93 49 ls st A K = zX d 93 50 ls (zI 0 :: st) A K := zx_const z93 dX1_term_49 (by decide) rfl
theorem s93_50 : zX d 93 50 [v0, v1, v2] (zI x :: st) A K = zX d 93 51 [v0, v1, zI x] st A K := zx_istore_n z93 dX1_term_50 (Nat.le_of_ble_eq_true rfl) rfl rfl
theorem s93_51 : zX d 93 51 [v0, v1, zI x] st A K = zX d 93 52 [v0, v1, zI x] (zI x :: st) A K := zx_iload_n z93 dX1_term_51 rfl rfl
theorem s93_52 : zX d 93 52 [v0, zI x, v2] st A K = zX d 93 53 [v0, zI x, v2] (zI x :: st) A K := zx_iload_n z93 dX1_term_52 rfl rfl
theorem s93_53 : zX d 93 53 ls (zI y :: zI x :: st) A K = (if y ≤ x then zX d 93 81 ls st A K else zX d 93 56 ls st A K) := zx_ic_ge z93 dX1_term_53 rfl rfl
theorem s93_56 : zX d 93 56 [zO o, v1, v2] st A K = zX d 93 57 [zO o, v1, v2] (zO o :: st) A K := zx_aload_n z93 dX1_term_56 rfl rfl
theorem s93_57 : zX d 93 57 [v0, v1, zI x] st A K = zX d 93 58 [v0, v1, zI x] (zI x :: st) A K := zx_iload_n z93 dX1_term_57 rfl rfl
theorem s93_58 : zX d 93 58 ls (zI x :: st) A K = (if x ≠ 0 then zX d 93 66 ls st A K else zX d 93 61 ls st A K) := zx_if_ne z93 dX1_term_58 rfl rfl
theorem s93_61 : zX d 93 61 ls st A K = zX d 93 63 ls (zI (40) :: st) A K := zx_bipush z93 dX1_term_61 (by decide) rfl
theorem s93_63 : zX d 93 63 ls st A K = zX d 93 68 ls st A K := zx_goto z93 dX1_term_63 rfl
theorem s93_66 : zX d 93 66 ls st A K = zX d 93 68 ls (zI (44) :: st) A K := zx_bipush z93 dX1_term_66 (by decide) rfl
theorem s93_68 (h : tg A a = 2)  : zX (d + 1) 93 68 ls (zI i0 :: zO (some a) :: []) A K = zX d 96 0 [zO (some a), zI i0] [] A (zK (d + 1) 93 68 71 ls [] K) := zx_callV (t := 2) z93 zo93 dX1_term_68 rfl C3_52 rfl rfl zm96 rfl rfl (zwt_le (Nat.le_of_ble_eq_true rfl)) rfl h
theorem s93_71 : zX d 93 71 [zO o, v1, v2] st A K = zX d 93 72 [zO o, v1, v2] (zO o :: st) A K := zx_aload_n z93 dX1_term_71 rfl rfl
theorem s93_72 (h : tg A a = 2)  : zX (d + 1) 93 72 ls (zO (some a) :: []) A K = zX d 93 0 [zO (some a), zU, zU] [] A (zK (d + 1) 93 72 75 ls [] K) := zx_callV (t := 2) z93 zo93 dX1_term_72 rfl C3_55 rfl rfl zm93 rfl rfl (zwt_le (Nat.le_of_ble_eq_true rfl)) rfl h
theorem s93_75 : zX d 93 75 [v0, v1, zI x] st A K = zX d 93 78 [v0, v1, zI (zw (x + 1))] st A K := zx_iinc z93 dX1_term_75 rfl rfl rfl
theorem s93_78 : zX d 93 78 ls st A K = zX d 93 51 ls st A K := zx_goto z93 dX1_term_78 rfl
theorem s93_81 : zX d 93 81 [v0, zI x, v2] st A K = zX d 93 82 [v0, zI x, v2] (zI x :: st) A K := zx_iload_n z93 dX1_term_81 rfl rfl
theorem s93_82 : zX d 93 82 ls (zI x :: st) A K = (if x ≤ 0 then zX d 93 91 ls st A K else zX d 93 85 ls st A K) := zx_if_le z93 dX1_term_82 rfl rfl
theorem s93_85 : zX d 93 85 [zO o, v1, v2] st A K = zX d 93 86 [zO o, v1, v2] (zO o :: st) A K := zx_aload_n z93 dX1_term_85 rfl rfl
theorem s93_86 : zX d 93 86 ls st A K = zX d 93 88 ls (zI (41) :: st) A K := zx_bipush z93 dX1_term_86 (by decide) rfl
theorem s93_88 (h : tg A a = 2)  : zX (d + 1) 93 88 ls (zI i0 :: zO (some a) :: []) A K = zX d 96 0 [zO (some a), zI i0] [] A (zK (d + 1) 93 88 91 ls [] K) := zx_callV (t := 2) z93 zo93 dX1_term_88 rfl C3_52 rfl rfl zm96 rfl rfl (zwt_le (Nat.le_of_ble_eq_true rfl)) rfl h
theorem s93_91 : zX d 93 91 ls [] A K = K (Sum.inl none) A := zx_vret z93 dX1_term_91 rfl
theorem s94_0 : zX d 94 0 [zO o] st A K = zX d 94 1 [zO o] (zO o :: st) A K := zx_aload_n z94 dX1_current_0 rfl rfl
theorem s94_1 (h : tg A a = 2) : zX d 94 1 ls (zO (some a) :: st) A K = zX d 94 4 ls (fd A a 0 :: st) A K := zx_getf z94 zo94 dX1_current_1 F3_13 rfl h
theorem s94_4 : zX d 94 4 [zO o] st A K = zX d 94 5 [zO o] (zO o :: st) A K := zx_aload_n z94 dX1_current_4 rfl rfl
theorem s94_5 (h : tg A a = 2) : zX d 94 5 ls (zO (some a) :: st) A K = zX d 94 8 ls (fd A a 1 :: st) A K := zx_getf z94 zo94 dX1_current_5 F3_1 rfl h
theorem s94_8 (h : tg A a = 1) : zX d 94 8 ls (zO (some a) :: st) A K = zX d 94 11 ls (fd A a 7 :: st) A K := zx_getf z94 zo94 dX1_current_8 F3_17 rfl h
theorem s94_11 : zX d 94 11 ls (zI y :: zI x :: st) A K = (if y ≤ x then zX d 94 29 ls st A K else zX d 94 14 ls st A K) := zx_ic_ge z94 dX1_current_11 rfl rfl
theorem s94_14 : zX d 94 14 [zO o] st A K = zX d 94 15 [zO o] (zO o :: st) A K := zx_aload_n z94 dX1_current_14 rfl rfl
theorem s94_15 (h : tg A a = 2) : zX d 94 15 ls (zO (some a) :: st) A K = zX d 94 18 ls (fd A a 1 :: st) A K := zx_getf z94 zo94 dX1_current_15 F3_1 rfl h
theorem s94_18 (h : tg A a = 1) : zX d 94 18 ls (zO (some a) :: st) A K = zX d 94 21 ls (fd A a 6 :: st) A K := zx_getf z94 zo94 dX1_current_18 F3_22 rfl h
theorem s94_21 : zX d 94 21 [zO o] st A K = zX d 94 22 [zO o] (zO o :: st) A K := zx_aload_n z94 dX1_current_21 rfl rfl
theorem s94_22 (h : tg A a = 2) : zX d 94 22 ls (zO (some a) :: st) A K = zX d 94 25 ls (fd A a 0 :: st) A K := zx_getf z94 zo94 dX1_current_22 F3_13 rfl h
theorem s94_25 (h : tg A a = 21) (h0 : 0 ≤ x) (h1 : x.toNat < (ia A a).length) : zX d 94 25 ls (zI x :: zO (some a) :: st) A K = zX d 94 26 ls (zI ((ia A a).getD x.toNat 0) :: st) A K := zx_bald z94 dX1_current_25 rfl h h0 h1
theorem s94_25z (h : tg A a = 22) (h0 : 0 ≤ x) (h1 : x.toNat < (ia A a).length) : zX d 94 25 ls (zI x :: zO (some a) :: st) A K = zX d 94 26 ls (zI ((ia A a).getD x.toNat 0) :: st) A K := zx_zald z94 dX1_current_25 rfl h h0 h1
theorem s94_26 : zX d 94 26 ls st A K = zX d 94 30 ls st A K := zx_goto z94 dX1_current_26 rfl
theorem s94_29 : zX d 94 29 ls st A K = zX d 94 30 ls (zI 0 :: st) A K := zx_const z94 dX1_current_29 (by decide) rfl
theorem s94_30 : zX d 94 30 ls [zI x] A K = K (Sum.inl (some (zI x))) A := zx_iret z94 dX1_current_30 zk94 rfl
theorem s95_0 : zX d 95 0 [v0, zI x] st A K = zX d 95 1 [v0, zI x] (zI x :: st) A K := zx_iload_n z95 dX1_require_0 rfl rfl
theorem s95_1 : zX d 95 1 ls (zI x :: st) A K = (if x ≠ 0 then zX d 95 16 ls st A K else zX d 95 4 ls st A K) := zx_if_ne z95 dX1_require_1 rfl rfl
theorem s95_4 : zX d 95 4 ls st A K = zX d 95 7 ls (zO (some (nx A)) :: st) (nO A 5) K := zx_new z95 zo95 dX1_require_4 rfl rfl
theorem s95_7 (h : zc v = true) : zX d 95 7 ls (v :: st) A K = zX d 95 8 ls (v :: v :: st) A K := zx_dup z95 dX1_require_7 rfl h
theorem s95_8 : zX d 95 8 [zO o, v1] st A K = zX d 95 9 [zO o, v1] (zO o :: st) A K := zx_aload_n z95 dX1_require_8 rfl rfl
theorem s95_9 (h : tg A a = 2) : zX d 95 9 ls (zO (some a) :: st) A K = zX d 95 12 ls (fd A a 0 :: st) A K := zx_getf z95 zo95 dX1_require_9 F3_13 rfl h
theorem s95_12 : zX (d + 1) 95 12 ls (zI i0 :: zO (some a) :: [w0]) A K = zX d 119 0 [zO (some a), zI i0] [] A (zK (d + 1) 95 12 15 ls [w0] K) := zx_callI z95 zo95 dX1_require_12 rfl C3_28 rfl rfl zm119 rfl rfl (zwt_le (Nat.le_of_ble_eq_true rfl)) rfl
theorem s95_15 (h : tg A a = 5) : zX d 95 15 ls (zO (some a) :: st) A K = K (Sum.inr a) A := zx_throw z95 dX1_require_15 rfl h
theorem s95_16 : zX d 95 16 ls [] A K = K (Sum.inl none) A := zx_vret z95 dX1_require_16 rfl
theorem s96_0 : zX d 96 0 [zO o, v1] st A K = zX d 96 1 [zO o, v1] (zO o :: st) A K := zx_aload_n z96 dX1_take_0 rfl rfl
theorem s96_1 : zX d 96 1 [zO o, v1] st A K = zX d 96 2 [zO o, v1] (zO o :: st) A K := zx_aload_n z96 dX1_take_1 rfl rfl
theorem s96_2 (h : tg A a = 2)  : zX (d + 1) 96 2 ls (zO (some a) :: [w0]) A K = zX d 94 0 [zO (some a)] [] A (zK (d + 1) 96 2 5 ls [w0] K) := zx_callV (t := 2) z96 zo96 dX1_take_2 rfl C3_31 rfl rfl zm94 rfl rfl (zwt_le (Nat.le_of_ble_eq_true rfl)) rfl h
theorem s96_5 : zX d 96 5 [v0, zI x] st A K = zX d 96 6 [v0, zI x] (zI x :: st) A K := zx_iload_n z96 dX1_take_5 rfl rfl
theorem s96_6 : zX d 96 6 ls (zI y :: zI x :: st) A K = (if x ≠ y then zX d 96 13 ls st A K else zX d 96 9 ls st A K) := zx_ic_ne z96 dX1_take_6 rfl rfl
theorem s96_9 : zX d 96 9 ls st A K = zX d 96 10 ls (zI 1 :: st) A K := zx_const z96 dX1_take_9 (by decide) rfl
theorem s96_10 : zX d 96 10 ls st A K = zX d 96 14 ls st A K := zx_goto z96 dX1_take_10 rfl
theorem s96_13 : zX d 96 13 ls st A K = zX d 96 14 ls (zI 0 :: st) A K := zx_const z96 dX1_take_13 (by decide) rfl
theorem s96_14 (h : tg A a = 2)  : zX (d + 1) 96 14 ls (zI i0 :: zO (some a) :: []) A K = zX d 95 0 [zO (some a), zI i0] [] A (zK (d + 1) 96 14 17 ls [] K) := zx_callV (t := 2) z96 zo96 dX1_take_14 rfl C3_35 rfl rfl zm95 rfl rfl (zwt_le (Nat.le_of_ble_eq_true rfl)) rfl h
theorem s96_17 : zX d 96 17 [zO o, v1] st A K = zX d 96 18 [zO o, v1] (zO o :: st) A K := zx_aload_n z96 dX1_take_17 rfl rfl
theorem s96_18 (h : zc v = true) : zX d 96 18 ls (v :: st) A K = zX d 96 19 ls (v :: v :: st) A K := zx_dup z96 dX1_take_18 rfl h
theorem s96_19 (h : tg A a = 2) : zX d 96 19 ls (zO (some a) :: st) A K = zX d 96 22 ls (fd A a 0 :: st) A K := zx_getf z96 zo96 dX1_take_19 F3_13 rfl h
theorem s96_22 : zX d 96 22 ls st A K = zX d 96 23 ls (zI 1 :: st) A K := zx_const z96 dX1_take_22 (by decide) rfl
theorem s96_23 : zX d 96 23 ls (zI y :: zI x :: st) A K = zX d 96 24 ls (zI (zw (x + y)) :: st) A K := zx_iadd z96 dX1_take_23 rfl
theorem s96_24 (h : tg A a = 2) : zX d 96 24 ls (zI x :: zO (some a) :: st) A K = zX d 96 27 ls st (pF A a 0 (zI x)) K := zx_putf (q := 0) z96 zo96 dX1_take_24 F3_13 rfl rfl rfl h rfl
theorem s96_27 : zX d 96 27 ls [] A K = K (Sum.inl none) A := zx_vret z96 dX1_take_27 rfl
theorem s97_0 : zX d 97 0 [zO o, v1] st A K = zX d 97 1 [zO o, v1] (zO o :: st) A K := zx_aload_n z97 dX1_whole_0 rfl rfl
theorem s97_1 : zX d 97 1 ls st A K = zX d 97 2 ls (zI 0 :: st) A K := zx_const z97 dX1_whole_1 (by decide) rfl
theorem s97_2 (h : tg A a = 2) : zX d 97 2 ls (zI x :: zO (some a) :: st) A K = zX d 97 5 ls st (pF A a 0 (zI x)) K := zx_putf (q := 0) z97 zo97 dX1_whole_2 F3_13 rfl rfl rfl h rfl
theorem s97_5 : zX d 97 5 [zO o, v1] st A K = zX d 97 6 [zO o, v1] (zO o :: st) A K := zx_aload_n z97 dX1_whole_5 rfl rfl
theorem s97_6 (h : tg A a = 2)  : zX (d + 1) 97 6 ls (zO (some a) :: []) A K = zX d 92 0 [zO (some a)] [] A (zK (d + 1) 97 6 9 ls [] K) := zx_callV (t := 2) z97 zo97 dX1_whole_6 rfl C3_67 rfl rfl zm92 rfl rfl (zwt_le (Nat.le_of_ble_eq_true rfl)) rfl h
theorem s97_9 : zX d 97 9 [v0, v1] (zO o :: st) A K = zX d 97 10 [v0, zO o] st A K := zx_astore_n z97 dX1_whole_9 (Nat.le_of_ble_eq_true rfl) rfl rfl
theorem s97_10 : zX d 97 10 [zO o, v1] st A K = zX d 97 11 [zO o, v1] (zO o :: st) A K := zx_aload_n z97 dX1_whole_10 rfl rfl
theorem s97_11 : zX d 97 11 [zO o, v1] st A K = zX d 97 12 [zO o, v1] (zO o :: st) A K := zx_aload_n z97 dX1_whole_11 rfl rfl
theorem s97_12 (h : tg A a = 2) : zX d 97 12 ls (zO (some a) :: st) A K = zX d 97 15 ls (fd A a 0 :: st) A K := zx_getf z97 zo97 dX1_whole_12 F3_13 rfl h
theorem s97_15 : zX d 97 15 [zO o, v1] st A K = zX d 97 16 [zO o, v1] (zO o :: st) A K := zx_aload_n z97 dX1_whole_15 rfl rfl
theorem s97_16 (h : tg A a = 2) : zX d 97 16 ls (zO (some a) :: st) A K = zX d 97 19 ls (fd A a 1 :: st) A K := zx_getf z97 zo97 dX1_whole_16 F3_1 rfl h
theorem s97_19 (h : tg A a = 1) : zX d 97 19 ls (zO (some a) :: st) A K = zX d 97 22 ls (fd A a 7 :: st) A K := zx_getf z97 zo97 dX1_whole_19 F3_17 rfl h
theorem s97_22 : zX d 97 22 ls (zI y :: zI x :: st) A K = (if x ≠ y then zX d 97 29 ls st A K else zX d 97 25 ls st A K) := zx_ic_ne z97 dX1_whole_22 rfl rfl
theorem s97_25 : zX d 97 25 ls st A K = zX d 97 26 ls (zI 1 :: st) A K := zx_const z97 dX1_whole_25 (by decide) rfl
theorem s97_26 : zX d 97 26 ls st A K = zX d 97 30 ls st A K := zx_goto z97 dX1_whole_26 rfl
theorem s97_29 : zX d 97 29 ls st A K = zX d 97 30 ls (zI 0 :: st) A K := zx_const z97 dX1_whole_29 (by decide) rfl
theorem s97_30 (h : tg A a = 2)  : zX (d + 1) 97 30 ls (zI i0 :: zO (some a) :: []) A K = zX d 95 0 [zO (some a), zI i0] [] A (zK (d + 1) 97 30 33 ls [] K) := zx_callV (t := 2) z97 zo97 dX1_whole_30 rfl C3_35 rfl rfl zm95 rfl rfl (zwt_le (Nat.le_of_ble_eq_true rfl)) rfl h
theorem s97_33 : zX d 97 33 [v0, zO o] st A K = zX d 97 34 [v0, zO o] (zO o :: st) A K := zx_aload_n z97 dX1_whole_33 rfl rfl
theorem s97_34 : zX d 97 34 ls [zO o] A K = K (Sum.inl (some (zO o))) A := zx_aret z97 dX1_whole_34 rfl
theorem s98_0 : zX d 98 0 [zO o, v1, v2, v3] st A K = zX d 98 1 [zO o, v1, v2, v3] (zO o :: st) A K := zx_aload_n z98 dX2_init_0 rfl rfl
theorem s98_1 : zX d 98 1 ls (zO (some a) :: []) A K = zX d 98 4 ls [] A K := zx_inI z98 zo98 dX2_init_1 rfl rfl rfl (zin_1 (zwt_le (Nat.le_of_ble_eq_true rfl)))
theorem s98_4 : zX d 98 4 [zO o, v1, v2, v3] st A K = zX d 98 5 [zO o, v1, v2, v3] (zO o :: st) A K := zx_aload_n z98 dX2_init_4 rfl rfl
theorem s98_5 : zX d 98 5 [v0, zI x, v2, v3] st A K = zX d 98 6 [v0, zI x, v2, v3] (zI x :: st) A K := zx_iload_n z98 dX2_init_5 rfl rfl
theorem s98_6 (h : tg A a = 3) : zX d 98 6 ls (zI x :: zO (some a) :: st) A K = zX d 98 9 ls st (pF A a 0 (zI x)) K := zx_putf (q := 0) z98 zo98 dX2_init_6 F4_9 rfl rfl rfl h rfl
theorem s98_9 : zX d 98 9 [zO o, v1, v2, v3] st A K = zX d 98 10 [zO o, v1, v2, v3] (zO o :: st) A K := zx_aload_n z98 dX2_init_9 rfl rfl
theorem s98_10 : zX d 98 10 [v0, v1, zI x, v3] st A K = zX d 98 11 [v0, v1, zI x, v3] (zI x :: st) A K := zx_iload_n z98 dX2_init_10 rfl rfl
theorem s98_11 (h : tg A a = 3) : zX d 98 11 ls (zI x :: zO (some a) :: st) A K = zX d 98 14 ls st (pF A a 1 (zI x)) K := zx_putf (q := 0) z98 zo98 dX2_init_11 F4_15 rfl rfl rfl h rfl
theorem s98_14 : zX d 98 14 [zO o, v1, v2, v3] st A K = zX d 98 15 [zO o, v1, v2, v3] (zO o :: st) A K := zx_aload_n z98 dX2_init_14 rfl rfl
theorem s98_15 : zX d 98 15 [v0, v1, v2, zO o] st A K = zX d 98 16 [v0, v1, v2, zO o] (zO o :: st) A K := zx_aload_n z98 dX2_init_15 rfl rfl
theorem s98_16 (h : tg A a = 3) : zX d 98 16 ls (zO o :: zO (some a) :: st) A K = zX d 98 19 ls st (pF A a 2 (zO o)) K := zx_putf (q := 3) z98 zo98 dX2_init_16 F4_18 rfl rfl rfl h rfl
theorem s98_19 : zX d 98 19 ls [] A K = K (Sum.inl none) A := zx_vret z98 dX2_init_19 rfl
theorem s99_0 : zX d 99 0 [zO o, v1] st A K = zX d 99 1 [zO o, v1] (zO o :: st) A K := zx_aload_n z99 dX2_compareTo_0 rfl rfl
theorem s99_1 : zX d 99 1 [v0, zO o] st A K = zX d 99 2 [v0, zO o] (zO o :: st) A K := zx_aload_n z99 dX2_compareTo_1 rfl rfl
theorem s99_2 (h : ([3] : List Nat).contains (tg A a) = true) : zX d 99 2 ls (zO (some a) :: st) A K = zX d 99 5 ls (zO (some a) :: st) A K := zx_cast z99 zo99 dX2_compareTo_2 rfl rfl h
theorem s99_2n : zX d 99 2 ls (zO none :: st) A K = zX d 99 5 ls (zO none :: st) A K := zx_castN z99 zo99 dX2_compareTo_2 rfl rfl
theorem s99_5 (h : tg A a = 3)  : zX (d + 1) 99 5 ls (zO o0 :: zO (some a) :: []) A K = zX d 100 0 [zO (some a), zO o0, zU] [] A (zK (d + 1) 99 5 8 ls [] K) := zx_callV (t := 3) z99 zo99 dX2_compareTo_5 rfl C4_36 rfl rfl zm100 rfl rfl (zwt_le (Nat.le_of_ble_eq_true rfl)) rfl h
theorem s99_8 : zX d 99 8 ls [zI x] A K = K (Sum.inl (some (zI x))) A := zx_iret z99 dX2_compareTo_8 zk99 rfl
theorem s100_0 : zX d 100 0 [zO o, v1, v2] st A K = zX d 100 1 [zO o, v1, v2] (zO o :: st) A K := zx_aload_n z100 dX2_compareTo_2_0 rfl rfl
theorem s100_1 (h : tg A a = 3) : zX d 100 1 ls (zO (some a) :: st) A K = zX d 100 4 ls (fd A a 0 :: st) A K := zx_getf z100 zo100 dX2_compareTo_2_1 F4_9 rfl h
theorem s100_4 : zX d 100 4 [v0, zO o, v2] st A K = zX d 100 5 [v0, zO o, v2] (zO o :: st) A K := zx_aload_n z100 dX2_compareTo_2_4 rfl rfl
theorem s100_5 (h : tg A a = 3) : zX d 100 5 ls (zO (some a) :: st) A K = zX d 100 8 ls (fd A a 0 :: st) A K := zx_getf z100 zo100 dX2_compareTo_2_5 F4_9 rfl h
theorem s100_8 : zX d 100 8 ls (zI y :: zI x :: st) A K = (if x ≠ y then zX d 100 22 ls st A K else zX d 100 11 ls st A K) := zx_ic_ne z100 dX2_compareTo_2_8 rfl rfl
theorem s100_11 : zX d 100 11 [zO o, v1, v2] st A K = zX d 100 12 [zO o, v1, v2] (zO o :: st) A K := zx_aload_n z100 dX2_compareTo_2_11 rfl rfl
theorem s100_12 (h : tg A a = 3) : zX d 100 12 ls (zO (some a) :: st) A K = zX d 100 15 ls (fd A a 1 :: st) A K := zx_getf z100 zo100 dX2_compareTo_2_12 F4_15 rfl h
theorem s100_15 : zX d 100 15 [v0, zO o, v2] st A K = zX d 100 16 [v0, zO o, v2] (zO o :: st) A K := zx_aload_n z100 dX2_compareTo_2_15 rfl rfl
theorem s100_16 (h : tg A a = 3) : zX d 100 16 ls (zO (some a) :: st) A K = zX d 100 19 ls (fd A a 1 :: st) A K := zx_getf z100 zo100 dX2_compareTo_2_16 F4_15 rfl h
theorem s100_19 : zX d 100 19 ls (zI y :: zI x :: st) A K = (if x = y then zX d 100 44 ls st A K else zX d 100 22 ls st A K) := zx_ic_eq z100 dX2_compareTo_2_19 rfl rfl
theorem s100_22 : zX d 100 22 ls st A K = zX d 100 23 ls (zI 3 :: st) A K := zx_const z100 dX2_compareTo_2_22 (by decide) rfl
theorem s100_23 : zX d 100 23 [zO o, v1, v2] st A K = zX d 100 24 [zO o, v1, v2] (zO o :: st) A K := zx_aload_n z100 dX2_compareTo_2_23 rfl rfl
theorem s100_24 (h : tg A a = 3) : zX d 100 24 ls (zO (some a) :: st) A K = zX d 100 27 ls (fd A a 0 :: st) A K := zx_getf z100 zo100 dX2_compareTo_2_24 F4_9 rfl h
theorem s100_27 : zX d 100 27 [v0, zO o, v2] st A K = zX d 100 28 [v0, zO o, v2] (zO o :: st) A K := zx_aload_n z100 dX2_compareTo_2_27 rfl rfl
theorem s100_28 (h : tg A a = 3) : zX d 100 28 ls (zO (some a) :: st) A K = zX d 100 31 ls (fd A a 0 :: st) A K := zx_getf z100 zo100 dX2_compareTo_2_28 F4_9 rfl h
theorem s100_31 : zX d 100 31 ls (zI y :: zI x :: st) A K = zX d 100 32 ls (zI (zw (x - y)) :: st) A K := zx_isub z100 dX2_compareTo_2_31 rfl
theorem s100_32 : zX d 100 32 ls (zI y :: zI x :: st) A K = zX d 100 33 ls (zI (zw (x * y)) :: st) A K := zx_imul z100 dX2_compareTo_2_32 rfl
theorem s100_33 : zX d 100 33 [zO o, v1, v2] st A K = zX d 100 34 [zO o, v1, v2] (zO o :: st) A K := zx_aload_n z100 dX2_compareTo_2_33 rfl rfl
theorem s100_34 (h : tg A a = 3) : zX d 100 34 ls (zO (some a) :: st) A K = zX d 100 37 ls (fd A a 1 :: st) A K := zx_getf z100 zo100 dX2_compareTo_2_34 F4_15 rfl h
theorem s100_37 : zX d 100 37 ls (zI y :: zI x :: st) A K = zX d 100 38 ls (zI (zw (x + y)) :: st) A K := zx_iadd z100 dX2_compareTo_2_37 rfl
theorem s100_38 : zX d 100 38 [v0, zO o, v2] st A K = zX d 100 39 [v0, zO o, v2] (zO o :: st) A K := zx_aload_n z100 dX2_compareTo_2_38 rfl rfl
theorem s100_39 (h : tg A a = 3) : zX d 100 39 ls (zO (some a) :: st) A K = zX d 100 42 ls (fd A a 1 :: st) A K := zx_getf z100 zo100 dX2_compareTo_2_39 F4_15 rfl h
theorem s100_42 : zX d 100 42 ls (zI y :: zI x :: st) A K = zX d 100 43 ls (zI (zw (x - y)) :: st) A K := zx_isub z100 dX2_compareTo_2_42 rfl
theorem s100_43 : zX d 100 43 ls [zI x] A K = K (Sum.inl (some (zI x))) A := zx_iret z100 dX2_compareTo_2_43 zk100 rfl
theorem s100_44 : zX d 100 44 ls st A K = zX d 100 45 ls (zI 0 :: st) A K := zx_const z100 dX2_compareTo_2_44 (by decide) rfl
theorem s100_45 : zX d 100 45 [v0, v1, v2] (zI x :: st) A K = zX d 100 46 [v0, v1, zI x] st A K := zx_istore_n z100 dX2_compareTo_2_45 (Nat.le_of_ble_eq_true rfl) rfl rfl
theorem s100_46 : zX d 100 46 [v0, v1, zI x] st A K = zX d 100 47 [v0, v1, zI x] (zI x :: st) A K := zx_iload_n z100 dX2_compareTo_2_46 rfl rfl
theorem s100_47 : zX d 100 47 [zO o, v1, v2] st A K = zX d 100 48 [zO o, v1, v2] (zO o :: st) A K := zx_aload_n z100 dX2_compareTo_2_47 rfl rfl
theorem s100_48 (h : tg A a = 3) : zX d 100 48 ls (zO (some a) :: st) A K = zX d 100 51 ls (fd A a 2 :: st) A K := zx_getf z100 zo100 dX2_compareTo_2_48 F4_18 rfl h
theorem s100_51 (h : zarr (tg A a) ≠ 0) : zX d 100 51 ls (zO (some a) :: st) A K = zX d 100 52 ls (zI (zlen A a : Nat) :: st) A K := zx_alen z100 dX2_compareTo_2_51 rfl h
theorem s100_52 : zX d 100 52 ls (zI y :: zI x :: st) A K = (if y ≤ x then zX d 100 90 ls st A K else zX d 100 55 ls st A K) := zx_ic_ge z100 dX2_compareTo_2_52 rfl rfl
theorem s100_55 : zX d 100 55 [zO o, v1, v2] st A K = zX d 100 56 [zO o, v1, v2] (zO o :: st) A K := zx_aload_n z100 dX2_compareTo_2_55 rfl rfl
theorem s100_56 (h : tg A a = 3) : zX d 100 56 ls (zO (some a) :: st) A K = zX d 100 59 ls (fd A a 2 :: st) A K := zx_getf z100 zo100 dX2_compareTo_2_56 F4_18 rfl h
theorem s100_59 : zX d 100 59 [v0, v1, zI x] st A K = zX d 100 60 [v0, v1, zI x] (zI x :: st) A K := zx_iload_n z100 dX2_compareTo_2_59 rfl rfl
theorem s100_60 (h : tg A a = 20) (h0 : 0 ≤ x) (h1 : x.toNat < (ia A a).length) : zX d 100 60 ls (zI x :: zO (some a) :: st) A K = zX d 100 61 ls (zI ((ia A a).getD x.toNat 0) :: st) A K := zx_iald z100 dX2_compareTo_2_60 rfl h h0 h1
theorem s100_60s (h : tg A a = 30) (h0 : 0 ≤ x) (h1 : x.toNat < (ia A a).length) : zX d 100 60 ls (zI x :: zO (some a) :: st) A K = zX d 100 61 ls (zI ((ia A a).getD x.toNat 0) :: st) A K := zx_sald z100 dX2_compareTo_2_60 rfl h h0 h1
theorem s100_61 : zX d 100 61 [v0, zO o, v2] st A K = zX d 100 62 [v0, zO o, v2] (zO o :: st) A K := zx_aload_n z100 dX2_compareTo_2_61 rfl rfl
theorem s100_62 (h : tg A a = 3) : zX d 100 62 ls (zO (some a) :: st) A K = zX d 100 65 ls (fd A a 2 :: st) A K := zx_getf z100 zo100 dX2_compareTo_2_62 F4_18 rfl h
theorem s100_65 : zX d 100 65 [v0, v1, zI x] st A K = zX d 100 66 [v0, v1, zI x] (zI x :: st) A K := zx_iload_n z100 dX2_compareTo_2_65 rfl rfl
theorem s100_66 (h : tg A a = 20) (h0 : 0 ≤ x) (h1 : x.toNat < (ia A a).length) : zX d 100 66 ls (zI x :: zO (some a) :: st) A K = zX d 100 67 ls (zI ((ia A a).getD x.toNat 0) :: st) A K := zx_iald z100 dX2_compareTo_2_66 rfl h h0 h1
theorem s100_66s (h : tg A a = 30) (h0 : 0 ≤ x) (h1 : x.toNat < (ia A a).length) : zX d 100 66 ls (zI x :: zO (some a) :: st) A K = zX d 100 67 ls (zI ((ia A a).getD x.toNat 0) :: st) A K := zx_sald z100 dX2_compareTo_2_66 rfl h h0 h1
theorem s100_67 : zX d 100 67 ls (zI y :: zI x :: st) A K = (if x = y then zX d 100 84 ls st A K else zX d 100 70 ls st A K) := zx_ic_eq z100 dX2_compareTo_2_67 rfl rfl
theorem s100_70 : zX d 100 70 [zO o, v1, v2] st A K = zX d 100 71 [zO o, v1, v2] (zO o :: st) A K := zx_aload_n z100 dX2_compareTo_2_70 rfl rfl
theorem s100_71 (h : tg A a = 3) : zX d 100 71 ls (zO (some a) :: st) A K = zX d 100 74 ls (fd A a 2 :: st) A K := zx_getf z100 zo100 dX2_compareTo_2_71 F4_18 rfl h
theorem s100_74 : zX d 100 74 [v0, v1, zI x] st A K = zX d 100 75 [v0, v1, zI x] (zI x :: st) A K := zx_iload_n z100 dX2_compareTo_2_74 rfl rfl
theorem s100_75 (h : tg A a = 20) (h0 : 0 ≤ x) (h1 : x.toNat < (ia A a).length) : zX d 100 75 ls (zI x :: zO (some a) :: st) A K = zX d 100 76 ls (zI ((ia A a).getD x.toNat 0) :: st) A K := zx_iald z100 dX2_compareTo_2_75 rfl h h0 h1
theorem s100_75s (h : tg A a = 30) (h0 : 0 ≤ x) (h1 : x.toNat < (ia A a).length) : zX d 100 75 ls (zI x :: zO (some a) :: st) A K = zX d 100 76 ls (zI ((ia A a).getD x.toNat 0) :: st) A K := zx_sald z100 dX2_compareTo_2_75 rfl h h0 h1
theorem s100_76 : zX d 100 76 [v0, zO o, v2] st A K = zX d 100 77 [v0, zO o, v2] (zO o :: st) A K := zx_aload_n z100 dX2_compareTo_2_76 rfl rfl
theorem s100_77 (h : tg A a = 3) : zX d 100 77 ls (zO (some a) :: st) A K = zX d 100 80 ls (fd A a 2 :: st) A K := zx_getf z100 zo100 dX2_compareTo_2_77 F4_18 rfl h
theorem s100_80 : zX d 100 80 [v0, v1, zI x] st A K = zX d 100 81 [v0, v1, zI x] (zI x :: st) A K := zx_iload_n z100 dX2_compareTo_2_80 rfl rfl
theorem s100_81 (h : tg A a = 20) (h0 : 0 ≤ x) (h1 : x.toNat < (ia A a).length) : zX d 100 81 ls (zI x :: zO (some a) :: st) A K = zX d 100 82 ls (zI ((ia A a).getD x.toNat 0) :: st) A K := zx_iald z100 dX2_compareTo_2_81 rfl h h0 h1
theorem s100_81s (h : tg A a = 30) (h0 : 0 ≤ x) (h1 : x.toNat < (ia A a).length) : zX d 100 81 ls (zI x :: zO (some a) :: st) A K = zX d 100 82 ls (zI ((ia A a).getD x.toNat 0) :: st) A K := zx_sald z100 dX2_compareTo_2_81 rfl h h0 h1
theorem s100_82 : zX d 100 82 ls (zI y :: zI x :: st) A K = zX d 100 83 ls (zI (zw (x - y)) :: st) A K := zx_isub z100 dX2_compareTo_2_82 rfl
theorem s100_83 : zX d 100 83 ls [zI x] A K = K (Sum.inl (some (zI x))) A := zx_iret z100 dX2_compareTo_2_83 zk100 rfl
theorem s100_84 : zX d 100 84 [v0, v1, zI x] st A K = zX d 100 87 [v0, v1, zI (zw (x + 1))] st A K := zx_iinc z100 dX2_compareTo_2_84 rfl rfl rfl
theorem s100_87 : zX d 100 87 ls st A K = zX d 100 46 ls st A K := zx_goto z100 dX2_compareTo_2_87 rfl
theorem s100_90 : zX d 100 90 ls st A K = zX d 100 91 ls (zI 0 :: st) A K := zx_const z100 dX2_compareTo_2_90 (by decide) rfl
theorem s100_91 : zX d 100 91 ls [zI x] A K = K (Sum.inl (some (zI x))) A := zx_iret z100 dX2_compareTo_2_91 zk100 rfl
theorem s101_0 : zX d 101 0 ls st A K = zX d 101 3 ls (zO (some (nx A)) :: st) (nO A 3) K := zx_new z101 zo101 dX2_copy_0 rfl rfl
theorem s101_3 (h : zc v = true) : zX d 101 3 ls (v :: st) A K = zX d 101 4 ls (v :: v :: st) A K := zx_dup z101 dX2_copy_3 rfl h
theorem s101_4 : zX d 101 4 [zO o] st A K = zX d 101 5 [zO o] (zO o :: st) A K := zx_aload_n z101 dX2_copy_4 rfl rfl
theorem s101_5 (h : tg A a = 3) : zX d 101 5 ls (zO (some a) :: st) A K = zX d 101 8 ls (fd A a 0 :: st) A K := zx_getf z101 zo101 dX2_copy_5 F4_9 rfl h
theorem s101_8 : zX d 101 8 [zO o] st A K = zX d 101 9 [zO o] (zO o :: st) A K := zx_aload_n z101 dX2_copy_8 rfl rfl
theorem s101_9 (h : tg A a = 3) : zX d 101 9 ls (zO (some a) :: st) A K = zX d 101 12 ls (fd A a 1 :: st) A K := zx_getf z101 zo101 dX2_copy_9 F4_15 rfl h
theorem s101_12 : zX d 101 12 [zO o] st A K = zX d 101 13 [zO o] (zO o :: st) A K := zx_aload_n z101 dX2_copy_12 rfl rfl
theorem s101_13 (h : tg A a = 3) : zX d 101 13 ls (zO (some a) :: st) A K = zX d 101 16 ls (fd A a 2 :: st) A K := zx_getf z101 zo101 dX2_copy_13 F4_18 rfl h
theorem s101_16 (h : tg A a = 20) : zX d 101 16 ls (zO (some a) :: [w0, w1, w2, w3]) A K = zX d 101 19 ls (zO (some (nx A)) :: [w0, w1, w2, w3]) (nA A 20 (ia A a)) K := zx_inV z101 zo101 dX2_copy_16 rfl rfl rfl (zin_4 (zwt_le (Nat.le_of_ble_eq_true rfl)) h)
theorem s101_19 (h : ([20] : List Nat).contains (tg A a) = true) : zX d 101 19 ls (zO (some a) :: st) A K = zX d 101 22 ls (zO (some a) :: st) A K := zx_cast z101 zo101 dX2_copy_19 rfl rfl h
theorem s101_19n : zX d 101 19 ls (zO none :: st) A K = zX d 101 22 ls (zO none :: st) A K := zx_castN z101 zo101 dX2_copy_19 rfl rfl
theorem s101_22 : zX (d + 1) 101 22 ls (zO o2 :: zI i1 :: zI i0 :: zO (some a) :: [w0]) A K = zX d 98 0 [zO (some a), zI i0, zI i1, zO o2] [] A (zK (d + 1) 101 22 25 ls [w0] K) := zx_callI z101 zo101 dX2_copy_22 rfl C4_27 rfl rfl zm98 rfl rfl (zwt_le (Nat.le_of_ble_eq_true rfl)) rfl
theorem s101_25 : zX d 101 25 ls [zO o] A K = K (Sum.inl (some (zO o))) A := zx_aret z101 dX2_copy_25 rfl
theorem s102_0 : zX d 102 0 [zO o, v1, v2, v3, v4, v5, v6, v7, v8, v9] st A K = zX d 102 1 [zO o, v1, v2, v3, v4, v5, v6, v7, v8, v9] (zO o :: st) A K := zx_aload_n z102 dX2_compose_0 rfl rfl
theorem s102_1 : zX d 102 1 [v0, zO o, v2, v3, v4, v5, v6, v7, v8, v9] st A K = zX d 102 2 [v0, zO o, v2, v3, v4, v5, v6, v7, v8, v9] (zO o :: st) A K := zx_aload_n z102 dX2_compose_1 rfl rfl
theorem s102_2 (h : tg A a = 3) : zX d 102 2 ls (zO (some a) :: st) A K = zX d 102 5 ls (fd A a 0 :: st) A K := zx_getf z102 zo102 dX2_compose_2 F4_9 rfl h
theorem s102_5 (h : tg A a = 3) : zX d 102 5 ls (zI x :: zO (some a) :: st) A K = zX d 102 8 ls st (pF A a 0 (zI x)) K := zx_putf (q := 0) z102 zo102 dX2_compose_5 F4_9 rfl rfl rfl h rfl
theorem s102_8 : zX d 102 8 [zO o, v1, v2, v3, v4, v5, v6, v7, v8, v9] st A K = zX d 102 9 [zO o, v1, v2, v3, v4, v5, v6, v7, v8, v9] (zO o :: st) A K := zx_aload_n z102 dX2_compose_8 rfl rfl
theorem s102_9 : zX d 102 9 [v0, v1, zO o, v3, v4, v5, v6, v7, v8, v9] st A K = zX d 102 10 [v0, v1, zO o, v3, v4, v5, v6, v7, v8, v9] (zO o :: st) A K := zx_aload_n z102 dX2_compose_9 rfl rfl
theorem s102_10 (h : tg A a = 3) : zX d 102 10 ls (zO (some a) :: st) A K = zX d 102 13 ls (fd A a 1 :: st) A K := zx_getf z102 zo102 dX2_compose_10 F4_15 rfl h
theorem s102_13 (h : tg A a = 3) : zX d 102 13 ls (zI x :: zO (some a) :: st) A K = zX d 102 16 ls st (pF A a 1 (zI x)) K := zx_putf (q := 0) z102 zo102 dX2_compose_13 F4_15 rfl rfl rfl h rfl
theorem s102_16 : zX d 102 16 ls st A K = zX d 102 17 ls (zI 0 :: st) A K := zx_const z102 dX2_compose_16 (by decide) rfl
theorem s102_17 : zX d 102 17 [v0, v1, v2, v3, v4, v5, v6, v7, v8, v9] (zI x :: st) A K = zX d 102 18 [v0, v1, v2, zI x, v4, v5, v6, v7, v8, v9] st A K := zx_istore_n z102 dX2_compose_17 (Nat.le_of_ble_eq_true rfl) rfl rfl
theorem s102_18 : zX d 102 18 [v0, v1, v2, zI x, v4, v5, v6, v7, v8, v9] st A K = zX d 102 19 [v0, v1, v2, zI x, v4, v5, v6, v7, v8, v9] (zI x :: st) A K := zx_iload_n z102 dX2_compose_18 rfl rfl
theorem s102_19 : zX d 102 19 [zO o, v1, v2, v3, v4, v5, v6, v7, v8, v9] st A K = zX d 102 20 [zO o, v1, v2, v3, v4, v5, v6, v7, v8, v9] (zO o :: st) A K := zx_aload_n z102 dX2_compose_19 rfl rfl
theorem s102_20 (h : tg A a = 3) : zX d 102 20 ls (zO (some a) :: st) A K = zX d 102 23 ls (fd A a 2 :: st) A K := zx_getf z102 zo102 dX2_compose_20 F4_18 rfl h
theorem s102_23 (h : zarr (tg A a) ≠ 0) : zX d 102 23 ls (zO (some a) :: st) A K = zX d 102 24 ls (zI (zlen A a : Nat) :: st) A K := zx_alen z102 dX2_compose_23 rfl h
theorem s102_24 : zX d 102 24 ls (zI y :: zI x :: st) A K = (if y ≤ x then zX d 102 133 ls st A K else zX d 102 27 ls st A K) := zx_ic_ge z102 dX2_compose_24 rfl rfl
theorem s102_27 : zX d 102 27 [v0, v1, v2, zI x, v4, v5, v6, v7, v8, v9] st A K = zX d 102 28 [v0, v1, v2, zI x, v4, v5, v6, v7, v8, v9] (zI x :: st) A K := zx_iload_n z102 dX2_compose_27 rfl rfl
theorem s102_28 : zX d 102 28 ls st A K = zX d 102 29 ls (zI 3 :: st) A K := zx_const z102 dX2_compose_28 (by decide) rfl
theorem s102_29 (h : y ≠ 0) : zX d 102 29 ls (zI y :: zI x :: st) A K = zX d 102 30 ls (zI (Int32.ofInt x / Int32.ofInt y).toInt :: st) A K := zx_idiv z102 dX2_compose_29 rfl h
theorem s102_30 : zX d 102 30 ls st A K = zX d 102 31 ls (zI 3 :: st) A K := zx_const z102 dX2_compose_30 (by decide) rfl
theorem s102_31 : zX d 102 31 ls (zI y :: zI x :: st) A K = zX d 102 32 ls (zI (zw (x * y)) :: st) A K := zx_imul z102 dX2_compose_31 rfl
theorem s102_32 : zX d 102 32 [v0, v1, v2, v3, v4, v5, v6, v7, v8, v9] (zI x :: st) A K = zX d 102 34 [v0, v1, v2, v3, zI x, v5, v6, v7, v8, v9] st A K := zx_istore z102 dX2_compose_32 (Nat.le_of_ble_eq_true rfl) rfl rfl
theorem s102_34 : zX d 102 34 [v0, v1, v2, zI x, v4, v5, v6, v7, v8, v9] st A K = zX d 102 35 [v0, v1, v2, zI x, v4, v5, v6, v7, v8, v9] (zI x :: st) A K := zx_iload_n z102 dX2_compose_34 rfl rfl
theorem s102_35 : zX d 102 35 ls st A K = zX d 102 36 ls (zI 3 :: st) A K := zx_const z102 dX2_compose_35 (by decide) rfl
theorem s102_36 (h : y ≠ 0) : zX d 102 36 ls (zI y :: zI x :: st) A K = zX d 102 37 ls (zI (Int32.ofInt x - Int32.ofInt x / Int32.ofInt y * Int32.ofInt y).toInt :: st) A K := zx_irem z102 dX2_compose_36 rfl h
theorem s102_37 : zX d 102 37 [v0, v1, v2, v3, v4, v5, v6, v7, v8, v9] (zI x :: st) A K = zX d 102 39 [v0, v1, v2, v3, v4, zI x, v6, v7, v8, v9] st A K := zx_istore z102 dX2_compose_37 (Nat.le_of_ble_eq_true rfl) rfl rfl
theorem s102_39 : zX d 102 39 [zO o, v1, v2, v3, v4, v5, v6, v7, v8, v9] st A K = zX d 102 40 [zO o, v1, v2, v3, v4, v5, v6, v7, v8, v9] (zO o :: st) A K := zx_aload_n z102 dX2_compose_39 rfl rfl
theorem s102_40 (h : tg A a = 3) : zX d 102 40 ls (zO (some a) :: st) A K = zX d 102 43 ls (fd A a 2 :: st) A K := zx_getf z102 zo102 dX2_compose_40 F4_18 rfl h
theorem s102_43 : zX d 102 43 [v0, v1, v2, zI x, v4, v5, v6, v7, v8, v9] st A K = zX d 102 44 [v0, v1, v2, zI x, v4, v5, v6, v7, v8, v9] (zI x :: st) A K := zx_iload_n z102 dX2_compose_43 rfl rfl
theorem s102_44 : zX d 102 44 ls st A K = zX d 102 45 ls (zI 0 :: st) A K := zx_const z102 dX2_compose_44 (by decide) rfl
theorem s102_45 (h : tg A a = 20) (h0 : 0 ≤ x) (h1 : x.toNat < (ia A a).length) : zX d 102 45 ls (zI y :: zI x :: zO (some a) :: st) A K = zX d 102 46 ls st (pI A a ((ia A a).set x.toNat y)) K := zx_iast z102 dX2_compose_45 rfl h h0 h1
theorem s102_46 : zX d 102 46 ls st A K = zX d 102 47 ls (zI 0 :: st) A K := zx_const z102 dX2_compose_46 (by decide) rfl
theorem s102_47 : zX d 102 47 [v0, v1, v2, v3, v4, v5, v6, v7, v8, v9] (zI x :: st) A K = zX d 102 49 [v0, v1, v2, v3, v4, v5, zI x, v7, v8, v9] st A K := zx_istore z102 dX2_compose_47 (Nat.le_of_ble_eq_true rfl) rfl rfl
theorem s102_49 : zX d 102 49 [v0, v1, v2, v3, v4, v5, zI x, v7, v8, v9] st A K = zX d 102 51 [v0, v1, v2, v3, v4, v5, zI x, v7, v8, v9] (zI x :: st) A K := zx_iload z102 dX2_compose_49 rfl rfl
theorem s102_51 : zX d 102 51 ls st A K = zX d 102 52 ls (zI 3 :: st) A K := zx_const z102 dX2_compose_51 (by decide) rfl
theorem s102_52 : zX d 102 52 ls (zI y :: zI x :: st) A K = (if y ≤ x then zX d 102 127 ls st A K else zX d 102 55 ls st A K) := zx_ic_ge z102 dX2_compose_52 rfl rfl
theorem s102_55 : zX d 102 55 [v0, zO o, v2, v3, v4, v5, v6, v7, v8, v9] st A K = zX d 102 56 [v0, zO o, v2, v3, v4, v5, v6, v7, v8, v9] (zO o :: st) A K := zx_aload_n z102 dX2_compose_55 rfl rfl
theorem s102_56 (h : tg A a = 3) : zX d 102 56 ls (zO (some a) :: st) A K = zX d 102 59 ls (fd A a 2 :: st) A K := zx_getf z102 zo102 dX2_compose_56 F4_18 rfl h
theorem s102_59 : zX d 102 59 [v0, v1, v2, v3, zI x, v5, v6, v7, v8, v9] st A K = zX d 102 61 [v0, v1, v2, v3, zI x, v5, v6, v7, v8, v9] (zI x :: st) A K := zx_iload z102 dX2_compose_59 rfl rfl
theorem s102_61 : zX d 102 61 [v0, v1, v2, v3, v4, v5, zI x, v7, v8, v9] st A K = zX d 102 63 [v0, v1, v2, v3, v4, v5, zI x, v7, v8, v9] (zI x :: st) A K := zx_iload z102 dX2_compose_61 rfl rfl
theorem s102_63 : zX d 102 63 ls (zI y :: zI x :: st) A K = zX d 102 64 ls (zI (zw (x + y)) :: st) A K := zx_iadd z102 dX2_compose_63 rfl
theorem s102_64 (h : tg A a = 20) (h0 : 0 ≤ x) (h1 : x.toNat < (ia A a).length) : zX d 102 64 ls (zI x :: zO (some a) :: st) A K = zX d 102 65 ls (zI ((ia A a).getD x.toNat 0) :: st) A K := zx_iald z102 dX2_compose_64 rfl h h0 h1
theorem s102_64s (h : tg A a = 30) (h0 : 0 ≤ x) (h1 : x.toNat < (ia A a).length) : zX d 102 64 ls (zI x :: zO (some a) :: st) A K = zX d 102 65 ls (zI ((ia A a).getD x.toNat 0) :: st) A K := zx_sald z102 dX2_compose_64 rfl h h0 h1
theorem s102_65 : zX d 102 65 [v0, v1, v2, v3, v4, v5, v6, v7, v8, v9] (zI x :: st) A K = zX d 102 67 [v0, v1, v2, v3, v4, v5, v6, zI x, v8, v9] st A K := zx_istore z102 dX2_compose_65 (Nat.le_of_ble_eq_true rfl) rfl rfl
theorem s102_67 : zX d 102 67 [v0, v1, zO o, v3, v4, v5, v6, v7, v8, v9] st A K = zX d 102 68 [v0, v1, zO o, v3, v4, v5, v6, v7, v8, v9] (zO o :: st) A K := zx_aload_n z102 dX2_compose_67 rfl rfl
theorem s102_68 (h : tg A a = 3) : zX d 102 68 ls (zO (some a) :: st) A K = zX d 102 71 ls (fd A a 2 :: st) A K := zx_getf z102 zo102 dX2_compose_68 F4_18 rfl h
theorem s102_71 : zX d 102 71 ls st A K = zX d 102 72 ls (zI 3 :: st) A K := zx_const z102 dX2_compose_71 (by decide) rfl
theorem s102_72 : zX d 102 72 [v0, v1, v2, v3, v4, v5, zI x, v7, v8, v9] st A K = zX d 102 74 [v0, v1, v2, v3, v4, v5, zI x, v7, v8, v9] (zI x :: st) A K := zx_iload z102 dX2_compose_72 rfl rfl
theorem s102_74 : zX d 102 74 ls (zI y :: zI x :: st) A K = zX d 102 75 ls (zI (zw (x * y)) :: st) A K := zx_imul z102 dX2_compose_74 rfl
theorem s102_75 : zX d 102 75 [v0, v1, v2, v3, v4, zI x, v6, v7, v8, v9] st A K = zX d 102 77 [v0, v1, v2, v3, v4, zI x, v6, v7, v8, v9] (zI x :: st) A K := zx_iload z102 dX2_compose_75 rfl rfl
theorem s102_77 : zX d 102 77 ls (zI y :: zI x :: st) A K = zX d 102 78 ls (zI (zw (x + y)) :: st) A K := zx_iadd z102 dX2_compose_77 rfl
theorem s102_78 (h : tg A a = 20) (h0 : 0 ≤ x) (h1 : x.toNat < (ia A a).length) : zX d 102 78 ls (zI x :: zO (some a) :: st) A K = zX d 102 79 ls (zI ((ia A a).getD x.toNat 0) :: st) A K := zx_iald z102 dX2_compose_78 rfl h h0 h1
theorem s102_78s (h : tg A a = 30) (h0 : 0 ≤ x) (h1 : x.toNat < (ia A a).length) : zX d 102 78 ls (zI x :: zO (some a) :: st) A K = zX d 102 79 ls (zI ((ia A a).getD x.toNat 0) :: st) A K := zx_sald z102 dX2_compose_78 rfl h h0 h1
theorem s102_79 : zX d 102 79 [v0, v1, v2, v3, v4, v5, v6, v7, v8, v9] (zI x :: st) A K = zX d 102 81 [v0, v1, v2, v3, v4, v5, v6, v7, zI x, v9] st A K := zx_istore z102 dX2_compose_79 (Nat.le_of_ble_eq_true rfl) rfl rfl
theorem s102_81 : zX d 102 81 [v0, v1, v2, v3, v4, v5, v6, zI x, v8, v9] st A K = zX d 102 83 [v0, v1, v2, v3, v4, v5, v6, zI x, v8, v9] (zI x :: st) A K := zx_iload z102 dX2_compose_81 rfl rfl
theorem s102_83 : zX d 102 83 ls (zI x :: st) A K = (if x = 0 then zX d 102 91 ls st A K else zX d 102 86 ls st A K) := zx_if_eq z102 dX2_compose_83 rfl rfl
theorem s102_86 : zX d 102 86 [v0, v1, v2, v3, v4, v5, v6, v7, zI x, v9] st A K = zX d 102 88 [v0, v1, v2, v3, v4, v5, v6, v7, zI x, v9] (zI x :: st) A K := zx_iload z102 dX2_compose_86 rfl rfl
theorem s102_88 : zX d 102 88 ls (zI x :: st) A K = (if x ≠ 0 then zX d 102 95 ls st A K else zX d 102 91 ls st A K) := zx_if_ne z102 dX2_compose_88 rfl rfl
theorem s102_91 : zX d 102 91 ls st A K = zX d 102 92 ls (zI 0 :: st) A K := zx_const z102 dX2_compose_91 (by decide) rfl
theorem s102_92 : zX d 102 92 ls st A K = zX d 102 102 ls st A K := zx_goto z102 dX2_compose_92 rfl
theorem s102_95 : zX d 102 95 [v0, v1, v2, v3, v4, v5, v6, zI x, v8, v9] st A K = zX d 102 97 [v0, v1, v2, v3, v4, v5, v6, zI x, v8, v9] (zI x :: st) A K := zx_iload z102 dX2_compose_95 rfl rfl
theorem s102_97 : zX d 102 97 [v0, v1, v2, v3, v4, v5, v6, v7, zI x, v9] st A K = zX d 102 99 [v0, v1, v2, v3, v4, v5, v6, v7, zI x, v9] (zI x :: st) A K := zx_iload z102 dX2_compose_97 rfl rfl
theorem s102_99 : zX (d + 1) 102 99 ls (zI i1 :: zI i0 :: []) A K = zX d 277 0 [zI i0, zI i1] [] A (zK (d + 1) 102 99 102 ls [] K) := zx_callS z102 zo102 dX2_compose_99 rfl C4_30 rfl rfl zm277 rfl rfl (zwt_le (Nat.le_of_ble_eq_true rfl)) rfl
theorem s102_102 : zX d 102 102 [v0, v1, v2, v3, v4, v5, v6, v7, v8, v9] (zI x :: st) A K = zX d 102 104 [v0, v1, v2, v3, v4, v5, v6, v7, v8, zI x] st A K := zx_istore z102 dX2_compose_102 (Nat.le_of_ble_eq_true rfl) rfl rfl
theorem s102_104 : zX d 102 104 [zO o, v1, v2, v3, v4, v5, v6, v7, v8, v9] st A K = zX d 102 105 [zO o, v1, v2, v3, v4, v5, v6, v7, v8, v9] (zO o :: st) A K := zx_aload_n z102 dX2_compose_104 rfl rfl
theorem s102_105 (h : tg A a = 3) : zX d 102 105 ls (zO (some a) :: st) A K = zX d 102 108 ls (fd A a 2 :: st) A K := zx_getf z102 zo102 dX2_compose_105 F4_18 rfl h
theorem s102_108 : zX d 102 108 [v0, v1, v2, zI x, v4, v5, v6, v7, v8, v9] st A K = zX d 102 109 [v0, v1, v2, zI x, v4, v5, v6, v7, v8, v9] (zI x :: st) A K := zx_iload_n z102 dX2_compose_108 rfl rfl
theorem s102_109 : zX d 102 109 [zO o, v1, v2, v3, v4, v5, v6, v7, v8, v9] st A K = zX d 102 110 [zO o, v1, v2, v3, v4, v5, v6, v7, v8, v9] (zO o :: st) A K := zx_aload_n z102 dX2_compose_109 rfl rfl
theorem s102_110 (h : tg A a = 3) : zX d 102 110 ls (zO (some a) :: st) A K = zX d 102 113 ls (fd A a 2 :: st) A K := zx_getf z102 zo102 dX2_compose_110 F4_18 rfl h
theorem s102_113 : zX d 102 113 [v0, v1, v2, zI x, v4, v5, v6, v7, v8, v9] st A K = zX d 102 114 [v0, v1, v2, zI x, v4, v5, v6, v7, v8, v9] (zI x :: st) A K := zx_iload_n z102 dX2_compose_113 rfl rfl
theorem s102_114 (h : tg A a = 20) (h0 : 0 ≤ x) (h1 : x.toNat < (ia A a).length) : zX d 102 114 ls (zI x :: zO (some a) :: st) A K = zX d 102 115 ls (zI ((ia A a).getD x.toNat 0) :: st) A K := zx_iald z102 dX2_compose_114 rfl h h0 h1
theorem s102_114s (h : tg A a = 30) (h0 : 0 ≤ x) (h1 : x.toNat < (ia A a).length) : zX d 102 114 ls (zI x :: zO (some a) :: st) A K = zX d 102 115 ls (zI ((ia A a).getD x.toNat 0) :: st) A K := zx_sald z102 dX2_compose_114 rfl h h0 h1
theorem s102_115 : zX d 102 115 [v0, v1, v2, v3, v4, v5, v6, v7, v8, zI x] st A K = zX d 102 117 [v0, v1, v2, v3, v4, v5, v6, v7, v8, zI x] (zI x :: st) A K := zx_iload z102 dX2_compose_115 rfl rfl
theorem s102_117 : zX (d + 1) 102 117 ls (zI i1 :: zI i0 :: [w0, w1]) A K = zX d 277 0 [zI i0, zI i1] [] A (zK (d + 1) 102 117 120 ls [w0, w1] K) := zx_callS z102 zo102 dX2_compose_117 rfl C4_30 rfl rfl zm277 rfl rfl (zwt_le (Nat.le_of_ble_eq_true rfl)) rfl
theorem s102_120 (h : tg A a = 20) (h0 : 0 ≤ x) (h1 : x.toNat < (ia A a).length) : zX d 102 120 ls (zI y :: zI x :: zO (some a) :: st) A K = zX d 102 121 ls st (pI A a ((ia A a).set x.toNat y)) K := zx_iast z102 dX2_compose_120 rfl h h0 h1
theorem s102_121 : zX d 102 121 [v0, v1, v2, v3, v4, v5, zI x, v7, v8, v9] st A K = zX d 102 124 [v0, v1, v2, v3, v4, v5, zI (zw (x + 1)), v7, v8, v9] st A K := zx_iinc z102 dX2_compose_121 rfl rfl rfl
theorem s102_124 : zX d 102 124 ls st A K = zX d 102 49 ls st A K := zx_goto z102 dX2_compose_124 rfl
theorem s102_127 : zX d 102 127 [v0, v1, v2, zI x, v4, v5, v6, v7, v8, v9] st A K = zX d 102 130 [v0, v1, v2, zI (zw (x + 1)), v4, v5, v6, v7, v8, v9] st A K := zx_iinc z102 dX2_compose_127 rfl rfl rfl
theorem s102_130 : zX d 102 130 ls st A K = zX d 102 18 ls st A K := zx_goto z102 dX2_compose_130 rfl
theorem s102_133 : zX d 102 133 ls [] A K = K (Sum.inl none) A := zx_vret z102 dX2_compose_133 rfl
theorem s103_0 : zX d 103 0 [zO o] st A K = zX d 103 1 [zO o] (zO o :: st) A K := zx_aload_n z103 dX2_decreases_0 rfl rfl
theorem s103_1 (h : tg A a = 3) : zX d 103 1 ls (zO (some a) :: st) A K = zX d 103 4 ls (fd A a 2 :: st) A K := zx_getf z103 zo103 dX2_decreases_1 F4_18 rfl h
theorem s103_4 : zX d 103 4 ls st A K = zX d 103 5 ls (zI 0 :: st) A K := zx_const z103 dX2_decreases_4 (by decide) rfl
theorem s103_5 (h : tg A a = 20) (h0 : 0 ≤ x) (h1 : x.toNat < (ia A a).length) : zX d 103 5 ls (zI x :: zO (some a) :: st) A K = zX d 103 6 ls (zI ((ia A a).getD x.toNat 0) :: st) A K := zx_iald z103 dX2_decreases_5 rfl h h0 h1
theorem s103_5s (h : tg A a = 30) (h0 : 0 ≤ x) (h1 : x.toNat < (ia A a).length) : zX d 103 5 ls (zI x :: zO (some a) :: st) A K = zX d 103 6 ls (zI ((ia A a).getD x.toNat 0) :: st) A K := zx_sald z103 dX2_decreases_5 rfl h h0 h1
theorem s103_6 : zX d 103 6 ls st A K = zX d 103 7 ls (zI 2 :: st) A K := zx_const z103 dX2_decreases_6 (by decide) rfl
theorem s103_7 : zX d 103 7 ls (zI y :: zI x :: st) A K = (if x = y then zX d 103 31 ls st A K else zX d 103 10 ls st A K) := zx_ic_eq z103 dX2_decreases_7 rfl rfl
theorem s103_10 : zX d 103 10 [zO o] st A K = zX d 103 11 [zO o] (zO o :: st) A K := zx_aload_n z103 dX2_decreases_10 rfl rfl
theorem s103_11 (h : tg A a = 3) : zX d 103 11 ls (zO (some a) :: st) A K = zX d 103 14 ls (fd A a 2 :: st) A K := zx_getf z103 zo103 dX2_decreases_11 F4_18 rfl h
theorem s103_14 : zX d 103 14 ls st A K = zX d 103 15 ls (zI 4 :: st) A K := zx_const z103 dX2_decreases_14 (by decide) rfl
theorem s103_15 (h : tg A a = 20) (h0 : 0 ≤ x) (h1 : x.toNat < (ia A a).length) : zX d 103 15 ls (zI x :: zO (some a) :: st) A K = zX d 103 16 ls (zI ((ia A a).getD x.toNat 0) :: st) A K := zx_iald z103 dX2_decreases_15 rfl h h0 h1
theorem s103_15s (h : tg A a = 30) (h0 : 0 ≤ x) (h1 : x.toNat < (ia A a).length) : zX d 103 15 ls (zI x :: zO (some a) :: st) A K = zX d 103 16 ls (zI ((ia A a).getD x.toNat 0) :: st) A K := zx_sald z103 dX2_decreases_15 rfl h h0 h1
theorem s103_16 : zX d 103 16 ls st A K = zX d 103 17 ls (zI 2 :: st) A K := zx_const z103 dX2_decreases_16 (by decide) rfl
theorem s103_17 : zX d 103 17 ls (zI y :: zI x :: st) A K = (if x = y then zX d 103 31 ls st A K else zX d 103 20 ls st A K) := zx_ic_eq z103 dX2_decreases_17 rfl rfl
theorem s103_20 : zX d 103 20 [zO o] st A K = zX d 103 21 [zO o] (zO o :: st) A K := zx_aload_n z103 dX2_decreases_20 rfl rfl
theorem s103_21 (h : tg A a = 3) : zX d 103 21 ls (zO (some a) :: st) A K = zX d 103 24 ls (fd A a 2 :: st) A K := zx_getf z103 zo103 dX2_decreases_21 F4_18 rfl h
theorem s103_24 : zX d 103 24 ls st A K = zX d 103 26 ls (zI (8) :: st) A K := zx_bipush z103 dX2_decreases_24 (by decide) rfl
theorem s103_26 (h : tg A a = 20) (h0 : 0 ≤ x) (h1 : x.toNat < (ia A a).length) : zX d 103 26 ls (zI x :: zO (some a) :: st) A K = zX d 103 27 ls (zI ((ia A a).getD x.toNat 0) :: st) A K := zx_iald z103 dX2_decreases_26 rfl h h0 h1
theorem s103_26s (h : tg A a = 30) (h0 : 0 ≤ x) (h1 : x.toNat < (ia A a).length) : zX d 103 26 ls (zI x :: zO (some a) :: st) A K = zX d 103 27 ls (zI ((ia A a).getD x.toNat 0) :: st) A K := zx_sald z103 dX2_decreases_26 rfl h h0 h1
theorem s103_27 : zX d 103 27 ls st A K = zX d 103 28 ls (zI 2 :: st) A K := zx_const z103 dX2_decreases_27 (by decide) rfl
theorem s103_28 : zX d 103 28 ls (zI y :: zI x :: st) A K = (if x ≠ y then zX d 103 35 ls st A K else zX d 103 31 ls st A K) := zx_ic_ne z103 dX2_decreases_28 rfl rfl
theorem s103_31 : zX d 103 31 ls st A K = zX d 103 32 ls (zI 1 :: st) A K := zx_const z103 dX2_decreases_31 (by decide) rfl
theorem s103_32 : zX d 103 32 ls st A K = zX d 103 36 ls st A K := zx_goto z103 dX2_decreases_32 rfl
theorem s103_35 : zX d 103 35 ls st A K = zX d 103 36 ls (zI 0 :: st) A K := zx_const z103 dX2_decreases_35 (by decide) rfl
theorem s103_36 (h : x = 0 ∨ x = 1) : zX d 103 36 ls [zI x] A K = K (Sum.inl (some (zI x))) A := zx_iret z103 dX2_decreases_36 zk103 (by rcases h with q | q <;> subst q <;> rfl)
theorem s104_0 : zX d 104 0 [zO o, v1, v2, v3, v4, v5] st A K = zX d 104 1 [zO o, v1, v2, v3, v4, v5] (zO o :: st) A K := zx_aload_n z104 dX3_init_0 rfl rfl
theorem s104_1 : zX d 104 1 ls (zO (some a) :: []) A K = zX d 104 4 ls [] A K := zx_inI z104 zo104 dX3_init_1 rfl rfl rfl (zin_1 (zwt_le (Nat.le_of_ble_eq_true rfl)))
theorem s104_4 : zX d 104 4 [zO o, v1, v2, v3, v4, v5] st A K = zX d 104 5 [zO o, v1, v2, v3, v4, v5] (zO o :: st) A K := zx_aload_n z104 dX3_init_4 rfl rfl
theorem s104_5 : zX d 104 5 [v0, v1, zI x, v3, v4, v5] st A K = zX d 104 6 [v0, v1, zI x, v3, v4, v5] (zI x :: st) A K := zx_iload_n z104 dX3_init_5 rfl rfl
theorem s104_6 (h : 0 ≤ x) (h2 : x ≤ 1000000) : zX d 104 6 ls (zI x :: st) A K = zX d 104 8 ls (zO (some (nx A)) :: st) (nA A 21 (List.replicate x.toNat 0)) K := zx_new_byte z104 dX3_init_6 rfl h h2
theorem s104_8 (h : tg A a = 4) : zX d 104 8 ls (zO o :: zO (some a) :: st) A K = zX d 104 11 ls st (pF A a 0 (zO o)) K := zx_putf (q := 3) z104 zo104 dX3_init_8 F5_9 rfl rfl rfl h rfl
theorem s104_11 : zX d 104 11 [zO o, v1, v2, v3, v4, v5] st A K = zX d 104 12 [zO o, v1, v2, v3, v4, v5] (zO o :: st) A K := zx_aload_n z104 dX3_init_11 rfl rfl
theorem s104_12 : zX d 104 12 [v0, v1, zI x, v3, v4, v5] st A K = zX d 104 13 [v0, v1, zI x, v3, v4, v5] (zI x :: st) A K := zx_iload_n z104 dX3_init_12 rfl rfl
theorem s104_13 (h : 0 ≤ x) (h2 : x ≤ 1000000) : zX d 104 13 ls (zI x :: st) A K = zX d 104 15 ls (zO (some (nx A)) :: st) (nA A 20 (List.replicate x.toNat 0)) K := zx_new_int z104 dX3_init_13 rfl h h2
theorem s104_15 (h : tg A a = 4) : zX d 104 15 ls (zO o :: zO (some a) :: st) A K = zX d 104 18 ls st (pF A a 1 (zO o)) K := zx_putf (q := 3) z104 zo104 dX3_init_15 F5_15 rfl rfl rfl h rfl
theorem s104_18 : zX d 104 18 [v0, zO o, v2, v3, v4, v5] st A K = zX d 104 19 [v0, zO o, v2, v3, v4, v5] (zO o :: st) A K := zx_aload_n z104 dX3_init_18 rfl rfl
theorem s104_19 : zX d 104 19 ls st A K = zX d 104 20 ls (zI 0 :: st) A K := zx_const z104 dX3_init_19 (by decide) rfl
theorem s104_20 : zX d 104 20 [zO o, v1, v2, v3, v4, v5] st A K = zX d 104 21 [zO o, v1, v2, v3, v4, v5] (zO o :: st) A K := zx_aload_n z104 dX3_init_20 rfl rfl
theorem s104_21 (h : tg A a = 4) : zX d 104 21 ls (zO (some a) :: st) A K = zX d 104 24 ls (fd A a 0 :: st) A K := zx_getf z104 zo104 dX3_init_21 F5_9 rfl h
theorem s104_24 : zX d 104 24 ls st A K = zX d 104 25 ls (zI 0 :: st) A K := zx_const z104 dX3_init_24 (by decide) rfl
theorem s104_25 : zX d 104 25 [v0, v1, zI x, v3, v4, v5] st A K = zX d 104 26 [v0, v1, zI x, v3, v4, v5] (zI x :: st) A K := zx_iload_n z104 dX3_init_25 rfl rfl
theorem s104_26i (h0 : 0 ≤ w) (h1 : 0 ≤ y) (h2 : 0 ≤ x) (h : tg A a = tg A b) (h6 : tg A b = 20 ∨ tg A b = 21) (h3 : x.toNat + w.toNat ≤ (ia A a).length) (h4 : y.toNat + w.toNat ≤ (ia A b).length) : zX d 104 26 ls (zI w :: zI y :: zO (some b) :: zI x :: zO (some a) :: []) A K = zX d 104 29 ls [] (pI A b (zcpy (ia A a) (ia A b) x.toNat y.toNat w.toNat)) K := zx_inS z104 zo104 dX3_init_26 rfl rfl rfl (zin_3i (zwt_le (Nat.le_of_ble_eq_true rfl)) h0 h1 h2 h h6 h3 h4)
theorem s104_26r (h0 : 0 ≤ w) (h1 : 0 ≤ y) (h2 : 0 ≤ x) (h : tg A a = tg A b) (h6 : tg A b = 24 ∨ tg A b = 25 ∨ tg A b = 28) (h3 : x.toNat + w.toNat ≤ (ra A a).length) (h4 : y.toNat + w.toNat ≤ (ra A b).length) : zX d 104 26 ls (zI w :: zI y :: zO (some b) :: zI x :: zO (some a) :: []) A K = zX d 104 29 ls [] (pR A b (zcpy (ra A a) (ra A b) x.toNat y.toNat w.toNat)) K := zx_inS z104 zo104 dX3_init_26 rfl rfl rfl (zin_3r (zwt_le (Nat.le_of_ble_eq_true rfl)) h0 h1 h2 h h6 h3 h4)
theorem s104_29 : zX d 104 29 [v0, v1, zI x, v3, v4, v5] st A K = zX d 104 30 [v0, v1, zI x, v3, v4, v5] (zI x :: st) A K := zx_iload_n z104 dX3_init_29 rfl rfl
theorem s104_30 : zX d 104 30 ls st A K = zX d 104 31 ls (zI 1 :: st) A K := zx_const z104 dX3_init_30 (by decide) rfl
theorem s104_31 : zX d 104 31 ls (zI y :: zI x :: st) A K = zX d 104 32 ls (zI (zw (x - y)) :: st) A K := zx_isub z104 dX3_init_31 rfl
theorem s104_32 : zX d 104 32 [v0, v1, v2, v3, v4, v5] (zI x :: st) A K = zX d 104 34 [v0, v1, v2, v3, zI x, v5] st A K := zx_istore z104 dX3_init_32 (Nat.le_of_ble_eq_true rfl) rfl rfl
theorem s104_34 : zX d 104 34 [v0, v1, v2, v3, zI x, v5] st A K = zX d 104 36 [v0, v1, v2, v3, zI x, v5] (zI x :: st) A K := zx_iload z104 dX3_init_34 rfl rfl
theorem s104_36 : zX d 104 36 ls (zI x :: st) A K = (if x < 0 then zX d 104 99 ls st A K else zX d 104 39 ls st A K) := zx_if_lt z104 dX3_init_36 rfl rfl
theorem s104_39 : zX d 104 39 [zO o, v1, v2, v3, v4, v5] st A K = zX d 104 40 [zO o, v1, v2, v3, v4, v5] (zO o :: st) A K := zx_aload_n z104 dX3_init_39 rfl rfl
theorem s104_40 (h : tg A a = 4) : zX d 104 40 ls (zO (some a) :: st) A K = zX d 104 43 ls (fd A a 1 :: st) A K := zx_getf z104 zo104 dX3_init_40 F5_15 rfl h
theorem s104_43 : zX d 104 43 [v0, v1, v2, v3, zI x, v5] st A K = zX d 104 45 [v0, v1, v2, v3, zI x, v5] (zI x :: st) A K := zx_iload z104 dX3_init_43 rfl rfl
theorem s104_45 : zX d 104 45 [v0, v1, v2, v3, zI x, v5] st A K = zX d 104 47 [v0, v1, v2, v3, zI x, v5] (zI x :: st) A K := zx_iload z104 dX3_init_45 rfl rfl
theorem s104_47 : zX d 104 47 ls st A K = zX d 104 48 ls (zI 1 :: st) A K := zx_const z104 dX3_init_47 (by decide) rfl
theorem s104_48 : zX d 104 48 ls (zI y :: zI x :: st) A K = zX d 104 49 ls (zI (zw (x + y)) :: st) A K := zx_iadd z104 dX3_init_48 rfl
theorem s104_49 (h : tg A a = 20) (h0 : 0 ≤ x) (h1 : x.toNat < (ia A a).length) : zX d 104 49 ls (zI y :: zI x :: zO (some a) :: st) A K = zX d 104 50 ls st (pI A a ((ia A a).set x.toNat y)) K := zx_iast z104 dX3_init_49 rfl h h0 h1
theorem s104_50 : zX d 104 50 [zO o, v1, v2, v3, v4, v5] st A K = zX d 104 51 [zO o, v1, v2, v3, v4, v5] (zO o :: st) A K := zx_aload_n z104 dX3_init_50 rfl rfl
theorem s104_51 (h : tg A a = 4) : zX d 104 51 ls (zO (some a) :: st) A K = zX d 104 54 ls (fd A a 0 :: st) A K := zx_getf z104 zo104 dX3_init_51 F5_9 rfl h
theorem s104_54 : zX d 104 54 [v0, v1, v2, v3, zI x, v5] st A K = zX d 104 56 [v0, v1, v2, v3, zI x, v5] (zI x :: st) A K := zx_iload z104 dX3_init_54 rfl rfl
theorem s104_56 (h : tg A a = 21) (h0 : 0 ≤ x) (h1 : x.toNat < (ia A a).length) : zX d 104 56 ls (zI x :: zO (some a) :: st) A K = zX d 104 57 ls (zI ((ia A a).getD x.toNat 0) :: st) A K := zx_bald z104 dX3_init_56 rfl h h0 h1
theorem s104_56z (h : tg A a = 22) (h0 : 0 ≤ x) (h1 : x.toNat < (ia A a).length) : zX d 104 56 ls (zI x :: zO (some a) :: st) A K = zX d 104 57 ls (zI ((ia A a).getD x.toNat 0) :: st) A K := zx_zald z104 dX3_init_56 rfl h h0 h1
theorem s104_57 : zX d 104 57 [v0, v1, v2, zO o, v4, v5] st A K = zX d 104 58 [v0, v1, v2, zO o, v4, v5] (zO o :: st) A K := zx_aload_n z104 dX3_init_57 rfl rfl
theorem s104_58 : zX (d + 1) 104 58 ls (zO o1 :: zI i0 :: []) A K = zX d 105 0 [zI i0, zO o1] [] A (zK (d + 1) 104 58 61 ls [] K) := zx_callS z104 zo104 dX3_init_58 rfl C5_25 rfl rfl zm105 rfl rfl (zwt_le (Nat.le_of_ble_eq_true rfl)) rfl
theorem s104_61 : zX d 104 61 [v0, v1, v2, v3, v4, v5] (zI x :: st) A K = zX d 104 63 [v0, v1, v2, v3, v4, zI x] st A K := zx_istore z104 dX3_init_61 (Nat.le_of_ble_eq_true rfl) rfl rfl
theorem s104_63 : zX d 104 63 [v0, v1, v2, v3, v4, zI x] st A K = zX d 104 65 [v0, v1, v2, v3, v4, zI x] (zI x :: st) A K := zx_iload z104 dX3_init_63 rfl rfl
theorem s104_65 : zX d 104 65 ls (zI x :: st) A K = (if x ≤ 0 then zX d 104 93 ls st A K else zX d 104 68 ls st A K) := zx_if_le z104 dX3_init_65 rfl rfl
theorem s104_68 : zX d 104 68 [zO o, v1, v2, v3, v4, v5] st A K = zX d 104 69 [zO o, v1, v2, v3, v4, v5] (zO o :: st) A K := zx_aload_n z104 dX3_init_68 rfl rfl
theorem s104_69 (h : tg A a = 4) : zX d 104 69 ls (zO (some a) :: st) A K = zX d 104 72 ls (fd A a 1 :: st) A K := zx_getf z104 zo104 dX3_init_69 F5_15 rfl h
theorem s104_72 : zX d 104 72 [v0, v1, v2, v3, zI x, v5] st A K = zX d 104 74 [v0, v1, v2, v3, zI x, v5] (zI x :: st) A K := zx_iload z104 dX3_init_72 rfl rfl
theorem s104_74 : zX d 104 74 [zO o, v1, v2, v3, v4, v5] st A K = zX d 104 75 [zO o, v1, v2, v3, v4, v5] (zO o :: st) A K := zx_aload_n z104 dX3_init_74 rfl rfl
theorem s104_75 (h : tg A a = 4) : zX d 104 75 ls (zO (some a) :: st) A K = zX d 104 78 ls (fd A a 1 :: st) A K := zx_getf z104 zo104 dX3_init_75 F5_15 rfl h
theorem s104_78 : zX d 104 78 [zO o, v1, v2, v3, v4, v5] st A K = zX d 104 79 [zO o, v1, v2, v3, v4, v5] (zO o :: st) A K := zx_aload_n z104 dX3_init_78 rfl rfl
theorem s104_79 (h : tg A a = 4) : zX d 104 79 ls (zO (some a) :: st) A K = zX d 104 82 ls (fd A a 1 :: st) A K := zx_getf z104 zo104 dX3_init_79 F5_15 rfl h
theorem s104_82 : zX d 104 82 [v0, v1, v2, v3, zI x, v5] st A K = zX d 104 84 [v0, v1, v2, v3, zI x, v5] (zI x :: st) A K := zx_iload z104 dX3_init_82 rfl rfl
theorem s104_84 (h : tg A a = 20) (h0 : 0 ≤ x) (h1 : x.toNat < (ia A a).length) : zX d 104 84 ls (zI x :: zO (some a) :: st) A K = zX d 104 85 ls (zI ((ia A a).getD x.toNat 0) :: st) A K := zx_iald z104 dX3_init_84 rfl h h0 h1
theorem s104_84s (h : tg A a = 30) (h0 : 0 ≤ x) (h1 : x.toNat < (ia A a).length) : zX d 104 84 ls (zI x :: zO (some a) :: st) A K = zX d 104 85 ls (zI ((ia A a).getD x.toNat 0) :: st) A K := zx_sald z104 dX3_init_84 rfl h h0 h1
theorem s104_85 (h : tg A a = 20) (h0 : 0 ≤ x) (h1 : x.toNat < (ia A a).length) : zX d 104 85 ls (zI x :: zO (some a) :: st) A K = zX d 104 86 ls (zI ((ia A a).getD x.toNat 0) :: st) A K := zx_iald z104 dX3_init_85 rfl h h0 h1
theorem s104_85s (h : tg A a = 30) (h0 : 0 ≤ x) (h1 : x.toNat < (ia A a).length) : zX d 104 85 ls (zI x :: zO (some a) :: st) A K = zX d 104 86 ls (zI ((ia A a).getD x.toNat 0) :: st) A K := zx_sald z104 dX3_init_85 rfl h h0 h1
theorem s104_86 (h : tg A a = 20) (h0 : 0 ≤ x) (h1 : x.toNat < (ia A a).length) : zX d 104 86 ls (zI y :: zI x :: zO (some a) :: st) A K = zX d 104 87 ls st (pI A a ((ia A a).set x.toNat y)) K := zx_iast z104 dX3_init_86 rfl h h0 h1
theorem s104_87 : zX d 104 87 [v0, v1, v2, v3, v4, zI x] st A K = zX d 104 90 [v0, v1, v2, v3, v4, zI (zw (x + (-1)))] st A K := zx_iinc z104 dX3_init_87 rfl rfl rfl
theorem s104_90 : zX d 104 90 ls st A K = zX d 104 63 ls st A K := zx_goto z104 dX3_init_90 rfl
theorem s104_93 : zX d 104 93 [v0, v1, v2, v3, zI x, v5] st A K = zX d 104 96 [v0, v1, v2, v3, zI (zw (x + (-1))), v5] st A K := zx_iinc z104 dX3_init_93 rfl rfl rfl
theorem s104_96 : zX d 104 96 ls st A K = zX d 104 34 ls st A K := zx_goto z104 dX3_init_96 rfl
theorem s104_99 : zX d 104 99 ls [] A K = K (Sum.inl none) A := zx_vret z104 dX3_init_99 rfl
theorem s105_0 : zX d 105 0 [zI x, v1] st A K = zX d 105 1 [zI x, v1] (zI x :: st) A K := zx_iload_n z105 dX3_argumentCount_0 rfl rfl
theorem s105_1_99 : zX d 105 1 ls (zI 99 :: st) A K = zX d 105 64 ls st A K := zx_lsw (off := 63) z105 dX3_argumentCount_1 (by decide) (by decide) rfl
theorem s105_1_115 : zX d 105 1 ls (zI 115 :: st) A K = zX d 105 62 ls st A K := zx_lsw (off := 61) z105 dX3_argumentCount_1 (by decide) (by decide) rfl
theorem s105_1_119 : zX d 105 1 ls (zI 119 :: st) A K = zX d 105 60 ls st A K := zx_lsw (off := 59) z105 dX3_argumentCount_1 (by decide) (by decide) rfl
theorem s105_1_120 : zX d 105 1 ls (zI 120 :: st) A K = zX d 105 60 ls st A K := zx_lsw (off := 59) z105 dX3_argumentCount_1 (by decide) (by decide) rfl
theorem s105_1_121 : zX d 105 1 ls (zI 121 :: st) A K = zX d 105 60 ls st A K := zx_lsw (off := 59) z105 dX3_argumentCount_1 (by decide) (by decide) rfl
theorem s105_1_122 : zX d 105 1 ls (zI 122 :: st) A K = zX d 105 60 ls st A K := zx_lsw (off := 59) z105 dX3_argumentCount_1 (by decide) (by decide) rfl
theorem s105_1_d (h0 : x ≠ 99) (h1 : x ≠ 115) (h2 : x ≠ 119) (h3 : x ≠ 120) (h4 : x ≠ 121) (h5 : x ≠ 122) : zX d 105 1 ls (zI x :: st) A K = zX d 105 66 ls st A K := zx_lsw (off := 65) z105 dX3_argumentCount_1 (by decide) (by simp [Op.lookupswitch.offset, Ne.symm h0, Ne.symm h1, Ne.symm h2, Ne.symm h3, Ne.symm h4, Ne.symm h5]) rfl
theorem s105_60 : zX d 105 60 ls st A K = zX d 105 61 ls (zI 0 :: st) A K := zx_const z105 dX3_argumentCount_60 (by decide) rfl
theorem s105_61 : zX d 105 61 ls [zI x] A K = K (Sum.inl (some (zI x))) A := zx_iret z105 dX3_argumentCount_61 zk105 rfl
theorem s105_62 : zX d 105 62 ls st A K = zX d 105 63 ls (zI 1 :: st) A K := zx_const z105 dX3_argumentCount_62 (by decide) rfl
theorem s105_63 : zX d 105 63 ls [zI x] A K = K (Sum.inl (some (zI x))) A := zx_iret z105 dX3_argumentCount_63 zk105 rfl
theorem s105_64 : zX d 105 64 ls st A K = zX d 105 65 ls (zI 2 :: st) A K := zx_const z105 dX3_argumentCount_64 (by decide) rfl
theorem s105_65 : zX d 105 65 ls [zI x] A K = K (Sum.inl (some (zI x))) A := zx_iret z105 dX3_argumentCount_65 zk105 rfl
theorem s105_66 : zX d 105 66 [zI x, v1] st A K = zX d 105 67 [zI x, v1] (zI x :: st) A K := zx_iload_n z105 dX3_argumentCount_66 rfl rfl
theorem s105_67 : zX (d + 1) 105 67 ls (zI i0 :: []) A K = zX d 106 0 [zI i0] [] A (zK (d + 1) 105 67 70 ls [] K) := zx_callS z105 zo105 dX3_argumentCount_67 rfl C5_29 rfl rfl zm106 rfl rfl (zwt_le (Nat.le_of_ble_eq_true rfl)) rfl
theorem s105_70 : zX d 105 70 ls (zI x :: st) A K = (if x = 0 then zX d 105 82 ls st A K else zX d 105 73 ls st A K) := zx_if_eq z105 dX3_argumentCount_70 rfl rfl
theorem s105_73 : zX d 105 73 [v0, zO o] st A K = zX d 105 74 [v0, zO o] (zO o :: st) A K := zx_aload_n z105 dX3_argumentCount_73 rfl rfl
theorem s105_74 : zX d 105 74 [zI x, v1] st A K = zX d 105 75 [zI x, v1] (zI x :: st) A K := zx_iload_n z105 dX3_argumentCount_74 rfl rfl
theorem s105_75 : zX d 105 75 ls st A K = zX d 105 77 ls (zI (102) :: st) A K := zx_bipush z105 dX3_argumentCount_75 (by decide) rfl
theorem s105_77 : zX d 105 77 ls (zI y :: zI x :: st) A K = zX d 105 78 ls (zI (zw (x - y)) :: st) A K := zx_isub z105 dX3_argumentCount_77 rfl
theorem s105_78 (h : tg A a = 20) (h0 : 0 ≤ x) (h1 : x.toNat < (ia A a).length) : zX d 105 78 ls (zI x :: zO (some a) :: st) A K = zX d 105 79 ls (zI ((ia A a).getD x.toNat 0) :: st) A K := zx_iald z105 dX3_argumentCount_78 rfl h h0 h1
theorem s105_78s (h : tg A a = 30) (h0 : 0 ≤ x) (h1 : x.toNat < (ia A a).length) : zX d 105 78 ls (zI x :: zO (some a) :: st) A K = zX d 105 79 ls (zI ((ia A a).getD x.toNat 0) :: st) A K := zx_sald z105 dX3_argumentCount_78 rfl h h0 h1
theorem s105_79 : zX d 105 79 ls st A K = zX d 105 83 ls st A K := zx_goto z105 dX3_argumentCount_79 rfl
theorem s105_82 : zX d 105 82 ls st A K = zX d 105 83 ls (zI (-1) :: st) A K := zx_const z105 dX3_argumentCount_82 (by decide) rfl
theorem s105_83 : zX d 105 83 ls [zI x] A K = K (Sum.inl (some (zI x))) A := zx_iret z105 dX3_argumentCount_83 zk105 rfl
theorem s106_0 : zX d 106 0 [zI x] st A K = zX d 106 1 [zI x] (zI x :: st) A K := zx_iload_n z106 dX3_isFunctionSymbol_0 rfl rfl
theorem s106_1 : zX d 106 1 ls (zI x :: st) A K = zX d 106 2 ls (zL x :: st) A K := zx_i2l z106 dX3_isFunctionSymbol_1 rfl
theorem s106_2 : zX d 106 2 ls st A K = zX d 106 5 ls (zL (102) :: st) A K := zx_ldc2 z106 zo106 dX3_isFunctionSymbol_2 rfl rfl
theorem s106_5 : zX d 106 5 ls st A K = zX d 106 8 ls (zL (104) :: st) A K := zx_ldc2 z106 zo106 dX3_isFunctionSymbol_5 rfl rfl
theorem s106_8 : zX d 106 8 ls (zL y :: zL x :: zL w :: []) A K = zX d 106 11 ls (zI (zb (decide (x ≤ w ∧ w ≤ y))) :: []) A K := zx_inS z106 zo106 dX3_isFunctionSymbol_8 rfl rfl rfl (zin_2 (zwt_le (Nat.le_of_ble_eq_true rfl)))
theorem s106_11 (h : x = 0 ∨ x = 1) : zX d 106 11 ls [zI x] A K = K (Sum.inl (some (zI x))) A := zx_iret z106 dX3_isFunctionSymbol_11 zk106 (by rcases h with q | q <;> subst q <;> rfl)
theorem s107_0 : zX d 107 0 ls st A K = zX d 107 1 ls (zI 0 :: st) A K := zx_const z107 dX3_containsFunction_0 (by decide) rfl
theorem s107_1 : zX d 107 1 [v0, v1, v2, v3] (zI x :: st) A K = zX d 107 2 [v0, v1, zI x, v3] st A K := zx_istore_n z107 dX3_containsFunction_1 (Nat.le_of_ble_eq_true rfl) rfl rfl
theorem s107_2 : zX d 107 2 ls st A K = zX d 107 3 ls (zI 0 :: st) A K := zx_const z107 dX3_containsFunction_2 (by decide) rfl
theorem s107_3 : zX d 107 3 [v0, v1, v2, v3] (zI x :: st) A K = zX d 107 4 [v0, v1, v2, zI x] st A K := zx_istore_n z107 dX3_containsFunction_3 (Nat.le_of_ble_eq_true rfl) rfl rfl
theorem s107_4 : zX d 107 4 [v0, v1, v2, zI x] st A K = zX d 107 5 [v0, v1, v2, zI x] (zI x :: st) A K := zx_iload_n z107 dX3_containsFunction_4 rfl rfl
theorem s107_5 : zX d 107 5 [zO o, v1, v2, v3] st A K = zX d 107 6 [zO o, v1, v2, v3] (zO o :: st) A K := zx_aload_n z107 dX3_containsFunction_5 rfl rfl
theorem s107_6 (h : tg A a = 4)  : zX (d + 1) 107 6 ls (zO (some a) :: [w0]) A K = zX d 108 0 [zO (some a)] [] A (zK (d + 1) 107 6 9 ls [w0] K) := zx_callV (t := 4) z107 zo107 dX3_containsFunction_6 rfl C5_53 rfl rfl zm108 rfl rfl (zwt_le (Nat.le_of_ble_eq_true rfl)) rfl h
theorem s107_9 : zX d 107 9 ls (zI y :: zI x :: st) A K = (if y ≤ x then zX d 107 39 ls st A K else zX d 107 12 ls st A K) := zx_ic_ge z107 dX3_containsFunction_9 rfl rfl
theorem s107_12 : zX d 107 12 [v0, v1, zI x, v3] st A K = zX d 107 13 [v0, v1, zI x, v3] (zI x :: st) A K := zx_iload_n z107 dX3_containsFunction_12 rfl rfl
theorem s107_13 : zX d 107 13 [zO o, v1, v2, v3] st A K = zX d 107 14 [zO o, v1, v2, v3] (zO o :: st) A K := zx_aload_n z107 dX3_containsFunction_13 rfl rfl
theorem s107_14 (h : tg A a = 4) : zX d 107 14 ls (zO (some a) :: st) A K = zX d 107 17 ls (fd A a 0 :: st) A K := zx_getf z107 zo107 dX3_containsFunction_14 F5_9 rfl h
theorem s107_17 : zX d 107 17 [v0, v1, v2, zI x] st A K = zX d 107 18 [v0, v1, v2, zI x] (zI x :: st) A K := zx_iload_n z107 dX3_containsFunction_17 rfl rfl
theorem s107_18 (h : tg A a = 21) (h0 : 0 ≤ x) (h1 : x.toNat < (ia A a).length) : zX d 107 18 ls (zI x :: zO (some a) :: st) A K = zX d 107 19 ls (zI ((ia A a).getD x.toNat 0) :: st) A K := zx_bald z107 dX3_containsFunction_18 rfl h h0 h1
theorem s107_18z (h : tg A a = 22) (h0 : 0 ≤ x) (h1 : x.toNat < (ia A a).length) : zX d 107 18 ls (zI x :: zO (some a) :: st) A K = zX d 107 19 ls (zI ((ia A a).getD x.toNat 0) :: st) A K := zx_zald z107 dX3_containsFunction_18 rfl h h0 h1
theorem s107_19 : zX d 107 19 ls st A K = zX d 107 21 ls (zI (102) :: st) A K := zx_bipush z107 dX3_containsFunction_19 (by decide) rfl
theorem s107_21 : zX d 107 21 [v0, zI x, v2, v3] st A K = zX d 107 22 [v0, zI x, v2, v3] (zI x :: st) A K := zx_iload_n z107 dX3_containsFunction_21 rfl rfl
theorem s107_22 : zX d 107 22 ls (zI y :: zI x :: st) A K = zX d 107 23 ls (zI (zw (x + y)) :: st) A K := zx_iadd z107 dX3_containsFunction_22 rfl
theorem s107_23 : zX d 107 23 ls (zI y :: zI x :: st) A K = (if x ≠ y then zX d 107 30 ls st A K else zX d 107 26 ls st A K) := zx_ic_ne z107 dX3_containsFunction_23 rfl rfl
theorem s107_26 : zX d 107 26 ls st A K = zX d 107 27 ls (zI 1 :: st) A K := zx_const z107 dX3_containsFunction_26 (by decide) rfl
theorem s107_27 : zX d 107 27 ls st A K = zX d 107 31 ls st A K := zx_goto z107 dX3_containsFunction_27 rfl
theorem s107_30 : zX d 107 30 ls st A K = zX d 107 31 ls (zI 0 :: st) A K := zx_const z107 dX3_containsFunction_30 (by decide) rfl
theorem s107_31 : zX d 107 31 ls (zI y :: zI x :: st) A K = zX d 107 32 ls (zI ((Int32.ofInt x ||| Int32.ofInt y).toInt) :: st) A K := zx_ior z107 dX3_containsFunction_31 rfl
theorem s107_32 : zX d 107 32 [v0, v1, v2, v3] (zI x :: st) A K = zX d 107 33 [v0, v1, zI x, v3] st A K := zx_istore_n z107 dX3_containsFunction_32 (Nat.le_of_ble_eq_true rfl) rfl rfl
theorem s107_33 : zX d 107 33 [v0, v1, v2, zI x] st A K = zX d 107 36 [v0, v1, v2, zI (zw (x + 1))] st A K := zx_iinc z107 dX3_containsFunction_33 rfl rfl rfl
theorem s107_36 : zX d 107 36 ls st A K = zX d 107 4 ls st A K := zx_goto z107 dX3_containsFunction_36 rfl
theorem s107_39 : zX d 107 39 [v0, v1, zI x, v3] st A K = zX d 107 40 [v0, v1, zI x, v3] (zI x :: st) A K := zx_iload_n z107 dX3_containsFunction_39 rfl rfl
theorem s107_40 (h : x = 0 ∨ x = 1) : zX d 107 40 ls [zI x] A K = K (Sum.inl (some (zI x))) A := zx_iret z107 dX3_containsFunction_40 zk107 (by rcases h with q | q <;> subst q <;> rfl)
theorem s108_0 : zX d 108 0 [zO o] st A K = zX d 108 1 [zO o] (zO o :: st) A K := zx_aload_n z108 dX3_size_0 rfl rfl
theorem s108_1 (h : tg A a = 4) : zX d 108 1 ls (zO (some a) :: st) A K = zX d 108 4 ls (fd A a 0 :: st) A K := zx_getf z108 zo108 dX3_size_1 F5_9 rfl h
theorem s108_4 (h : zarr (tg A a) ≠ 0) : zX d 108 4 ls (zO (some a) :: st) A K = zX d 108 5 ls (zI (zlen A a : Nat) :: st) A K := zx_alen z108 dX3_size_4 rfl h
theorem s108_5 : zX d 108 5 ls [zI x] A K = K (Sum.inl (some (zI x))) A := zx_iret z108 dX3_size_5 zk108 rfl
theorem s109_0 : zX d 109 0 [zO o, v1] st A K = zX d 109 1 [zO o, v1] (zO o :: st) A K := zx_aload_n z109 dX3_isFunction_0 rfl rfl
theorem s109_1 (h : tg A a = 4) : zX d 109 1 ls (zO (some a) :: st) A K = zX d 109 4 ls (fd A a 0 :: st) A K := zx_getf z109 zo109 dX3_isFunction_1 F5_9 rfl h
theorem s109_4 : zX d 109 4 [v0, zI x] st A K = zX d 109 5 [v0, zI x] (zI x :: st) A K := zx_iload_n z109 dX3_isFunction_4 rfl rfl
theorem s109_5 (h : tg A a = 21) (h0 : 0 ≤ x) (h1 : x.toNat < (ia A a).length) : zX d 109 5 ls (zI x :: zO (some a) :: st) A K = zX d 109 6 ls (zI ((ia A a).getD x.toNat 0) :: st) A K := zx_bald z109 dX3_isFunction_5 rfl h h0 h1
theorem s109_5z (h : tg A a = 22) (h0 : 0 ≤ x) (h1 : x.toNat < (ia A a).length) : zX d 109 5 ls (zI x :: zO (some a) :: st) A K = zX d 109 6 ls (zI ((ia A a).getD x.toNat 0) :: st) A K := zx_zald z109 dX3_isFunction_5 rfl h h0 h1
theorem s109_6 : zX (d + 1) 109 6 ls (zI i0 :: []) A K = zX d 106 0 [zI i0] [] A (zK (d + 1) 109 6 9 ls [] K) := zx_callS z109 zo109 dX3_isFunction_6 rfl C5_29 rfl rfl zm106 rfl rfl (zwt_le (Nat.le_of_ble_eq_true rfl)) rfl
theorem s109_9 (h : x = 0 ∨ x = 1) : zX d 109 9 ls [zI x] A K = K (Sum.inl (some (zI x))) A := zx_iret z109 dX3_isFunction_9 zk109 (by rcases h with q | q <;> subst q <;> rfl)
theorem s110_0 : zX d 110 0 [zO o, v1] st A K = zX d 110 1 [zO o, v1] (zO o :: st) A K := zx_aload_n z110 dX3_isVariable_0 rfl rfl
theorem s110_1 (h : tg A a = 4) : zX d 110 1 ls (zO (some a) :: st) A K = zX d 110 4 ls (fd A a 0 :: st) A K := zx_getf z110 zo110 dX3_isVariable_1 F5_9 rfl h
theorem s110_4 : zX d 110 4 [v0, zI x] st A K = zX d 110 5 [v0, zI x] (zI x :: st) A K := zx_iload_n z110 dX3_isVariable_4 rfl rfl
theorem s110_5 (h : tg A a = 21) (h0 : 0 ≤ x) (h1 : x.toNat < (ia A a).length) : zX d 110 5 ls (zI x :: zO (some a) :: st) A K = zX d 110 6 ls (zI ((ia A a).getD x.toNat 0) :: st) A K := zx_bald z110 dX3_isVariable_5 rfl h h0 h1
theorem s110_5z (h : tg A a = 22) (h0 : 0 ≤ x) (h1 : x.toNat < (ia A a).length) : zX d 110 5 ls (zI x :: zO (some a) :: st) A K = zX d 110 6 ls (zI ((ia A a).getD x.toNat 0) :: st) A K := zx_zald z110 dX3_isVariable_5 rfl h h0 h1
theorem s110_6 : zX d 110 6 ls (zI x :: st) A K = zX d 110 7 ls (zL x :: st) A K := zx_i2l z110 dX3_isVariable_6 rfl
theorem s110_7 : zX d 110 7 ls st A K = zX d 110 10 ls (zL (119) :: st) A K := zx_ldc2 z110 zo110 dX3_isVariable_7 rfl rfl
theorem s110_10 : zX d 110 10 ls st A K = zX d 110 13 ls (zL (121) :: st) A K := zx_ldc2 z110 zo110 dX3_isVariable_10 rfl rfl
theorem s110_13 : zX d 110 13 ls (zL y :: zL x :: zL w :: []) A K = zX d 110 16 ls (zI (zb (decide (x ≤ w ∧ w ≤ y))) :: []) A K := zx_inS z110 zo110 dX3_isVariable_13 rfl rfl rfl (zin_2 (zwt_le (Nat.le_of_ble_eq_true rfl)))
theorem s110_16 (h : x = 0 ∨ x = 1) : zX d 110 16 ls [zI x] A K = K (Sum.inl (some (zI x))) A := zx_iret z110 dX3_isVariable_16 zk110 (by rcases h with q | q <;> subst q <;> rfl)
theorem s111_0 : zX d 111 0 [v0, zI x, v2, v3, v4] st A K = zX d 111 1 [v0, zI x, v2, v3, v4] (zI x :: st) A K := zx_iload_n z111 dX3_containsAt_0 rfl rfl
theorem s111_1 : zX d 111 1 [v0, v1, v2, v3, v4] (zI x :: st) A K = zX d 111 3 [v0, v1, v2, v3, zI x] st A K := zx_istore z111 dX3_containsAt_1 (Nat.le_of_ble_eq_true rfl) rfl rfl
theorem s111_3 : zX d 111 3 [v0, v1, v2, v3, zI x] st A K = zX d 111 5 [v0, v1, v2, v3, zI x] (zI x :: st) A K := zx_iload z111 dX3_containsAt_3 rfl rfl
theorem s111_5 : zX d 111 5 [zO o, v1, v2, v3, v4] st A K = zX d 111 6 [zO o, v1, v2, v3, v4] (zO o :: st) A K := zx_aload_n z111 dX3_containsAt_5 rfl rfl
theorem s111_6 (h : tg A a = 4) : zX d 111 6 ls (zO (some a) :: st) A K = zX d 111 9 ls (fd A a 1 :: st) A K := zx_getf z111 zo111 dX3_containsAt_6 F5_15 rfl h
theorem s111_9 : zX d 111 9 [v0, zI x, v2, v3, v4] st A K = zX d 111 10 [v0, zI x, v2, v3, v4] (zI x :: st) A K := zx_iload_n z111 dX3_containsAt_9 rfl rfl
theorem s111_10 (h : tg A a = 20) (h0 : 0 ≤ x) (h1 : x.toNat < (ia A a).length) : zX d 111 10 ls (zI x :: zO (some a) :: st) A K = zX d 111 11 ls (zI ((ia A a).getD x.toNat 0) :: st) A K := zx_iald z111 dX3_containsAt_10 rfl h h0 h1
theorem s111_10s (h : tg A a = 30) (h0 : 0 ≤ x) (h1 : x.toNat < (ia A a).length) : zX d 111 10 ls (zI x :: zO (some a) :: st) A K = zX d 111 11 ls (zI ((ia A a).getD x.toNat 0) :: st) A K := zx_sald z111 dX3_containsAt_10 rfl h h0 h1
theorem s111_11 : zX d 111 11 ls (zI y :: zI x :: st) A K = (if y ≤ x then zX d 111 33 ls st A K else zX d 111 14 ls st A K) := zx_ic_ge z111 dX3_containsAt_11 rfl rfl
theorem s111_14 : zX d 111 14 [zO o, v1, v2, v3, v4] st A K = zX d 111 15 [zO o, v1, v2, v3, v4] (zO o :: st) A K := zx_aload_n z111 dX3_containsAt_14 rfl rfl
theorem s111_15 : zX d 111 15 [v0, v1, v2, v3, zI x] st A K = zX d 111 17 [v0, v1, v2, v3, zI x] (zI x :: st) A K := zx_iload z111 dX3_containsAt_15 rfl rfl
theorem s111_17 : zX d 111 17 [v0, v1, zO o, v3, v4] st A K = zX d 111 18 [v0, v1, zO o, v3, v4] (zO o :: st) A K := zx_aload_n z111 dX3_containsAt_17 rfl rfl
theorem s111_18 : zX d 111 18 [v0, v1, v2, zI x, v4] st A K = zX d 111 19 [v0, v1, v2, zI x, v4] (zI x :: st) A K := zx_iload_n z111 dX3_containsAt_18 rfl rfl
theorem s111_19 (h : tg A a = 4)  : zX (d + 1) 111 19 ls (zI i2 :: zO o1 :: zI i0 :: zO (some a) :: []) A K = zX d 112 0 [zO (some a), zI i0, zO o1, zI i2, zU, zU] [] A (zK (d + 1) 111 19 22 ls [] K) := zx_callV (t := 4) z111 zo111 dX3_containsAt_19 rfl C5_49 rfl rfl zm112 rfl rfl (zwt_le (Nat.le_of_ble_eq_true rfl)) rfl h
theorem s111_22 : zX d 111 22 ls (zI x :: st) A K = (if x = 0 then zX d 111 27 ls st A K else zX d 111 25 ls st A K) := zx_if_eq z111 dX3_containsAt_22 rfl rfl
theorem s111_25 : zX d 111 25 ls st A K = zX d 111 26 ls (zI 1 :: st) A K := zx_const z111 dX3_containsAt_25 (by decide) rfl
theorem s111_26 (h : x = 0 ∨ x = 1) : zX d 111 26 ls [zI x] A K = K (Sum.inl (some (zI x))) A := zx_iret z111 dX3_containsAt_26 zk111 (by rcases h with q | q <;> subst q <;> rfl)
theorem s111_27 : zX d 111 27 [v0, v1, v2, v3, zI x] st A K = zX d 111 30 [v0, v1, v2, v3, zI (zw (x + 1))] st A K := zx_iinc z111 dX3_containsAt_27 rfl rfl rfl
theorem s111_30 : zX d 111 30 ls st A K = zX d 111 3 ls st A K := zx_goto z111 dX3_containsAt_30 rfl
theorem s111_33 : zX d 111 33 ls st A K = zX d 111 34 ls (zI 0 :: st) A K := zx_const z111 dX3_containsAt_33 (by decide) rfl
theorem s111_34 (h : x = 0 ∨ x = 1) : zX d 111 34 ls [zI x] A K = K (Sum.inl (some (zI x))) A := zx_iret z111 dX3_containsAt_34 zk111 (by rcases h with q | q <;> subst q <;> rfl)
theorem s112_0 : zX d 112 0 [zO o, v1, v2, v3, v4, v5] st A K = zX d 112 1 [zO o, v1, v2, v3, v4, v5] (zO o :: st) A K := zx_aload_n z112 dX3_isEqualAt_0 rfl rfl
theorem s112_1 : zX d 112 1 [v0, zI x, v2, v3, v4, v5] st A K = zX d 112 2 [v0, zI x, v2, v3, v4, v5] (zI x :: st) A K := zx_iload_n z112 dX3_isEqualAt_1 rfl rfl
theorem s112_2 (h : tg A a = 4)  : zX (d + 1) 112 2 ls (zI i0 :: zO (some a) :: []) A K = zX d 113 0 [zO (some a), zI i0] [] A (zK (d + 1) 112 2 5 ls [] K) := zx_callV (t := 4) z112 zo112 dX3_isEqualAt_2 rfl C5_45 rfl rfl zm113 rfl rfl (zwt_le (Nat.le_of_ble_eq_true rfl)) rfl h
theorem s112_5 : zX d 112 5 [v0, v1, zO o, v3, v4, v5] st A K = zX d 112 6 [v0, v1, zO o, v3, v4, v5] (zO o :: st) A K := zx_aload_n z112 dX3_isEqualAt_5 rfl rfl
theorem s112_6 : zX d 112 6 [v0, v1, v2, zI x, v4, v5] st A K = zX d 112 7 [v0, v1, v2, zI x, v4, v5] (zI x :: st) A K := zx_iload_n z112 dX3_isEqualAt_6 rfl rfl
theorem s112_7 (h : tg A a = 4)  : zX (d + 1) 112 7 ls (zI i0 :: zO (some a) :: [w0]) A K = zX d 113 0 [zO (some a), zI i0] [] A (zK (d + 1) 112 7 10 ls [w0] K) := zx_callV (t := 4) z112 zo112 dX3_isEqualAt_7 rfl C5_45 rfl rfl zm113 rfl rfl (zwt_le (Nat.le_of_ble_eq_true rfl)) rfl h
theorem s112_10 : zX d 112 10 ls (zI y :: zI x :: st) A K = (if x ≠ y then zX d 112 17 ls st A K else zX d 112 13 ls st A K) := zx_ic_ne z112 dX3_isEqualAt_10 rfl rfl
theorem s112_13 : zX d 112 13 ls st A K = zX d 112 14 ls (zI 1 :: st) A K := zx_const z112 dX3_isEqualAt_13 (by decide) rfl
theorem s112_14 : zX d 112 14 ls st A K = zX d 112 18 ls st A K := zx_goto z112 dX3_isEqualAt_14 rfl
theorem s112_17 : zX d 112 17 ls st A K = zX d 112 18 ls (zI 0 :: st) A K := zx_const z112 dX3_isEqualAt_17 (by decide) rfl
theorem s112_18 : zX d 112 18 [v0, v1, v2, v3, v4, v5] (zI x :: st) A K = zX d 112 20 [v0, v1, v2, v3, zI x, v5] st A K := zx_istore z112 dX3_isEqualAt_18 (Nat.le_of_ble_eq_true rfl) rfl rfl
theorem s112_20 : zX d 112 20 ls st A K = zX d 112 21 ls (zI 0 :: st) A K := zx_const z112 dX3_isEqualAt_20 (by decide) rfl
theorem s112_21 : zX d 112 21 [v0, v1, v2, v3, v4, v5] (zI x :: st) A K = zX d 112 23 [v0, v1, v2, v3, v4, zI x] st A K := zx_istore z112 dX3_isEqualAt_21 (Nat.le_of_ble_eq_true rfl) rfl rfl
theorem s112_23 : zX d 112 23 [v0, v1, v2, v3, zI x, v5] st A K = zX d 112 25 [v0, v1, v2, v3, zI x, v5] (zI x :: st) A K := zx_iload z112 dX3_isEqualAt_23 rfl rfl
theorem s112_25 : zX d 112 25 ls (zI x :: st) A K = (if x = 0 then zX d 112 72 ls st A K else zX d 112 28 ls st A K) := zx_if_eq z112 dX3_isEqualAt_25 rfl rfl
theorem s112_28 : zX d 112 28 [v0, v1, v2, v3, v4, zI x] st A K = zX d 112 30 [v0, v1, v2, v3, v4, zI x] (zI x :: st) A K := zx_iload z112 dX3_isEqualAt_28 rfl rfl
theorem s112_30 : zX d 112 30 [zO o, v1, v2, v3, v4, v5] st A K = zX d 112 31 [zO o, v1, v2, v3, v4, v5] (zO o :: st) A K := zx_aload_n z112 dX3_isEqualAt_30 rfl rfl
theorem s112_31 : zX d 112 31 [v0, zI x, v2, v3, v4, v5] st A K = zX d 112 32 [v0, zI x, v2, v3, v4, v5] (zI x :: st) A K := zx_iload_n z112 dX3_isEqualAt_31 rfl rfl
theorem s112_32 (h : tg A a = 4)  : zX (d + 1) 112 32 ls (zI i0 :: zO (some a) :: [w0]) A K = zX d 113 0 [zO (some a), zI i0] [] A (zK (d + 1) 112 32 35 ls [w0] K) := zx_callV (t := 4) z112 zo112 dX3_isEqualAt_32 rfl C5_45 rfl rfl zm113 rfl rfl (zwt_le (Nat.le_of_ble_eq_true rfl)) rfl h
theorem s112_35 : zX d 112 35 ls (zI y :: zI x :: st) A K = (if y ≤ x then zX d 112 72 ls st A K else zX d 112 38 ls st A K) := zx_ic_ge z112 dX3_isEqualAt_35 rfl rfl
theorem s112_38 : zX d 112 38 [zO o, v1, v2, v3, v4, v5] st A K = zX d 112 39 [zO o, v1, v2, v3, v4, v5] (zO o :: st) A K := zx_aload_n z112 dX3_isEqualAt_38 rfl rfl
theorem s112_39 (h : tg A a = 4) : zX d 112 39 ls (zO (some a) :: st) A K = zX d 112 42 ls (fd A a 0 :: st) A K := zx_getf z112 zo112 dX3_isEqualAt_39 F5_9 rfl h
theorem s112_42 : zX d 112 42 [v0, zI x, v2, v3, v4, v5] st A K = zX d 112 43 [v0, zI x, v2, v3, v4, v5] (zI x :: st) A K := zx_iload_n z112 dX3_isEqualAt_42 rfl rfl
theorem s112_43 : zX d 112 43 [v0, v1, v2, v3, v4, zI x] st A K = zX d 112 45 [v0, v1, v2, v3, v4, zI x] (zI x :: st) A K := zx_iload z112 dX3_isEqualAt_43 rfl rfl
theorem s112_45 : zX d 112 45 ls (zI y :: zI x :: st) A K = zX d 112 46 ls (zI (zw (x + y)) :: st) A K := zx_iadd z112 dX3_isEqualAt_45 rfl
theorem s112_46 (h : tg A a = 21) (h0 : 0 ≤ x) (h1 : x.toNat < (ia A a).length) : zX d 112 46 ls (zI x :: zO (some a) :: st) A K = zX d 112 47 ls (zI ((ia A a).getD x.toNat 0) :: st) A K := zx_bald z112 dX3_isEqualAt_46 rfl h h0 h1
theorem s112_46z (h : tg A a = 22) (h0 : 0 ≤ x) (h1 : x.toNat < (ia A a).length) : zX d 112 46 ls (zI x :: zO (some a) :: st) A K = zX d 112 47 ls (zI ((ia A a).getD x.toNat 0) :: st) A K := zx_zald z112 dX3_isEqualAt_46 rfl h h0 h1
theorem s112_47 : zX d 112 47 [v0, v1, zO o, v3, v4, v5] st A K = zX d 112 48 [v0, v1, zO o, v3, v4, v5] (zO o :: st) A K := zx_aload_n z112 dX3_isEqualAt_47 rfl rfl
theorem s112_48 (h : tg A a = 4) : zX d 112 48 ls (zO (some a) :: st) A K = zX d 112 51 ls (fd A a 0 :: st) A K := zx_getf z112 zo112 dX3_isEqualAt_48 F5_9 rfl h
theorem s112_51 : zX d 112 51 [v0, v1, v2, zI x, v4, v5] st A K = zX d 112 52 [v0, v1, v2, zI x, v4, v5] (zI x :: st) A K := zx_iload_n z112 dX3_isEqualAt_51 rfl rfl
theorem s112_52 : zX d 112 52 [v0, v1, v2, v3, v4, zI x] st A K = zX d 112 54 [v0, v1, v2, v3, v4, zI x] (zI x :: st) A K := zx_iload z112 dX3_isEqualAt_52 rfl rfl
theorem s112_54 : zX d 112 54 ls (zI y :: zI x :: st) A K = zX d 112 55 ls (zI (zw (x + y)) :: st) A K := zx_iadd z112 dX3_isEqualAt_54 rfl
theorem s112_55 (h : tg A a = 21) (h0 : 0 ≤ x) (h1 : x.toNat < (ia A a).length) : zX d 112 55 ls (zI x :: zO (some a) :: st) A K = zX d 112 56 ls (zI ((ia A a).getD x.toNat 0) :: st) A K := zx_bald z112 dX3_isEqualAt_55 rfl h h0 h1
theorem s112_55z (h : tg A a = 22) (h0 : 0 ≤ x) (h1 : x.toNat < (ia A a).length) : zX d 112 55 ls (zI x :: zO (some a) :: st) A K = zX d 112 56 ls (zI ((ia A a).getD x.toNat 0) :: st) A K := zx_zald z112 dX3_isEqualAt_55 rfl h h0 h1
theorem s112_56 : zX d 112 56 ls (zI y :: zI x :: st) A K = (if x ≠ y then zX d 112 63 ls st A K else zX d 112 59 ls st A K) := zx_ic_ne z112 dX3_isEqualAt_56 rfl rfl
theorem s112_59 : zX d 112 59 ls st A K = zX d 112 60 ls (zI 1 :: st) A K := zx_const z112 dX3_isEqualAt_59 (by decide) rfl
theorem s112_60 : zX d 112 60 ls st A K = zX d 112 64 ls st A K := zx_goto z112 dX3_isEqualAt_60 rfl
theorem s112_63 : zX d 112 63 ls st A K = zX d 112 64 ls (zI 0 :: st) A K := zx_const z112 dX3_isEqualAt_63 (by decide) rfl
theorem s112_64 : zX d 112 64 [v0, v1, v2, v3, v4, v5] (zI x :: st) A K = zX d 112 66 [v0, v1, v2, v3, zI x, v5] st A K := zx_istore z112 dX3_isEqualAt_64 (Nat.le_of_ble_eq_true rfl) rfl rfl
theorem s112_66 : zX d 112 66 [v0, v1, v2, v3, v4, zI x] st A K = zX d 112 69 [v0, v1, v2, v3, v4, zI (zw (x + 1))] st A K := zx_iinc z112 dX3_isEqualAt_66 rfl rfl rfl
theorem s112_69 : zX d 112 69 ls st A K = zX d 112 23 ls st A K := zx_goto z112 dX3_isEqualAt_69 rfl
theorem s112_72 : zX d 112 72 [v0, v1, v2, v3, zI x, v5] st A K = zX d 112 74 [v0, v1, v2, v3, zI x, v5] (zI x :: st) A K := zx_iload z112 dX3_isEqualAt_72 rfl rfl
theorem s112_74 (h : x = 0 ∨ x = 1) : zX d 112 74 ls [zI x] A K = K (Sum.inl (some (zI x))) A := zx_iret z112 dX3_isEqualAt_74 zk112 (by rcases h with q | q <;> subst q <;> rfl)
theorem s113_0 : zX d 113 0 [zO o, v1] st A K = zX d 113 1 [zO o, v1] (zO o :: st) A K := zx_aload_n z113 dX3_sizeAt_0 rfl rfl
theorem s113_1 (h : tg A a = 4) : zX d 113 1 ls (zO (some a) :: st) A K = zX d 113 4 ls (fd A a 1 :: st) A K := zx_getf z113 zo113 dX3_sizeAt_1 F5_15 rfl h
theorem s113_4 : zX d 113 4 [v0, zI x] st A K = zX d 113 5 [v0, zI x] (zI x :: st) A K := zx_iload_n z113 dX3_sizeAt_4 rfl rfl
theorem s113_5 (h : tg A a = 20) (h0 : 0 ≤ x) (h1 : x.toNat < (ia A a).length) : zX d 113 5 ls (zI x :: zO (some a) :: st) A K = zX d 113 6 ls (zI ((ia A a).getD x.toNat 0) :: st) A K := zx_iald z113 dX3_sizeAt_5 rfl h h0 h1
theorem s113_5s (h : tg A a = 30) (h0 : 0 ≤ x) (h1 : x.toNat < (ia A a).length) : zX d 113 5 ls (zI x :: zO (some a) :: st) A K = zX d 113 6 ls (zI ((ia A a).getD x.toNat 0) :: st) A K := zx_sald z113 dX3_sizeAt_5 rfl h h0 h1
theorem s113_6 : zX d 113 6 [v0, zI x] st A K = zX d 113 7 [v0, zI x] (zI x :: st) A K := zx_iload_n z113 dX3_sizeAt_6 rfl rfl
theorem s113_7 : zX d 113 7 ls (zI y :: zI x :: st) A K = zX d 113 8 ls (zI (zw (x - y)) :: st) A K := zx_isub z113 dX3_sizeAt_7 rfl
theorem s113_8 : zX d 113 8 ls [zI x] A K = K (Sum.inl (some (zI x))) A := zx_iret z113 dX3_sizeAt_8 zk113 rfl
theorem s114_0 : zX d 114 0 [zO o, v1] st A K = zX d 114 1 [zO o, v1] (zO o :: st) A K := zx_aload_n z114 dX3_function_0 rfl rfl
theorem s114_1 (h : tg A a = 4) : zX d 114 1 ls (zO (some a) :: st) A K = zX d 114 4 ls (fd A a 0 :: st) A K := zx_getf z114 zo114 dX3_function_1 F5_9 rfl h
theorem s114_4 : zX d 114 4 [v0, zI x] st A K = zX d 114 5 [v0, zI x] (zI x :: st) A K := zx_iload_n z114 dX3_function_4 rfl rfl
theorem s114_5 (h : tg A a = 21) (h0 : 0 ≤ x) (h1 : x.toNat < (ia A a).length) : zX d 114 5 ls (zI x :: zO (some a) :: st) A K = zX d 114 6 ls (zI ((ia A a).getD x.toNat 0) :: st) A K := zx_bald z114 dX3_function_5 rfl h h0 h1
theorem s114_5z (h : tg A a = 22) (h0 : 0 ≤ x) (h1 : x.toNat < (ia A a).length) : zX d 114 5 ls (zI x :: zO (some a) :: st) A K = zX d 114 6 ls (zI ((ia A a).getD x.toNat 0) :: st) A K := zx_zald z114 dX3_function_5 rfl h h0 h1
theorem s114_6 : zX d 114 6 ls st A K = zX d 114 8 ls (zI (102) :: st) A K := zx_bipush z114 dX3_function_6 (by decide) rfl
theorem s114_8 : zX d 114 8 ls (zI y :: zI x :: st) A K = zX d 114 9 ls (zI (zw (x - y)) :: st) A K := zx_isub z114 dX3_function_8 rfl
theorem s114_9 : zX d 114 9 ls [zI x] A K = K (Sum.inl (some (zI x))) A := zx_iret z114 dX3_function_9 zk114 rfl
theorem s115_0 : zX d 115 0 [zO o, v1] st A K = zX d 115 1 [zO o, v1] (zO o :: st) A K := zx_aload_n z115 dX3_compareTo_0 rfl rfl
theorem s115_1 : zX d 115 1 [v0, zO o] st A K = zX d 115 2 [v0, zO o] (zO o :: st) A K := zx_aload_n z115 dX3_compareTo_1 rfl rfl
theorem s115_2 (h : ([4] : List Nat).contains (tg A a) = true) : zX d 115 2 ls (zO (some a) :: st) A K = zX d 115 5 ls (zO (some a) :: st) A K := zx_cast z115 zo115 dX3_compareTo_2 rfl rfl h
theorem s115_2n : zX d 115 2 ls (zO none :: st) A K = zX d 115 5 ls (zO none :: st) A K := zx_castN z115 zo115 dX3_compareTo_2 rfl rfl
theorem s115_5 (h : tg A a = 4)  : zX (d + 1) 115 5 ls (zO o0 :: zO (some a) :: []) A K = zX d 116 0 [zO (some a), zO o0, zU] [] A (zK (d + 1) 115 5 8 ls [] K) := zx_callV (t := 4) z115 zo115 dX3_compareTo_5 rfl C5_67 rfl rfl zm116 rfl rfl (zwt_le (Nat.le_of_ble_eq_true rfl)) rfl h
theorem s115_8 : zX d 115 8 ls [zI x] A K = K (Sum.inl (some (zI x))) A := zx_iret z115 dX3_compareTo_8 zk115 rfl
theorem s116_0 : zX d 116 0 [zO o, v1, v2] st A K = zX d 116 1 [zO o, v1, v2] (zO o :: st) A K := zx_aload_n z116 dX3_compareTo_2_0 rfl rfl
theorem s116_1 (h : tg A a = 4)  : zX (d + 1) 116 1 ls (zO (some a) :: []) A K = zX d 108 0 [zO (some a)] [] A (zK (d + 1) 116 1 4 ls [] K) := zx_callV (t := 4) z116 zo116 dX3_compareTo_2_1 rfl C5_53 rfl rfl zm108 rfl rfl (zwt_le (Nat.le_of_ble_eq_true rfl)) rfl h
theorem s116_4 : zX d 116 4 [v0, zO o, v2] st A K = zX d 116 5 [v0, zO o, v2] (zO o :: st) A K := zx_aload_n z116 dX3_compareTo_2_4 rfl rfl
theorem s116_5 (h : tg A a = 4)  : zX (d + 1) 116 5 ls (zO (some a) :: [w0]) A K = zX d 108 0 [zO (some a)] [] A (zK (d + 1) 116 5 8 ls [w0] K) := zx_callV (t := 4) z116 zo116 dX3_compareTo_2_5 rfl C5_53 rfl rfl zm108 rfl rfl (zwt_le (Nat.le_of_ble_eq_true rfl)) rfl h
theorem s116_8 : zX d 116 8 ls (zI y :: zI x :: st) A K = (if x = y then zX d 116 21 ls st A K else zX d 116 11 ls st A K) := zx_ic_eq z116 dX3_compareTo_2_8 rfl rfl
theorem s116_11 : zX d 116 11 [zO o, v1, v2] st A K = zX d 116 12 [zO o, v1, v2] (zO o :: st) A K := zx_aload_n z116 dX3_compareTo_2_11 rfl rfl
theorem s116_12 (h : tg A a = 4)  : zX (d + 1) 116 12 ls (zO (some a) :: []) A K = zX d 108 0 [zO (some a)] [] A (zK (d + 1) 116 12 15 ls [] K) := zx_callV (t := 4) z116 zo116 dX3_compareTo_2_12 rfl C5_53 rfl rfl zm108 rfl rfl (zwt_le (Nat.le_of_ble_eq_true rfl)) rfl h
theorem s116_15 : zX d 116 15 [v0, zO o, v2] st A K = zX d 116 16 [v0, zO o, v2] (zO o :: st) A K := zx_aload_n z116 dX3_compareTo_2_15 rfl rfl
theorem s116_16 (h : tg A a = 4)  : zX (d + 1) 116 16 ls (zO (some a) :: [w0]) A K = zX d 108 0 [zO (some a)] [] A (zK (d + 1) 116 16 19 ls [w0] K) := zx_callV (t := 4) z116 zo116 dX3_compareTo_2_16 rfl C5_53 rfl rfl zm108 rfl rfl (zwt_le (Nat.le_of_ble_eq_true rfl)) rfl h
theorem s116_19 : zX d 116 19 ls (zI y :: zI x :: st) A K = zX d 116 20 ls (zI (zw (x - y)) :: st) A K := zx_isub z116 dX3_compareTo_2_19 rfl
theorem s116_20 : zX d 116 20 ls [zI x] A K = K (Sum.inl (some (zI x))) A := zx_iret z116 dX3_compareTo_2_20 zk116 rfl
theorem s116_21 : zX d 116 21 ls st A K = zX d 116 22 ls (zI 0 :: st) A K := zx_const z116 dX3_compareTo_2_21 (by decide) rfl
theorem s116_22 : zX d 116 22 [v0, v1, v2] (zI x :: st) A K = zX d 116 23 [v0, v1, zI x] st A K := zx_istore_n z116 dX3_compareTo_2_22 (Nat.le_of_ble_eq_true rfl) rfl rfl
theorem s116_23 : zX d 116 23 [v0, v1, zI x] st A K = zX d 116 24 [v0, v1, zI x] (zI x :: st) A K := zx_iload_n z116 dX3_compareTo_2_23 rfl rfl
theorem s116_24 : zX d 116 24 [zO o, v1, v2] st A K = zX d 116 25 [zO o, v1, v2] (zO o :: st) A K := zx_aload_n z116 dX3_compareTo_2_24 rfl rfl
theorem s116_25 (h : tg A a = 4)  : zX (d + 1) 116 25 ls (zO (some a) :: [w0]) A K = zX d 108 0 [zO (some a)] [] A (zK (d + 1) 116 25 28 ls [w0] K) := zx_callV (t := 4) z116 zo116 dX3_compareTo_2_25 rfl C5_53 rfl rfl zm108 rfl rfl (zwt_le (Nat.le_of_ble_eq_true rfl)) rfl h
theorem s116_28 : zX d 116 28 ls (zI y :: zI x :: st) A K = (if y ≤ x then zX d 116 66 ls st A K else zX d 116 31 ls st A K) := zx_ic_ge z116 dX3_compareTo_2_28 rfl rfl
theorem s116_31 : zX d 116 31 [zO o, v1, v2] st A K = zX d 116 32 [zO o, v1, v2] (zO o :: st) A K := zx_aload_n z116 dX3_compareTo_2_31 rfl rfl
theorem s116_32 (h : tg A a = 4) : zX d 116 32 ls (zO (some a) :: st) A K = zX d 116 35 ls (fd A a 0 :: st) A K := zx_getf z116 zo116 dX3_compareTo_2_32 F5_9 rfl h
theorem s116_35 : zX d 116 35 [v0, v1, zI x] st A K = zX d 116 36 [v0, v1, zI x] (zI x :: st) A K := zx_iload_n z116 dX3_compareTo_2_35 rfl rfl
theorem s116_36 (h : tg A a = 21) (h0 : 0 ≤ x) (h1 : x.toNat < (ia A a).length) : zX d 116 36 ls (zI x :: zO (some a) :: st) A K = zX d 116 37 ls (zI ((ia A a).getD x.toNat 0) :: st) A K := zx_bald z116 dX3_compareTo_2_36 rfl h h0 h1
theorem s116_36z (h : tg A a = 22) (h0 : 0 ≤ x) (h1 : x.toNat < (ia A a).length) : zX d 116 36 ls (zI x :: zO (some a) :: st) A K = zX d 116 37 ls (zI ((ia A a).getD x.toNat 0) :: st) A K := zx_zald z116 dX3_compareTo_2_36 rfl h h0 h1
theorem s116_37 : zX d 116 37 [v0, zO o, v2] st A K = zX d 116 38 [v0, zO o, v2] (zO o :: st) A K := zx_aload_n z116 dX3_compareTo_2_37 rfl rfl
theorem s116_38 (h : tg A a = 4) : zX d 116 38 ls (zO (some a) :: st) A K = zX d 116 41 ls (fd A a 0 :: st) A K := zx_getf z116 zo116 dX3_compareTo_2_38 F5_9 rfl h
theorem s116_41 : zX d 116 41 [v0, v1, zI x] st A K = zX d 116 42 [v0, v1, zI x] (zI x :: st) A K := zx_iload_n z116 dX3_compareTo_2_41 rfl rfl
theorem s116_42 (h : tg A a = 21) (h0 : 0 ≤ x) (h1 : x.toNat < (ia A a).length) : zX d 116 42 ls (zI x :: zO (some a) :: st) A K = zX d 116 43 ls (zI ((ia A a).getD x.toNat 0) :: st) A K := zx_bald z116 dX3_compareTo_2_42 rfl h h0 h1
theorem s116_42z (h : tg A a = 22) (h0 : 0 ≤ x) (h1 : x.toNat < (ia A a).length) : zX d 116 42 ls (zI x :: zO (some a) :: st) A K = zX d 116 43 ls (zI ((ia A a).getD x.toNat 0) :: st) A K := zx_zald z116 dX3_compareTo_2_42 rfl h h0 h1
theorem s116_43 : zX d 116 43 ls (zI y :: zI x :: st) A K = (if x = y then zX d 116 60 ls st A K else zX d 116 46 ls st A K) := zx_ic_eq z116 dX3_compareTo_2_43 rfl rfl
theorem s116_46 : zX d 116 46 [zO o, v1, v2] st A K = zX d 116 47 [zO o, v1, v2] (zO o :: st) A K := zx_aload_n z116 dX3_compareTo_2_46 rfl rfl
theorem s116_47 (h : tg A a = 4) : zX d 116 47 ls (zO (some a) :: st) A K = zX d 116 50 ls (fd A a 0 :: st) A K := zx_getf z116 zo116 dX3_compareTo_2_47 F5_9 rfl h
theorem s116_50 : zX d 116 50 [v0, v1, zI x] st A K = zX d 116 51 [v0, v1, zI x] (zI x :: st) A K := zx_iload_n z116 dX3_compareTo_2_50 rfl rfl
theorem s116_51 (h : tg A a = 21) (h0 : 0 ≤ x) (h1 : x.toNat < (ia A a).length) : zX d 116 51 ls (zI x :: zO (some a) :: st) A K = zX d 116 52 ls (zI ((ia A a).getD x.toNat 0) :: st) A K := zx_bald z116 dX3_compareTo_2_51 rfl h h0 h1
theorem s116_51z (h : tg A a = 22) (h0 : 0 ≤ x) (h1 : x.toNat < (ia A a).length) : zX d 116 51 ls (zI x :: zO (some a) :: st) A K = zX d 116 52 ls (zI ((ia A a).getD x.toNat 0) :: st) A K := zx_zald z116 dX3_compareTo_2_51 rfl h h0 h1
theorem s116_52 : zX d 116 52 [v0, zO o, v2] st A K = zX d 116 53 [v0, zO o, v2] (zO o :: st) A K := zx_aload_n z116 dX3_compareTo_2_52 rfl rfl
theorem s116_53 (h : tg A a = 4) : zX d 116 53 ls (zO (some a) :: st) A K = zX d 116 56 ls (fd A a 0 :: st) A K := zx_getf z116 zo116 dX3_compareTo_2_53 F5_9 rfl h
theorem s116_56 : zX d 116 56 [v0, v1, zI x] st A K = zX d 116 57 [v0, v1, zI x] (zI x :: st) A K := zx_iload_n z116 dX3_compareTo_2_56 rfl rfl
theorem s116_57 (h : tg A a = 21) (h0 : 0 ≤ x) (h1 : x.toNat < (ia A a).length) : zX d 116 57 ls (zI x :: zO (some a) :: st) A K = zX d 116 58 ls (zI ((ia A a).getD x.toNat 0) :: st) A K := zx_bald z116 dX3_compareTo_2_57 rfl h h0 h1
theorem s116_57z (h : tg A a = 22) (h0 : 0 ≤ x) (h1 : x.toNat < (ia A a).length) : zX d 116 57 ls (zI x :: zO (some a) :: st) A K = zX d 116 58 ls (zI ((ia A a).getD x.toNat 0) :: st) A K := zx_zald z116 dX3_compareTo_2_57 rfl h h0 h1
theorem s116_58 : zX d 116 58 ls (zI y :: zI x :: st) A K = zX d 116 59 ls (zI (zw (x - y)) :: st) A K := zx_isub z116 dX3_compareTo_2_58 rfl
theorem s116_59 : zX d 116 59 ls [zI x] A K = K (Sum.inl (some (zI x))) A := zx_iret z116 dX3_compareTo_2_59 zk116 rfl
theorem s116_60 : zX d 116 60 [v0, v1, zI x] st A K = zX d 116 63 [v0, v1, zI (zw (x + 1))] st A K := zx_iinc z116 dX3_compareTo_2_60 rfl rfl rfl
theorem s116_63 : zX d 116 63 ls st A K = zX d 116 23 ls st A K := zx_goto z116 dX3_compareTo_2_63 rfl
theorem s116_66 : zX d 116 66 ls st A K = zX d 116 67 ls (zI 0 :: st) A K := zx_const z116 dX3_compareTo_2_66 (by decide) rfl
theorem s116_67 : zX d 116 67 ls [zI x] A K = K (Sum.inl (some (zI x))) A := zx_iret z116 dX3_compareTo_2_67 zk116 rfl
theorem s117_0 : zX d 117 0 [v0, v1, zO o, v3] st A K = zX d 117 1 [v0, v1, zO o, v3] (zO o :: st) A K := zx_aload_n z117 dX3_write_0 rfl rfl
theorem s117_1 : zX d 117 1 [zO o, v1, v2, v3] st A K = zX d 117 2 [zO o, v1, v2, v3] (zO o :: st) A K := zx_aload_n z117 dX3_write_1 rfl rfl
theorem s117_2 (h : tg A a = 4) : zX d 117 2 ls (zO (some a) :: st) A K = zX d 117 5 ls (fd A a 0 :: st) A K := zx_getf z117 zo117 dX3_write_2 F5_9 rfl h
theorem s117_5 : zX d 117 5 [v0, zI x, v2, v3] st A K = zX d 117 6 [v0, zI x, v2, v3] (zI x :: st) A K := zx_iload_n z117 dX3_write_5 rfl rfl
theorem s117_6 (h : tg A a = 21) (h0 : 0 ≤ x) (h1 : x.toNat < (ia A a).length) : zX d 117 6 ls (zI x :: zO (some a) :: st) A K = zX d 117 7 ls (zI ((ia A a).getD x.toNat 0) :: st) A K := zx_bald z117 dX3_write_6 rfl h h0 h1
theorem s117_6z (h : tg A a = 22) (h0 : 0 ≤ x) (h1 : x.toNat < (ia A a).length) : zX d 117 6 ls (zI x :: zO (some a) :: st) A K = zX d 117 7 ls (zI ((ia A a).getD x.toNat 0) :: st) A K := zx_zald z117 dX3_write_6 rfl h h0 h1
theorem s117_7 : zX d 117 7 ls (zI x :: st) A K = zX d 117 8 ls (zI ((Int32.ofInt x).toUInt32 % 65536).toInt32.toInt :: st) A K := zx_i2c z117 dX3_write_7 rfl
theorem s117_8 (h : tg A a = 16)  : zX (d + 1) 117 8 ls (zI i0 :: zO (some a) :: []) A K = zX d 297 0 [zO (some a), zI i0] [] A (zK (d + 1) 117 8 11 ls [] K) := zx_callV (t := 16) z117 zo117 dX3_write_8 rfl C5_57 rfl rfl zm297 rfl rfl (zwt_le (Nat.le_of_ble_eq_true rfl)) rfl h
theorem s117_11 (h : zc v = true) : zX d 117 11 ls (v :: st) A K = zX d 117 12 ls st A K := zx_pop z117 dX3_write_11 rfl h
theorem s117_12 : zX d 117 12 [v0, zI x, v2, v3] st A K = zX d 117 13 [v0, zI x, v2, v3] (zI x :: st) A K := zx_iload_n z117 dX3_write_12 rfl rfl
theorem s117_13 : zX d 117 13 ls st A K = zX d 117 14 ls (zI 1 :: st) A K := zx_const z117 dX3_write_13 (by decide) rfl
theorem s117_14 : zX d 117 14 ls (zI y :: zI x :: st) A K = zX d 117 15 ls (zI (zw (x + y)) :: st) A K := zx_iadd z117 dX3_write_14 rfl
theorem s117_15 : zX d 117 15 [v0, v1, v2, v3] (zI x :: st) A K = zX d 117 16 [v0, v1, v2, zI x] st A K := zx_istore_n z117 dX3_write_15 (Nat.le_of_ble_eq_true rfl) rfl rfl
theorem s117_16 : zX d 117 16 [v0, v1, v2, zI x] st A K = zX d 117 17 [v0, v1, v2, zI x] (zI x :: st) A K := zx_iload_n z117 dX3_write_16 rfl rfl
theorem s117_17 : zX d 117 17 [zO o, v1, v2, v3] st A K = zX d 117 18 [zO o, v1, v2, v3] (zO o :: st) A K := zx_aload_n z117 dX3_write_17 rfl rfl
theorem s117_18 (h : tg A a = 4) : zX d 117 18 ls (zO (some a) :: st) A K = zX d 117 21 ls (fd A a 1 :: st) A K := zx_getf z117 zo117 dX3_write_18 F5_15 rfl h
theorem s117_21 : zX d 117 21 [v0, zI x, v2, v3] st A K = zX d 117 22 [v0, zI x, v2, v3] (zI x :: st) A K := zx_iload_n z117 dX3_write_21 rfl rfl
theorem s117_22 (h : tg A a = 20) (h0 : 0 ≤ x) (h1 : x.toNat < (ia A a).length) : zX d 117 22 ls (zI x :: zO (some a) :: st) A K = zX d 117 23 ls (zI ((ia A a).getD x.toNat 0) :: st) A K := zx_iald z117 dX3_write_22 rfl h h0 h1
theorem s117_22s (h : tg A a = 30) (h0 : 0 ≤ x) (h1 : x.toNat < (ia A a).length) : zX d 117 22 ls (zI x :: zO (some a) :: st) A K = zX d 117 23 ls (zI ((ia A a).getD x.toNat 0) :: st) A K := zx_sald z117 dX3_write_22 rfl h h0 h1
theorem s117_23 : zX d 117 23 ls (zI y :: zI x :: st) A K = (if y ≤ x then zX d 117 61 ls st A K else zX d 117 26 ls st A K) := zx_ic_ge z117 dX3_write_23 rfl rfl
theorem s117_26 : zX d 117 26 [v0, v1, zO o, v3] st A K = zX d 117 27 [v0, v1, zO o, v3] (zO o :: st) A K := zx_aload_n z117 dX3_write_26 rfl rfl
theorem s117_27 : zX d 117 27 [v0, v1, v2, zI x] st A K = zX d 117 28 [v0, v1, v2, zI x] (zI x :: st) A K := zx_iload_n z117 dX3_write_27 rfl rfl
theorem s117_28 : zX d 117 28 [v0, zI x, v2, v3] st A K = zX d 117 29 [v0, zI x, v2, v3] (zI x :: st) A K := zx_iload_n z117 dX3_write_28 rfl rfl
theorem s117_29 : zX d 117 29 ls st A K = zX d 117 30 ls (zI 1 :: st) A K := zx_const z117 dX3_write_29 (by decide) rfl
theorem s117_30 : zX d 117 30 ls (zI y :: zI x :: st) A K = zX d 117 31 ls (zI (zw (x + y)) :: st) A K := zx_iadd z117 dX3_write_30 rfl
theorem s117_31 : zX d 117 31 ls (zI y :: zI x :: st) A K = (if x ≠ y then zX d 117 39 ls st A K else zX d 117 34 ls st A K) := zx_ic_ne z117 dX3_write_31 rfl rfl
theorem s117_34 : zX d 117 34 ls st A K = zX d 117 36 ls (zI (40) :: st) A K := zx_bipush z117 dX3_write_34 (by decide) rfl
theorem s117_36 : zX d 117 36 ls st A K = zX d 117 41 ls st A K := zx_goto z117 dX3_write_36 rfl
theorem s117_39 : zX d 117 39 ls st A K = zX d 117 41 ls (zI (44) :: st) A K := zx_bipush z117 dX3_write_39 (by decide) rfl
theorem s117_41 (h : tg A a = 16)  : zX (d + 1) 117 41 ls (zI i0 :: zO (some a) :: []) A K = zX d 297 0 [zO (some a), zI i0] [] A (zK (d + 1) 117 41 44 ls [] K) := zx_callV (t := 16) z117 zo117 dX3_write_41 rfl C5_57 rfl rfl zm297 rfl rfl (zwt_le (Nat.le_of_ble_eq_true rfl)) rfl h
theorem s117_44 (h : zc v = true) : zX d 117 44 ls (v :: st) A K = zX d 117 45 ls st A K := zx_pop z117 dX3_write_44 rfl h
theorem s117_45 : zX d 117 45 [zO o, v1, v2, v3] st A K = zX d 117 46 [zO o, v1, v2, v3] (zO o :: st) A K := zx_aload_n z117 dX3_write_45 rfl rfl
theorem s117_46 : zX d 117 46 [v0, v1, v2, zI x] st A K = zX d 117 47 [v0, v1, v2, zI x] (zI x :: st) A K := zx_iload_n z117 dX3_write_46 rfl rfl
theorem s117_47 : zX d 117 47 [v0, v1, zO o, v3] st A K = zX d 117 48 [v0, v1, zO o, v3] (zO o :: st) A K := zx_aload_n z117 dX3_write_47 rfl rfl
theorem s117_48 (h : tg A a = 4)  : zX (d + 1) 117 48 ls (zO o1 :: zI i0 :: zO (some a) :: []) A K = zX d 117 0 [zO (some a), zI i0, zO o1, zU] [] A (zK (d + 1) 117 48 51 ls [] K) := zx_callV (t := 4) z117 zo117 dX3_write_48 rfl C5_63 rfl rfl zm117 rfl rfl (zwt_le (Nat.le_of_ble_eq_true rfl)) rfl h
theorem s117_51 : zX d 117 51 [zO o, v1, v2, v3] st A K = zX d 117 52 [zO o, v1, v2, v3] (zO o :: st) A K := zx_aload_n z117 dX3_write_51 rfl rfl
theorem s117_52 (h : tg A a = 4) : zX d 117 52 ls (zO (some a) :: st) A K = zX d 117 55 ls (fd A a 1 :: st) A K := zx_getf z117 zo117 dX3_write_52 F5_15 rfl h
theorem s117_55 : zX d 117 55 [v0, v1, v2, zI x] st A K = zX d 117 56 [v0, v1, v2, zI x] (zI x :: st) A K := zx_iload_n z117 dX3_write_55 rfl rfl
theorem s117_56 (h : tg A a = 20) (h0 : 0 ≤ x) (h1 : x.toNat < (ia A a).length) : zX d 117 56 ls (zI x :: zO (some a) :: st) A K = zX d 117 57 ls (zI ((ia A a).getD x.toNat 0) :: st) A K := zx_iald z117 dX3_write_56 rfl h h0 h1
theorem s117_56s (h : tg A a = 30) (h0 : 0 ≤ x) (h1 : x.toNat < (ia A a).length) : zX d 117 56 ls (zI x :: zO (some a) :: st) A K = zX d 117 57 ls (zI ((ia A a).getD x.toNat 0) :: st) A K := zx_sald z117 dX3_write_56 rfl h h0 h1
theorem s117_57 : zX d 117 57 [v0, v1, v2, v3] (zI x :: st) A K = zX d 117 58 [v0, v1, v2, zI x] st A K := zx_istore_n z117 dX3_write_57 (Nat.le_of_ble_eq_true rfl) rfl rfl
theorem s117_58 : zX d 117 58 ls st A K = zX d 117 16 ls st A K := zx_goto z117 dX3_write_58 rfl
theorem s117_61 : zX d 117 61 [zO o, v1, v2, v3] st A K = zX d 117 62 [zO o, v1, v2, v3] (zO o :: st) A K := zx_aload_n z117 dX3_write_61 rfl rfl
theorem s117_62 (h : tg A a = 4) : zX d 117 62 ls (zO (some a) :: st) A K = zX d 117 65 ls (fd A a 1 :: st) A K := zx_getf z117 zo117 dX3_write_62 F5_15 rfl h
theorem s117_65 : zX d 117 65 [v0, zI x, v2, v3] st A K = zX d 117 66 [v0, zI x, v2, v3] (zI x :: st) A K := zx_iload_n z117 dX3_write_65 rfl rfl
theorem s117_66 (h : tg A a = 20) (h0 : 0 ≤ x) (h1 : x.toNat < (ia A a).length) : zX d 117 66 ls (zI x :: zO (some a) :: st) A K = zX d 117 67 ls (zI ((ia A a).getD x.toNat 0) :: st) A K := zx_iald z117 dX3_write_66 rfl h h0 h1
theorem s117_66s (h : tg A a = 30) (h0 : 0 ≤ x) (h1 : x.toNat < (ia A a).length) : zX d 117 66 ls (zI x :: zO (some a) :: st) A K = zX d 117 67 ls (zI ((ia A a).getD x.toNat 0) :: st) A K := zx_sald z117 dX3_write_66 rfl h h0 h1
theorem s117_67 : zX d 117 67 [v0, zI x, v2, v3] st A K = zX d 117 68 [v0, zI x, v2, v3] (zI x :: st) A K := zx_iload_n z117 dX3_write_67 rfl rfl
theorem s117_68 : zX d 117 68 ls st A K = zX d 117 69 ls (zI 1 :: st) A K := zx_const z117 dX3_write_68 (by decide) rfl
theorem s117_69 : zX d 117 69 ls (zI y :: zI x :: st) A K = zX d 117 70 ls (zI (zw (x + y)) :: st) A K := zx_iadd z117 dX3_write_69 rfl
theorem s117_70 : zX d 117 70 ls (zI y :: zI x :: st) A K = (if x ≤ y then zX d 117 80 ls st A K else zX d 117 73 ls st A K) := zx_ic_le z117 dX3_write_70 rfl rfl
theorem s117_73 : zX d 117 73 [v0, v1, zO o, v3] st A K = zX d 117 74 [v0, v1, zO o, v3] (zO o :: st) A K := zx_aload_n z117 dX3_write_73 rfl rfl
theorem s117_74 : zX d 117 74 ls st A K = zX d 117 76 ls (zI (41) :: st) A K := zx_bipush z117 dX3_write_74 (by decide) rfl
theorem s117_76 (h : tg A a = 16)  : zX (d + 1) 117 76 ls (zI i0 :: zO (some a) :: []) A K = zX d 297 0 [zO (some a), zI i0] [] A (zK (d + 1) 117 76 79 ls [] K) := zx_callV (t := 16) z117 zo117 dX3_write_76 rfl C5_57 rfl rfl zm297 rfl rfl (zwt_le (Nat.le_of_ble_eq_true rfl)) rfl h
theorem s117_79 (h : zc v = true) : zX d 117 79 ls (v :: st) A K = zX d 117 80 ls st A K := zx_pop z117 dX3_write_79 rfl h
theorem s117_80 : zX d 117 80 ls [] A K = K (Sum.inl none) A := zx_vret z117 dX3_write_80 rfl
theorem s118_0 : zX d 118 0 [zO o, v1] st A K = zX d 118 1 [zO o, v1] (zO o :: st) A K := zx_aload_n z118 dX3_isEqual_0 rfl rfl
theorem s118_1 : zX d 118 1 ls st A K = zX d 118 2 ls (zI 0 :: st) A K := zx_const z118 dX3_isEqual_1 (by decide) rfl
theorem s118_2 : zX d 118 2 [v0, zO o] st A K = zX d 118 3 [v0, zO o] (zO o :: st) A K := zx_aload_n z118 dX3_isEqual_2 rfl rfl
theorem s118_3 : zX d 118 3 ls st A K = zX d 118 4 ls (zI 0 :: st) A K := zx_const z118 dX3_isEqual_3 (by decide) rfl
theorem s118_4 (h : tg A a = 4)  : zX (d + 1) 118 4 ls (zI i2 :: zO o1 :: zI i0 :: zO (some a) :: []) A K = zX d 112 0 [zO (some a), zI i0, zO o1, zI i2, zU, zU] [] A (zK (d + 1) 118 4 7 ls [] K) := zx_callV (t := 4) z118 zo118 dX3_isEqual_4 rfl C5_49 rfl rfl zm112 rfl rfl (zwt_le (Nat.le_of_ble_eq_true rfl)) rfl h
theorem s118_7 (h : x = 0 ∨ x = 1) : zX d 118 7 ls [zI x] A K = K (Sum.inl (some (zI x))) A := zx_iret z118 dX3_isEqual_7 zk118 (by rcases h with q | q <;> subst q <;> rfl)
theorem s119_0 : zX d 119 0 [zO o, v1] st A K = zX d 119 1 [zO o, v1] (zO o :: st) A K := zx_aload_n z119 dX5_init_0 rfl rfl
theorem s119_1 : zX d 119 1 ls st A K = zX d 119 2 ls (zO none :: st) A K := zx_null z119 dX5_init_1 rfl
theorem s119_2 : zX d 119 2 ls st A K = zX d 119 3 ls (zO none :: st) A K := zx_null z119 dX5_init_2 rfl
theorem s119_3 : zX d 119 3 ls st A K = zX d 119 4 ls (zI 0 :: st) A K := zx_const z119 dX5_init_3 (by decide) rfl
theorem s119_4 : zX d 119 4 ls st A K = zX d 119 5 ls (zI 0 :: st) A K := zx_const z119 dX5_init_4 (by decide) rfl
theorem s119_5 : zX (d + 1) 119 5 ls (zI i3 :: zI i2 :: zO o1 :: zO o0 :: zO (some a) :: []) A K = zX d 268 0 [zO (some a), zO o0, zO o1, zI i2, zI i3] [] A (zK (d + 1) 119 5 8 ls [] K) := zx_callI z119 zo119 dX5_init_5 rfl C6_1 rfl rfl zm268 rfl rfl (zwt_le (Nat.le_of_ble_eq_true rfl)) rfl
theorem s119_8 : zX d 119 8 [zO o, v1] st A K = zX d 119 9 [zO o, v1] (zO o :: st) A K := zx_aload_n z119 dX5_init_8 rfl rfl
theorem s119_9 : zX d 119 9 [v0, zI x] st A K = zX d 119 10 [v0, zI x] (zI x :: st) A K := zx_iload_n z119 dX5_init_9 rfl rfl
theorem s119_10 (h : tg A a = 5) : zX d 119 10 ls (zI x :: zO (some a) :: st) A K = zX d 119 13 ls st (pF A a 6 (zI x)) K := zx_putf (q := 0) z119 zo119 dX5_init_10 F6_7 rfl rfl rfl h rfl
theorem s119_13 : zX d 119 13 ls [] A K = K (Sum.inl none) A := zx_vret z119 dX5_init_13 rfl
theorem s120_0 : zX d 120 0 [zO o, v1, v2] st A K = zX d 120 1 [zO o, v1, v2] (zO o :: st) A K := zx_aload_n z120 dX6_init_0 rfl rfl
theorem s120_1 : zX d 120 1 ls (zO (some a) :: []) A K = zX d 120 4 ls [] A K := zx_inI z120 zo120 dX6_init_1 rfl rfl rfl (zin_1 (zwt_le (Nat.le_of_ble_eq_true rfl)))
theorem s120_4 : zX d 120 4 [zO o, v1, v2] st A K = zX d 120 5 [zO o, v1, v2] (zO o :: st) A K := zx_aload_n z120 dX6_init_4 rfl rfl
theorem s120_5 : zX d 120 5 [v0, zO o, v2] st A K = zX d 120 6 [v0, zO o, v2] (zO o :: st) A K := zx_aload_n z120 dX6_init_5 rfl rfl
theorem s120_6 (h : tg A a = 6) : zX d 120 6 ls (zO o :: zO (some a) :: st) A K = zX d 120 9 ls st (pF A a 0 (zO o)) K := zx_putf (q := 3) z120 zo120 dX6_init_6 F7_7 rfl rfl rfl h rfl
theorem s120_9 : zX d 120 9 [zO o, v1, v2] st A K = zX d 120 10 [zO o, v1, v2] (zO o :: st) A K := zx_aload_n z120 dX6_init_9 rfl rfl
theorem s120_10 : zX d 120 10 [v0, v1, zO o] st A K = zX d 120 11 [v0, v1, zO o] (zO o :: st) A K := zx_aload_n z120 dX6_init_10 rfl rfl
theorem s120_11 (h : tg A a = 6) : zX d 120 11 ls (zO o :: zO (some a) :: st) A K = zX d 120 14 ls st (pF A a 1 (zO o)) K := zx_putf (q := 3) z120 zo120 dX6_init_11 F7_13 rfl rfl rfl h rfl
theorem s120_14 : zX d 120 14 ls [] A K = K (Sum.inl none) A := zx_vret z120 dX6_init_14 rfl
theorem s121_0 : zX d 121 0 [zO o, v1, v2, v3, v4, v5, v6, v7, v8, v9, v10] st A K = zX d 121 1 [zO o, v1, v2, v3, v4, v5, v6, v7, v8, v9, v10] (zO o :: st) A K := zx_aload_n z121 dX7_init_0 rfl rfl
theorem s121_1 : zX d 121 1 ls (zO (some a) :: []) A K = zX d 121 4 ls [] A K := zx_inI z121 zo121 dX7_init_1 rfl rfl rfl (zin_1 (zwt_le (Nat.le_of_ble_eq_true rfl)))
theorem s121_4 : zX d 121 4 [zO o, v1, v2, v3, v4, v5, v6, v7, v8, v9, v10] st A K = zX d 121 5 [zO o, v1, v2, v3, v4, v5, v6, v7, v8, v9, v10] (zO o :: st) A K := zx_aload_n z121 dX7_init_4 rfl rfl
theorem s121_5 : zX d 121 5 [v0, zI x, v2, v3, v4, v5, v6, v7, v8, v9, v10] st A K = zX d 121 6 [v0, zI x, v2, v3, v4, v5, v6, v7, v8, v9, v10] (zI x :: st) A K := zx_iload_n z121 dX7_init_5 rfl rfl
theorem s121_6 (h : tg A a = 7) : zX d 121 6 ls (zI x :: zO (some a) :: st) A K = zX d 121 9 ls st (pF A a 0 (zI x)) K := zx_putf (q := 0) z121 zo121 dX7_init_6 F8_9 rfl rfl rfl h rfl
theorem s121_9 : zX d 121 9 [zO o, v1, v2, v3, v4, v5, v6, v7, v8, v9, v10] st A K = zX d 121 10 [zO o, v1, v2, v3, v4, v5, v6, v7, v8, v9, v10] (zO o :: st) A K := zx_aload_n z121 dX7_init_9 rfl rfl
theorem s121_10 : zX d 121 10 [v0, v1, zI x, v3, v4, v5, v6, v7, v8, v9, v10] st A K = zX d 121 11 [v0, v1, zI x, v3, v4, v5, v6, v7, v8, v9, v10] (zI x :: st) A K := zx_iload_n z121 dX7_init_10 rfl rfl
theorem s121_11 (h : tg A a = 7) : zX d 121 11 ls (zI x :: zO (some a) :: st) A K = zX d 121 14 ls st (pF A a 1 (zI x)) K := zx_putf (q := 0) z121 zo121 dX7_init_11 F8_15 rfl rfl rfl h rfl
theorem s121_14 : zX d 121 14 [zO o, v1, v2, v3, v4, v5, v6, v7, v8, v9, v10] st A K = zX d 121 15 [zO o, v1, v2, v3, v4, v5, v6, v7, v8, v9, v10] (zO o :: st) A K := zx_aload_n z121 dX7_init_14 rfl rfl
theorem s121_15 : zX d 121 15 [v0, v1, v2, zO o, v4, v5, v6, v7, v8, v9, v10] st A K = zX d 121 16 [v0, v1, v2, zO o, v4, v5, v6, v7, v8, v9, v10] (zO o :: st) A K := zx_aload_n z121 dX7_init_15 rfl rfl
theorem s121_16 (h : tg A a = 7) : zX d 121 16 ls (zO o :: zO (some a) :: st) A K = zX d 121 19 ls st (pF A a 2 (zO o)) K := zx_putf (q := 3) z121 zo121 dX7_init_16 F8_18 rfl rfl rfl h rfl
theorem s121_19 : zX d 121 19 [zO o, v1, v2, v3, v4, v5, v6, v7, v8, v9, v10] st A K = zX d 121 20 [zO o, v1, v2, v3, v4, v5, v6, v7, v8, v9, v10] (zO o :: st) A K := zx_aload_n z121 dX7_init_19 rfl rfl
theorem s121_20 : zX d 121 20 [v0, v1, v2, v3, zO o, v5, v6, v7, v8, v9, v10] st A K = zX d 121 22 [v0, v1, v2, v3, zO o, v5, v6, v7, v8, v9, v10] (zO o :: st) A K := zx_aload z121 dX7_init_20 rfl rfl
theorem s121_22 (h : tg A a = 7) : zX d 121 22 ls (zO o :: zO (some a) :: st) A K = zX d 121 25 ls st (pF A a 3 (zO o)) K := zx_putf (q := 3) z121 zo121 dX7_init_22 F8_22 rfl rfl rfl h rfl
theorem s121_25 : zX d 121 25 ls st A K = zX d 121 27 ls (zI (9) :: st) A K := zx_bipush z121 dX7_init_25 (by decide) rfl
theorem s121_27 (h : 0 ≤ x) (h2 : x ≤ 1000000) : zX d 121 27 ls (zI x :: st) A K = zX d 121 29 ls (zO (some (nx A)) :: st) (nA A 20 (List.replicate x.toNat 0)) K := zx_new_int z121 dX7_init_27 rfl h h2
theorem s121_29 : zX d 121 29 [v0, v1, v2, v3, v4, v5, v6, v7, v8, v9, v10] (zO o :: st) A K = zX d 121 31 [v0, v1, v2, v3, v4, zO o, v6, v7, v8, v9, v10] st A K := zx_astore z121 dX7_init_29 (Nat.le_of_ble_eq_true rfl) rfl rfl
theorem s121_31 : zX d 121 31 ls st A K = zX d 121 32 ls (zI 0 :: st) A K := zx_const z121 dX7_init_31 (by decide) rfl
theorem s121_32 : zX d 121 32 [v0, v1, v2, v3, v4, v5, v6, v7, v8, v9, v10] (zI x :: st) A K = zX d 121 34 [v0, v1, v2, v3, v4, v5, zI x, v7, v8, v9, v10] st A K := zx_istore z121 dX7_init_32 (Nat.le_of_ble_eq_true rfl) rfl rfl
theorem s121_34 : zX d 121 34 ls st A K = zX d 121 35 ls (zI 1 :: st) A K := zx_const z121 dX7_init_34 (by decide) rfl
theorem s121_35 : zX d 121 35 [v0, v1, v2, v3, v4, v5, v6, v7, v8, v9, v10] (zI x :: st) A K = zX d 121 37 [v0, v1, v2, v3, v4, v5, v6, zI x, v8, v9, v10] st A K := zx_istore z121 dX7_init_35 (Nat.le_of_ble_eq_true rfl) rfl rfl
theorem s121_37 : zX d 121 37 [v0, v1, v2, v3, v4, v5, v6, zI x, v8, v9, v10] st A K = zX d 121 39 [v0, v1, v2, v3, v4, v5, v6, zI x, v8, v9, v10] (zI x :: st) A K := zx_iload z121 dX7_init_37 rfl rfl
theorem s121_39 : zX d 121 39 [v0, v1, v2, zO o, v4, v5, v6, v7, v8, v9, v10] st A K = zX d 121 40 [v0, v1, v2, zO o, v4, v5, v6, v7, v8, v9, v10] (zO o :: st) A K := zx_aload_n z121 dX7_init_39 rfl rfl
theorem s121_40 (h : tg A a = 4)  : zX (d + 1) 121 40 ls (zO (some a) :: [w0]) A K = zX d 108 0 [zO (some a)] [] A (zK (d + 1) 121 40 43 ls [w0] K) := zx_callV (t := 4) z121 zo121 dX7_init_40 rfl C8_25 rfl rfl zm108 rfl rfl (zwt_le (Nat.le_of_ble_eq_true rfl)) rfl h
theorem s121_43 : zX d 121 43 ls (zI y :: zI x :: st) A K = (if y ≤ x then zX d 121 146 ls st A K else zX d 121 46 ls st A K) := zx_ic_ge z121 dX7_init_43 rfl rfl
theorem s121_46 : zX d 121 46 ls st A K = zX d 121 47 ls (zI 0 :: st) A K := zx_const z121 dX7_init_46 (by decide) rfl
theorem s121_47 : zX d 121 47 [v0, v1, v2, v3, v4, v5, v6, v7, v8, v9, v10] (zI x :: st) A K = zX d 121 49 [v0, v1, v2, v3, v4, v5, v6, v7, zI x, v9, v10] st A K := zx_istore z121 dX7_init_47 (Nat.le_of_ble_eq_true rfl) rfl rfl
theorem s121_49 : zX d 121 49 [v0, v1, zI x, v3, v4, v5, v6, v7, v8, v9, v10] st A K = zX d 121 50 [v0, v1, zI x, v3, v4, v5, v6, v7, v8, v9, v10] (zI x :: st) A K := zx_iload_n z121 dX7_init_49 rfl rfl
theorem s121_50 : zX d 121 50 ls st A K = zX d 121 51 ls (zI 1 :: st) A K := zx_const z121 dX7_init_50 (by decide) rfl
theorem s121_51 : zX d 121 51 ls (zI y :: zI x :: st) A K = zX d 121 52 ls (zI (zw (x + y)) :: st) A K := zx_iadd z121 dX7_init_51 rfl
theorem s121_52 : zX d 121 52 [v0, v1, v2, v3, v4, v5, v6, v7, v8, v9, v10] (zI x :: st) A K = zX d 121 54 [v0, v1, v2, v3, v4, v5, v6, v7, v8, zI x, v10] st A K := zx_istore z121 dX7_init_52 (Nat.le_of_ble_eq_true rfl) rfl rfl
theorem s121_54 : zX d 121 54 [v0, v1, v2, v3, v4, v5, v6, v7, v8, zI x, v10] st A K = zX d 121 56 [v0, v1, v2, v3, v4, v5, v6, v7, v8, zI x, v10] (zI x :: st) A K := zx_iload z121 dX7_init_54 rfl rfl
theorem s121_56 : zX d 121 56 [v0, v1, v2, v3, zO o, v5, v6, v7, v8, v9, v10] st A K = zX d 121 58 [v0, v1, v2, v3, zO o, v5, v6, v7, v8, v9, v10] (zO o :: st) A K := zx_aload z121 dX7_init_56 rfl rfl
theorem s121_58 (h : tg A a = 4) : zX d 121 58 ls (zO (some a) :: st) A K = zX d 121 61 ls (fd A a 1 :: st) A K := zx_getf z121 zo121 dX7_init_58 F8_31 rfl h
theorem s121_61 : zX d 121 61 [v0, v1, zI x, v3, v4, v5, v6, v7, v8, v9, v10] st A K = zX d 121 62 [v0, v1, zI x, v3, v4, v5, v6, v7, v8, v9, v10] (zI x :: st) A K := zx_iload_n z121 dX7_init_61 rfl rfl
theorem s121_62 (h : tg A a = 20) (h0 : 0 ≤ x) (h1 : x.toNat < (ia A a).length) : zX d 121 62 ls (zI x :: zO (some a) :: st) A K = zX d 121 63 ls (zI ((ia A a).getD x.toNat 0) :: st) A K := zx_iald z121 dX7_init_62 rfl h h0 h1
theorem s121_62s (h : tg A a = 30) (h0 : 0 ≤ x) (h1 : x.toNat < (ia A a).length) : zX d 121 62 ls (zI x :: zO (some a) :: st) A K = zX d 121 63 ls (zI ((ia A a).getD x.toNat 0) :: st) A K := zx_sald z121 dX7_init_62 rfl h h0 h1
theorem s121_63 : zX d 121 63 ls (zI y :: zI x :: st) A K = (if y ≤ x then zX d 121 131 ls st A K else zX d 121 66 ls st A K) := zx_ic_ge z121 dX7_init_63 rfl rfl
theorem s121_66 : zX d 121 66 [v0, v1, v2, zO o, v4, v5, v6, v7, v8, v9, v10] st A K = zX d 121 67 [v0, v1, v2, zO o, v4, v5, v6, v7, v8, v9, v10] (zO o :: st) A K := zx_aload_n z121 dX7_init_66 rfl rfl
theorem s121_67 : zX d 121 67 [v0, v1, v2, v3, v4, v5, v6, zI x, v8, v9, v10] st A K = zX d 121 69 [v0, v1, v2, v3, v4, v5, v6, zI x, v8, v9, v10] (zI x :: st) A K := zx_iload z121 dX7_init_67 rfl rfl
theorem s121_69 : zX d 121 69 [v0, v1, v2, v3, zO o, v5, v6, v7, v8, v9, v10] st A K = zX d 121 71 [v0, v1, v2, v3, zO o, v5, v6, v7, v8, v9, v10] (zO o :: st) A K := zx_aload z121 dX7_init_69 rfl rfl
theorem s121_71 : zX d 121 71 [v0, v1, v2, v3, v4, v5, v6, v7, v8, zI x, v10] st A K = zX d 121 73 [v0, v1, v2, v3, v4, v5, v6, v7, v8, zI x, v10] (zI x :: st) A K := zx_iload z121 dX7_init_71 rfl rfl
theorem s121_73 (h : tg A a = 4)  : zX (d + 1) 121 73 ls (zI i2 :: zO o1 :: zI i0 :: zO (some a) :: []) A K = zX d 112 0 [zO (some a), zI i0, zO o1, zI i2, zU, zU] [] A (zK (d + 1) 121 73 76 ls [] K) := zx_callV (t := 4) z121 zo121 dX7_init_73 rfl C8_35 rfl rfl zm112 rfl rfl (zwt_le (Nat.le_of_ble_eq_true rfl)) rfl h
theorem s121_76 : zX d 121 76 [v0, v1, v2, v3, v4, v5, v6, v7, v8, v9, v10] (zI x :: st) A K = zX d 121 78 [v0, v1, v2, v3, v4, v5, v6, v7, v8, v9, zI x] st A K := zx_istore z121 dX7_init_76 (Nat.le_of_ble_eq_true rfl) rfl rfl
theorem s121_78 : zX d 121 78 [v0, v1, v2, v3, v4, zO o, v6, v7, v8, v9, v10] st A K = zX d 121 80 [v0, v1, v2, v3, v4, zO o, v6, v7, v8, v9, v10] (zO o :: st) A K := zx_aload z121 dX7_init_78 rfl rfl
theorem s121_80 : zX d 121 80 ls st A K = zX d 121 81 ls (zI 3 :: st) A K := zx_const z121 dX7_init_80 (by decide) rfl
theorem s121_81 : zX d 121 81 [v0, v1, v2, v3, v4, v5, zI x, v7, v8, v9, v10] st A K = zX d 121 83 [v0, v1, v2, v3, v4, v5, zI x, v7, v8, v9, v10] (zI x :: st) A K := zx_iload z121 dX7_init_81 rfl rfl
theorem s121_83 : zX d 121 83 ls (zI y :: zI x :: st) A K = zX d 121 84 ls (zI (zw (x * y)) :: st) A K := zx_imul z121 dX7_init_83 rfl
theorem s121_84 : zX d 121 84 [v0, v1, v2, v3, v4, v5, v6, v7, zI x, v9, v10] st A K = zX d 121 86 [v0, v1, v2, v3, v4, v5, v6, v7, zI x, v9, v10] (zI x :: st) A K := zx_iload z121 dX7_init_84 rfl rfl
theorem s121_86 : zX d 121 86 ls (zI y :: zI x :: st) A K = zX d 121 87 ls (zI (zw (x + y)) :: st) A K := zx_iadd z121 dX7_init_86 rfl
theorem s121_87 : zX d 121 87 [v0, v1, v2, v3, v4, v5, v6, v7, v8, v9, zI x] st A K = zX d 121 89 [v0, v1, v2, v3, v4, v5, v6, v7, v8, v9, zI x] (zI x :: st) A K := zx_iload z121 dX7_init_87 rfl rfl
theorem s121_89 : zX d 121 89 ls (zI x :: st) A K = (if x = 0 then zX d 121 96 ls st A K else zX d 121 92 ls st A K) := zx_if_eq z121 dX7_init_89 rfl rfl
theorem s121_92 : zX d 121 92 ls st A K = zX d 121 93 ls (zI 1 :: st) A K := zx_const z121 dX7_init_92 (by decide) rfl
theorem s121_93 : zX d 121 93 ls st A K = zX d 121 114 ls st A K := zx_goto z121 dX7_init_93 rfl
theorem s121_96 : zX d 121 96 [v0, v1, v2, zO o, v4, v5, v6, v7, v8, v9, v10] st A K = zX d 121 97 [v0, v1, v2, zO o, v4, v5, v6, v7, v8, v9, v10] (zO o :: st) A K := zx_aload_n z121 dX7_init_96 rfl rfl
theorem s121_97 : zX d 121 97 [v0, v1, v2, v3, v4, v5, v6, zI x, v8, v9, v10] st A K = zX d 121 99 [v0, v1, v2, v3, v4, v5, v6, zI x, v8, v9, v10] (zI x :: st) A K := zx_iload z121 dX7_init_97 rfl rfl
theorem s121_99 : zX d 121 99 [v0, v1, v2, v3, zO o, v5, v6, v7, v8, v9, v10] st A K = zX d 121 101 [v0, v1, v2, v3, zO o, v5, v6, v7, v8, v9, v10] (zO o :: st) A K := zx_aload z121 dX7_init_99 rfl rfl
theorem s121_101 : zX d 121 101 [v0, v1, v2, v3, v4, v5, v6, v7, v8, zI x, v10] st A K = zX d 121 103 [v0, v1, v2, v3, v4, v5, v6, v7, v8, zI x, v10] (zI x :: st) A K := zx_iload z121 dX7_init_101 rfl rfl
theorem s121_103 (h : tg A a = 4)  : zX (d + 1) 121 103 ls (zI i2 :: zO o1 :: zI i0 :: zO (some a) :: [w0, w1]) A K = zX d 111 0 [zO (some a), zI i0, zO o1, zI i2, zU] [] A (zK (d + 1) 121 103 106 ls [w0, w1] K) := zx_callV (t := 4) z121 zo121 dX7_init_103 rfl C8_39 rfl rfl zm111 rfl rfl (zwt_le (Nat.le_of_ble_eq_true rfl)) rfl h
theorem s121_106 : zX d 121 106 ls (zI x :: st) A K = (if x = 0 then zX d 121 113 ls st A K else zX d 121 109 ls st A K) := zx_if_eq z121 dX7_init_106 rfl rfl
theorem s121_109 : zX d 121 109 ls st A K = zX d 121 110 ls (zI 2 :: st) A K := zx_const z121 dX7_init_109 (by decide) rfl
theorem s121_110 : zX d 121 110 ls st A K = zX d 121 114 ls st A K := zx_goto z121 dX7_init_110 rfl
theorem s121_113 : zX d 121 113 ls st A K = zX d 121 114 ls (zI 0 :: st) A K := zx_const z121 dX7_init_113 (by decide) rfl
theorem s121_114 (h : tg A a = 20) (h0 : 0 ≤ x) (h1 : x.toNat < (ia A a).length) : zX d 121 114 ls (zI y :: zI x :: zO (some a) :: st) A K = zX d 121 115 ls st (pI A a ((ia A a).set x.toNat y)) K := zx_iast z121 dX7_init_114 rfl h h0 h1
theorem s121_115 : zX d 121 115 [v0, v1, v2, v3, v4, v5, v6, v7, zI x, v9, v10] st A K = zX d 121 118 [v0, v1, v2, v3, v4, v5, v6, v7, zI (zw (x + 1)), v9, v10] st A K := zx_iinc z121 dX7_init_115 rfl rfl rfl
theorem s121_118 : zX d 121 118 [v0, v1, v2, v3, zO o, v5, v6, v7, v8, v9, v10] st A K = zX d 121 120 [v0, v1, v2, v3, zO o, v5, v6, v7, v8, v9, v10] (zO o :: st) A K := zx_aload z121 dX7_init_118 rfl rfl
theorem s121_120 (h : tg A a = 4) : zX d 121 120 ls (zO (some a) :: st) A K = zX d 121 123 ls (fd A a 1 :: st) A K := zx_getf z121 zo121 dX7_init_120 F8_31 rfl h
theorem s121_123 : zX d 121 123 [v0, v1, v2, v3, v4, v5, v6, v7, v8, zI x, v10] st A K = zX d 121 125 [v0, v1, v2, v3, v4, v5, v6, v7, v8, zI x, v10] (zI x :: st) A K := zx_iload z121 dX7_init_123 rfl rfl
theorem s121_125 (h : tg A a = 20) (h0 : 0 ≤ x) (h1 : x.toNat < (ia A a).length) : zX d 121 125 ls (zI x :: zO (some a) :: st) A K = zX d 121 126 ls (zI ((ia A a).getD x.toNat 0) :: st) A K := zx_iald z121 dX7_init_125 rfl h h0 h1
theorem s121_125s (h : tg A a = 30) (h0 : 0 ≤ x) (h1 : x.toNat < (ia A a).length) : zX d 121 125 ls (zI x :: zO (some a) :: st) A K = zX d 121 126 ls (zI ((ia A a).getD x.toNat 0) :: st) A K := zx_sald z121 dX7_init_125 rfl h h0 h1
theorem s121_126 : zX d 121 126 [v0, v1, v2, v3, v4, v5, v6, v7, v8, v9, v10] (zI x :: st) A K = zX d 121 128 [v0, v1, v2, v3, v4, v5, v6, v7, v8, zI x, v10] st A K := zx_istore z121 dX7_init_126 (Nat.le_of_ble_eq_true rfl) rfl rfl
theorem s121_128 : zX d 121 128 ls st A K = zX d 121 54 ls st A K := zx_goto z121 dX7_init_128 rfl
theorem s121_131 : zX d 121 131 [v0, v1, v2, v3, v4, v5, zI x, v7, v8, v9, v10] st A K = zX d 121 134 [v0, v1, v2, v3, v4, v5, zI (zw (x + 1)), v7, v8, v9, v10] st A K := zx_iinc z121 dX7_init_131 rfl rfl rfl
theorem s121_134 : zX d 121 134 [v0, v1, v2, zO o, v4, v5, v6, v7, v8, v9, v10] st A K = zX d 121 135 [v0, v1, v2, zO o, v4, v5, v6, v7, v8, v9, v10] (zO o :: st) A K := zx_aload_n z121 dX7_init_134 rfl rfl
theorem s121_135 (h : tg A a = 4) : zX d 121 135 ls (zO (some a) :: st) A K = zX d 121 138 ls (fd A a 1 :: st) A K := zx_getf z121 zo121 dX7_init_135 F8_31 rfl h
theorem s121_138 : zX d 121 138 [v0, v1, v2, v3, v4, v5, v6, zI x, v8, v9, v10] st A K = zX d 121 140 [v0, v1, v2, v3, v4, v5, v6, zI x, v8, v9, v10] (zI x :: st) A K := zx_iload z121 dX7_init_138 rfl rfl
theorem s121_140 (h : tg A a = 20) (h0 : 0 ≤ x) (h1 : x.toNat < (ia A a).length) : zX d 121 140 ls (zI x :: zO (some a) :: st) A K = zX d 121 141 ls (zI ((ia A a).getD x.toNat 0) :: st) A K := zx_iald z121 dX7_init_140 rfl h h0 h1
theorem s121_140s (h : tg A a = 30) (h0 : 0 ≤ x) (h1 : x.toNat < (ia A a).length) : zX d 121 140 ls (zI x :: zO (some a) :: st) A K = zX d 121 141 ls (zI ((ia A a).getD x.toNat 0) :: st) A K := zx_sald z121 dX7_init_140 rfl h h0 h1
theorem s121_141 : zX d 121 141 [v0, v1, v2, v3, v4, v5, v6, v7, v8, v9, v10] (zI x :: st) A K = zX d 121 143 [v0, v1, v2, v3, v4, v5, v6, zI x, v8, v9, v10] st A K := zx_istore z121 dX7_init_141 (Nat.le_of_ble_eq_true rfl) rfl rfl
theorem s121_143 : zX d 121 143 ls st A K = zX d 121 37 ls st A K := zx_goto z121 dX7_init_143 rfl
theorem s121_146 : zX d 121 146 [zO o, v1, v2, v3, v4, v5, v6, v7, v8, v9, v10] st A K = zX d 121 147 [zO o, v1, v2, v3, v4, v5, v6, v7, v8, v9, v10] (zO o :: st) A K := zx_aload_n z121 dX7_init_146 rfl rfl
theorem s121_147 : zX d 121 147 ls st A K = zX d 121 150 ls (zO (some (nx A)) :: st) (nO A 3) K := zx_new z121 zo121 dX7_init_147 rfl rfl
theorem s121_150 (h : zc v = true) : zX d 121 150 ls (v :: st) A K = zX d 121 151 ls (v :: v :: st) A K := zx_dup z121 dX7_init_150 rfl h
theorem s121_151 : zX d 121 151 [v0, v1, v2, zO o, v4, v5, v6, v7, v8, v9, v10] st A K = zX d 121 152 [v0, v1, v2, zO o, v4, v5, v6, v7, v8, v9, v10] (zO o :: st) A K := zx_aload_n z121 dX7_init_151 rfl rfl
theorem s121_152 : zX d 121 152 ls st A K = zX d 121 153 ls (zI 0 :: st) A K := zx_const z121 dX7_init_152 (by decide) rfl
theorem s121_153 (h : tg A a = 4)  : zX (d + 1) 121 153 ls (zI i0 :: zO (some a) :: [w0, w1, w2]) A K = zX d 114 0 [zO (some a), zI i0] [] A (zK (d + 1) 121 153 156 ls [w0, w1, w2] K) := zx_callV (t := 4) z121 zo121 dX7_init_153 rfl C8_44 rfl rfl zm114 rfl rfl (zwt_le (Nat.le_of_ble_eq_true rfl)) rfl h
theorem s121_156 : zX d 121 156 [v0, v1, v2, v3, zO o, v5, v6, v7, v8, v9, v10] st A K = zX d 121 158 [v0, v1, v2, v3, zO o, v5, v6, v7, v8, v9, v10] (zO o :: st) A K := zx_aload z121 dX7_init_156 rfl rfl
theorem s121_158 : zX d 121 158 [v0, v1, zI x, v3, v4, v5, v6, v7, v8, v9, v10] st A K = zX d 121 159 [v0, v1, zI x, v3, v4, v5, v6, v7, v8, v9, v10] (zI x :: st) A K := zx_iload_n z121 dX7_init_158 rfl rfl
theorem s121_159 (h : tg A a = 4)  : zX (d + 1) 121 159 ls (zI i0 :: zO (some a) :: [w0, w1, w2, w3]) A K = zX d 114 0 [zO (some a), zI i0] [] A (zK (d + 1) 121 159 162 ls [w0, w1, w2, w3] K) := zx_callV (t := 4) z121 zo121 dX7_init_159 rfl C8_44 rfl rfl zm114 rfl rfl (zwt_le (Nat.le_of_ble_eq_true rfl)) rfl h
theorem s121_162 : zX d 121 162 [v0, v1, v2, v3, v4, zO o, v6, v7, v8, v9, v10] st A K = zX d 121 164 [v0, v1, v2, v3, v4, zO o, v6, v7, v8, v9, v10] (zO o :: st) A K := zx_aload z121 dX7_init_162 rfl rfl
theorem s121_164 : zX (d + 1) 121 164 ls (zO o2 :: zI i1 :: zI i0 :: zO (some a) :: [w0, w1]) A K = zX d 98 0 [zO (some a), zI i0, zI i1, zO o2] [] A (zK (d + 1) 121 164 167 ls [w0, w1] K) := zx_callI z121 zo121 dX7_init_164 rfl C8_48 rfl rfl zm98 rfl rfl (zwt_le (Nat.le_of_ble_eq_true rfl)) rfl
theorem s121_167 (h : tg A a = 7) : zX d 121 167 ls (zO o :: zO (some a) :: st) A K = zX d 121 170 ls st (pF A a 4 (zO o)) K := zx_putf (q := 3) z121 zo121 dX7_init_167 F8_51 rfl rfl rfl h rfl
theorem s121_170 : zX d 121 170 ls [] A K = K (Sum.inl none) A := zx_vret z121 dX7_init_170 rfl
theorem s122_0 : zX d 122 0 [zO o, v1, v2] st A K = zX d 122 1 [zO o, v1, v2] (zO o :: st) A K := zx_aload_n z122 dX7_relation_0 rfl rfl
theorem s122_1 (h : tg A a = 7) : zX d 122 1 ls (zO (some a) :: st) A K = zX d 122 4 ls (fd A a 4 :: st) A K := zx_getf z122 zo122 dX7_relation_1 F8_51 rfl h
theorem s122_4 (h : tg A a = 3) : zX d 122 4 ls (zO (some a) :: st) A K = zX d 122 7 ls (fd A a 2 :: st) A K := zx_getf z122 zo122 dX7_relation_4 F8_55 rfl h
theorem s122_7 : zX d 122 7 ls st A K = zX d 122 8 ls (zI 3 :: st) A K := zx_const z122 dX7_relation_7 (by decide) rfl
theorem s122_8 : zX d 122 8 [v0, zI x, v2] st A K = zX d 122 9 [v0, zI x, v2] (zI x :: st) A K := zx_iload_n z122 dX7_relation_8 rfl rfl
theorem s122_9 : zX d 122 9 ls (zI y :: zI x :: st) A K = zX d 122 10 ls (zI (zw (x * y)) :: st) A K := zx_imul z122 dX7_relation_9 rfl
theorem s122_10 : zX d 122 10 [v0, v1, zI x] st A K = zX d 122 11 [v0, v1, zI x] (zI x :: st) A K := zx_iload_n z122 dX7_relation_10 rfl rfl
theorem s122_11 : zX d 122 11 ls (zI y :: zI x :: st) A K = zX d 122 12 ls (zI (zw (x + y)) :: st) A K := zx_iadd z122 dX7_relation_11 rfl
theorem s122_12 (h : tg A a = 20) (h0 : 0 ≤ x) (h1 : x.toNat < (ia A a).length) : zX d 122 12 ls (zI x :: zO (some a) :: st) A K = zX d 122 13 ls (zI ((ia A a).getD x.toNat 0) :: st) A K := zx_iald z122 dX7_relation_12 rfl h h0 h1
theorem s122_12s (h : tg A a = 30) (h0 : 0 ≤ x) (h1 : x.toNat < (ia A a).length) : zX d 122 12 ls (zI x :: zO (some a) :: st) A K = zX d 122 13 ls (zI ((ia A a).getD x.toNat 0) :: st) A K := zx_sald z122 dX7_relation_12 rfl h h0 h1
theorem s122_13 : zX d 122 13 ls [zI x] A K = K (Sum.inl (some (zI x))) A := zx_iret z122 dX7_relation_13 zk122 rfl
theorem s123_0 : zX d 123 0 [zO o, v1, v2] st A K = zX d 123 1 [zO o, v1, v2] (zO o :: st) A K := zx_aload_n z123 dX8_compare_0 rfl rfl
theorem s123_1 : zX d 123 1 [v0, zO o, v2] st A K = zX d 123 2 [v0, zO o, v2] (zO o :: st) A K := zx_aload_n z123 dX8_compare_1 rfl rfl
theorem s123_2 (h : ([4] : List Nat).contains (tg A a) = true) : zX d 123 2 ls (zO (some a) :: st) A K = zX d 123 5 ls (zO (some a) :: st) A K := zx_cast z123 zo123 dX8_compare_2 rfl rfl h
theorem s123_2n : zX d 123 2 ls (zO none :: st) A K = zX d 123 5 ls (zO none :: st) A K := zx_castN z123 zo123 dX8_compare_2 rfl rfl
theorem s123_5 : zX d 123 5 [v0, v1, zO o] st A K = zX d 123 6 [v0, v1, zO o] (zO o :: st) A K := zx_aload_n z123 dX8_compare_5 rfl rfl
theorem s123_6 (h : ([4] : List Nat).contains (tg A a) = true) : zX d 123 6 ls (zO (some a) :: st) A K = zX d 123 9 ls (zO (some a) :: st) A K := zx_cast z123 zo123 dX8_compare_6 rfl rfl h
theorem s123_6n : zX d 123 6 ls (zO none :: st) A K = zX d 123 9 ls (zO none :: st) A K := zx_castN z123 zo123 dX8_compare_6 rfl rfl
theorem s123_9 (h : tg A a = 8)  : zX (d + 1) 123 9 ls (zO o1 :: zO o0 :: zO (some a) :: []) A K = zX d 124 0 [zO (some a), zO o0, zO o1] [] A (zK (d + 1) 123 9 12 ls [] K) := zx_callV (t := 8) z123 zo123 dX8_compare_9 rfl C9_13 rfl rfl zm124 rfl rfl (zwt_le (Nat.le_of_ble_eq_true rfl)) rfl h
theorem s123_12 : zX d 123 12 ls [zI x] A K = K (Sum.inl (some (zI x))) A := zx_iret z123 dX8_compare_12 zk123 rfl
theorem s124_0 : zX d 124 0 [v0, zO o, v2] st A K = zX d 124 1 [v0, zO o, v2] (zO o :: st) A K := zx_aload_n z124 dX8_compare_2_0 rfl rfl
theorem s124_1 : zX d 124 1 [v0, v1, zO o] st A K = zX d 124 2 [v0, v1, zO o] (zO o :: st) A K := zx_aload_n z124 dX8_compare_2_1 rfl rfl
theorem s124_2 (h : tg A a = 4)  : zX (d + 1) 124 2 ls (zO o0 :: zO (some a) :: []) A K = zX d 116 0 [zO (some a), zO o0, zU] [] A (zK (d + 1) 124 2 5 ls [] K) := zx_callV (t := 4) z124 zo124 dX8_compare_2_2 rfl C9_7 rfl rfl zm116 rfl rfl (zwt_le (Nat.le_of_ble_eq_true rfl)) rfl h
theorem s124_5 : zX d 124 5 ls [zI x] A K = K (Sum.inl (some (zI x))) A := zx_iret z124 dX8_compare_2_5 zk124 rfl
theorem s125_0 : zX d 125 0 [zO o] st A K = zX d 125 1 [zO o] (zO o :: st) A K := zx_aload_n z125 dX8_init_0 rfl rfl
theorem s125_1 : zX d 125 1 ls (zO (some a) :: []) A K = zX d 125 4 ls [] A K := zx_inI z125 zo125 dX8_init_1 rfl rfl rfl (zin_1 (zwt_le (Nat.le_of_ble_eq_true rfl)))
theorem s125_4 : zX d 125 4 ls [] A K = K (Sum.inl none) A := zx_vret z125 dX8_init_4 rfl
end SS
