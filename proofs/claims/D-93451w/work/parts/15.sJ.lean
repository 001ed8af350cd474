set_option maxRecDepth 100000
set_option linter.unusedVariables false
section SS
variable {d : Nat} {st ls : List ZV} {A : AH} {K : ZR → AH → Prop} {v u v0 v1 v2 v3 v4 v5 v6 v7 v8 v9 v10 v11 v12 v13 v14 u0 u1 u2 u3 u4 u5 w0 w1 w2 w3 w4 w5 w6 w7 : ZV} {x y w i0 i1 i2 i3 i4 i5 : Int} {a b : Nat} {o0 o1 o2 o3 o4 o5 : Option Nat} {o : Option Nat}
theorem s232_0 : zX d 232 0 [zO o] st A K = zX d 232 1 [zO o] (zO o :: st) A K := zx_aload_n z232 dJ0_init_0 rfl rfl
theorem s232_1 : zX d 232 1 ls (zO (some a) :: []) A K = zX d 232 4 ls [] A K := zx_inI z232 zo232 dJ0_init_1 rfl rfl rfl (zin_1 (zwt_le (Nat.le_of_ble_eq_true rfl)))
theorem s232_4 : zX d 232 4 ls [] A K = K (Sum.inl none) A := zx_vret z232 dJ0_init_4 rfl
theorem s233_0 : zX d 233 0 [zO o] st A K = zX d 233 1 [zO o] (zO o :: st) A K := zx_aload_n z233 dJ1_init_0 rfl rfl
theorem s233_1 : zX (d + 1) 233 1 ls (zO (some a) :: []) A K = zX d 232 0 [zO (some a)] [] A (zK (d + 1) 233 1 4 ls [] K) := zx_callI z233 zo233 dJ1_init_1 rfl C12_1 rfl rfl zm232 rfl rfl (zwt_le (Nat.le_of_ble_eq_true rfl)) rfl
theorem s233_4 : zX d 233 4 [zO o] st A K = zX d 233 5 [zO o] (zO o :: st) A K := zx_aload_n z233 dJ1_init_4 rfl rfl
theorem s233_5 : zX d 233 5 ls st A K = zX d 233 6 ls (zI 0 :: st) A K := zx_const z233 dJ1_init_5 (by decide) rfl
theorem s233_6 (h : tg A a = 10) : zX d 233 6 ls (zI x :: zO (some a) :: st) A K = zX d 233 9 ls st (pF A a 4 (zI x)) K := zx_putf (q := 0) z233 zo233 dJ1_init_6 F12_7 rfl rfl rfl h rfl
theorem s233_9 : zX d 233 9 [zO o] st A K = zX d 233 10 [zO o] (zO o :: st) A K := zx_aload_n z233 dJ1_init_9 rfl rfl
theorem s233_10 : zX d 233 10 ls st A K = zX d 233 11 ls (zI 0 :: st) A K := zx_const z233 dJ1_init_10 (by decide) rfl
theorem s233_11 (h : tg A a = 10) : zX d 233 11 ls (zI x :: zO (some a) :: st) A K = zX d 233 14 ls st (pF A a 5 (zI x)) K := zx_putf (q := 0) z233 zo233 dJ1_init_11 F12_13 rfl rfl rfl h rfl
theorem s233_14 : zX d 233 14 [zO o] st A K = zX d 233 15 [zO o] (zO o :: st) A K := zx_aload_n z233 dJ1_init_14 rfl rfl
theorem s233_15 : zX d 233 15 ls st A K = zX d 233 16 ls (zO none :: st) A K := zx_null z233 dJ1_init_15 rfl
theorem s233_16 (h : tg A a = 10) : zX d 233 16 ls (zO o :: zO (some a) :: st) A K = zX d 233 19 ls st (pF A a 2 (zO o)) K := zx_putf (q := 3) z233 zo233 dJ1_init_16 F12_16 rfl rfl rfl h rfl
theorem s233_19 : zX d 233 19 ls [] A K = K (Sum.inl none) A := zx_vret z233 dJ1_init_19 rfl
theorem s234_0 : zX d 234 0 [zO o] st A K = zX d 234 1 [zO o] (zO o :: st) A K := zx_aload_n z234 dJ1_clear_0 rfl rfl
theorem s234_1 (h : zc v = true) : zX d 234 1 ls (v :: st) A K = zX d 234 2 ls (v :: v :: st) A K := zx_dup z234 dJ1_clear_1 rfl h
theorem s234_2 (h : tg A a = 10) : zX d 234 2 ls (zO (some a) :: st) A K = zX d 234 5 ls (fd A a 5 :: st) A K := zx_getf z234 zo234 dJ1_clear_2 F12_13 rfl h
theorem s234_5 : zX d 234 5 ls st A K = zX d 234 6 ls (zI 1 :: st) A K := zx_const z234 dJ1_clear_5 (by decide) rfl
theorem s234_6 : zX d 234 6 ls (zI y :: zI x :: st) A K = zX d 234 7 ls (zI (zw (x + y)) :: st) A K := zx_iadd z234 dJ1_clear_6 rfl
theorem s234_7 (h : tg A a = 10) : zX d 234 7 ls (zI x :: zO (some a) :: st) A K = zX d 234 10 ls st (pF A a 5 (zI x)) K := zx_putf (q := 0) z234 zo234 dJ1_clear_7 F12_13 rfl rfl rfl h rfl
theorem s234_10 : zX d 234 10 [zO o] st A K = zX d 234 11 [zO o] (zO o :: st) A K := zx_aload_n z234 dJ1_clear_10 rfl rfl
theorem s234_11 : zX d 234 11 ls st A K = zX d 234 12 ls (zI 0 :: st) A K := zx_const z234 dJ1_clear_11 (by decide) rfl
theorem s234_12 (h : tg A a = 10) : zX d 234 12 ls (zI x :: zO (some a) :: st) A K = zX d 234 15 ls st (pF A a 4 (zI x)) K := zx_putf (q := 0) z234 zo234 dJ1_clear_12 F12_7 rfl rfl rfl h rfl
theorem s234_15 : zX d 234 15 [zO o] st A K = zX d 234 16 [zO o] (zO o :: st) A K := zx_aload_n z234 dJ1_clear_15 rfl rfl
theorem s234_16 : zX d 234 16 ls st A K = zX d 234 17 ls (zO none :: st) A K := zx_null z234 dJ1_clear_16 rfl
theorem s234_17 (h : tg A a = 10) : zX d 234 17 ls (zO o :: zO (some a) :: st) A K = zX d 234 20 ls st (pF A a 3 (zO o)) K := zx_putf (q := 3) z234 zo234 dJ1_clear_17 F12_101 rfl rfl rfl h rfl
theorem s234_20 : zX d 234 20 ls [] A K = K (Sum.inl none) A := zx_vret z234 dJ1_clear_20 rfl
theorem s235_0 : zX d 235 0 [zO o] st A K = zX d 235 1 [zO o] (zO o :: st) A K := zx_aload_n z235 dJ1_size_0 rfl rfl
theorem s235_1 (h : tg A a = 10) : zX d 235 1 ls (zO (some a) :: st) A K = zX d 235 4 ls (fd A a 4 :: st) A K := zx_getf z235 zo235 dJ1_size_1 F12_7 rfl h
theorem s235_4 : zX d 235 4 ls [zI x] A K = K (Sum.inl (some (zI x))) A := zx_iret z235 dJ1_size_4 zk235 rfl
theorem s236_0 : zX d 236 0 [zO o, v1, v2] st A K = zX d 236 1 [zO o, v1, v2] (zO o :: st) A K := zx_aload_n z236 dJ1_put_0 rfl rfl
theorem s236_1 : zX d 236 1 [v0, zO o, v2] st A K = zX d 236 2 [v0, zO o, v2] (zO o :: st) A K := zx_aload_n z236 dJ1_put_1 rfl rfl
theorem s236_2 : zX d 236 2 [v0, v1, zO o] st A K = zX d 236 3 [v0, v1, zO o] (zO o :: st) A K := zx_aload_n z236 dJ1_put_2 rfl rfl
theorem s236_3 : zX d 236 3 ls st A K = zX d 236 4 ls (zI 1 :: st) A K := zx_const z236 dJ1_put_3 (by decide) rfl
theorem s236_4 (h : tg A a = 10)  : zX (d + 1) 236 4 ls (zI i2 :: zO o1 :: zO o0 :: zO (some a) :: []) A K = zX d 237 0 [zO (some a), zO o0, zO o1, zI i2, zU, zU, zU, zU, zU, zU] [] A (zK (d + 1) 236 4 7 ls [] K) := zx_callV (t := 10) z236 zo236 dJ1_put_4 rfl C12_127 rfl rfl zm237 rfl rfl (zwt_le (Nat.le_of_ble_eq_true rfl)) rfl h
theorem s236_7 : zX d 236 7 ls [zO o] A K = K (Sum.inl (some (zO o))) A := zx_aret z236 dJ1_put_7 rfl
theorem s237_0 : zX d 237 0 [zO o, v1, v2, v3, v4, v5, v6, v7, v8, v9] st A K = zX d 237 1 [zO o, v1, v2, v3, v4, v5, v6, v7, v8, v9] (zO o :: st) A K := zx_aload_n z237 dJ1_put_2_0 rfl rfl
theorem s237_1 (h : tg A a = 10) : zX d 237 1 ls (zO (some a) :: st) A K = zX d 237 4 ls (fd A a 3 :: st) A K := zx_getf z237 zo237 dJ1_put_2_1 F12_101 rfl h
theorem s237_4 : zX d 237 4 [v0, v1, v2, v3, v4, v5, v6, v7, v8, v9] (zO o :: st) A K = zX d 237 6 [v0, v1, v2, v3, zO o, v5, v6, v7, v8, v9] st A K := zx_astore z237 dJ1_put_2_4 (Nat.le_of_ble_eq_true rfl) rfl rfl
theorem s237_6 : zX d 237 6 [v0, v1, v2, v3, zO o, v5, v6, v7, v8, v9] st A K = zX d 237 8 [v0, v1, v2, v3, zO o, v5, v6, v7, v8, v9] (zO o :: st) A K := zx_aload z237 dJ1_put_2_6 rfl rfl
theorem s237_8 : zX d 237 8 ls (zO o :: st) A K = (if o ≠ none then zX d 237 19 ls st A K else zX d 237 11 ls st A K) := zx_ifnonnull z237 dJ1_put_2_8 rfl rfl
theorem s237_11 : zX d 237 11 [zO o, v1, v2, v3, v4, v5, v6, v7, v8, v9] st A K = zX d 237 12 [zO o, v1, v2, v3, v4, v5, v6, v7, v8, v9] (zO o :: st) A K := zx_aload_n z237 dJ1_put_2_11 rfl rfl
theorem s237_12 : zX d 237 12 [v0, zO o, v2, v3, v4, v5, v6, v7, v8, v9] st A K = zX d 237 13 [v0, zO o, v2, v3, v4, v5, v6, v7, v8, v9] (zO o :: st) A K := zx_aload_n z237 dJ1_put_2_12 rfl rfl
theorem s237_13 : zX d 237 13 [v0, v1, zO o, v3, v4, v5, v6, v7, v8, v9] st A K = zX d 237 14 [v0, v1, zO o, v3, v4, v5, v6, v7, v8, v9] (zO o :: st) A K := zx_aload_n z237 dJ1_put_2_13 rfl rfl
theorem s237_14 (h : tg A a = 10)  : zX (d + 1) 237 14 ls (zO o1 :: zO o0 :: zO (some a) :: []) A K = zX d 238 0 [zO (some a), zO o0, zO o1] [] A (zK (d + 1) 237 14 17 ls [] K) := zx_callV (t := 10) z237 zo237 dJ1_put_2_14 rfl C12_135 rfl rfl zm238 rfl rfl (zwt_le (Nat.le_of_ble_eq_true rfl)) rfl h
theorem s237_17 : zX d 237 17 ls st A K = zX d 237 18 ls (zO none :: st) A K := zx_null z237 dJ1_put_2_17 rfl
theorem s237_18 : zX d 237 18 ls [zO o] A K = K (Sum.inl (some (zO o))) A := zx_aret z237 dJ1_put_2_18 rfl
theorem s237_19 : zX d 237 19 [zO o, v1, v2, v3, v4, v5, v6, v7, v8, v9] st A K = zX d 237 20 [zO o, v1, v2, v3, v4, v5, v6, v7, v8, v9] (zO o :: st) A K := zx_aload_n z237 dJ1_put_2_19 rfl rfl
theorem s237_20 (h : tg A a = 10) : zX d 237 20 ls (zO (some a) :: st) A K = zX d 237 23 ls (fd A a 2 :: st) A K := zx_getf z237 zo237 dJ1_put_2_20 F12_16 rfl h
theorem s237_23 : zX d 237 23 [v0, v1, v2, v3, v4, v5, v6, v7, v8, v9] (zO o :: st) A K = zX d 237 25 [v0, v1, v2, v3, v4, v5, v6, zO o, v8, v9] st A K := zx_astore z237 dJ1_put_2_23 (Nat.le_of_ble_eq_true rfl) rfl rfl
theorem s237_25 : zX d 237 25 [v0, v1, v2, v3, v4, v5, v6, zO o, v8, v9] st A K = zX d 237 27 [v0, v1, v2, v3, v4, v5, v6, zO o, v8, v9] (zO o :: st) A K := zx_aload z237 dJ1_put_2_25 rfl rfl
theorem s237_27 : zX d 237 27 ls (zO o :: st) A K = (if o = none then zX d 237 112 ls st A K else zX d 237 30 ls st A K) := zx_ifnull z237 dJ1_put_2_27 rfl rfl
theorem s237_30 : zX d 237 30 [v0, v1, v2, v3, zO o, v5, v6, v7, v8, v9] st A K = zX d 237 32 [v0, v1, v2, v3, zO o, v5, v6, v7, v8, v9] (zO o :: st) A K := zx_aload z237 dJ1_put_2_30 rfl rfl
theorem s237_32 : zX d 237 32 [v0, v1, v2, v3, v4, v5, v6, v7, v8, v9] (zO o :: st) A K = zX d 237 34 [v0, v1, v2, v3, v4, v5, zO o, v7, v8, v9] st A K := zx_astore z237 dJ1_put_2_32 (Nat.le_of_ble_eq_true rfl) rfl rfl
theorem s237_34 : zX d 237 34 [v0, v1, v2, v3, v4, v5, v6, zO o, v8, v9] st A K = zX d 237 36 [v0, v1, v2, v3, v4, v5, v6, zO o, v8, v9] (zO o :: st) A K := zx_aload z237 dJ1_put_2_34 rfl rfl
theorem s237_36 : zX d 237 36 [v0, zO o, v2, v3, v4, v5, v6, v7, v8, v9] st A K = zX d 237 37 [v0, zO o, v2, v3, v4, v5, v6, v7, v8, v9] (zO o :: st) A K := zx_aload_n z237 dJ1_put_2_36 rfl rfl
theorem s237_37 : zX d 237 37 [v0, v1, v2, v3, zO o, v5, v6, v7, v8, v9] st A K = zX d 237 39 [v0, v1, v2, v3, zO o, v5, v6, v7, v8, v9] (zO o :: st) A K := zx_aload z237 dJ1_put_2_37 rfl rfl
theorem s237_39 (h : tg A a = 11) : zX d 237 39 ls (zO (some a) :: st) A K = zX d 237 42 ls (fd A a 0 :: st) A K := zx_getf z237 zo237 dJ1_put_2_39 F12_105 rfl h
theorem s237_42 (h : tg A a = 8)  : zX (d + 1) 237 42 ls (zO o1 :: zO o0 :: zO (some a) :: []) A K = zX d 123 0 [zO (some a), zO o0, zO o1] [] A (zK (d + 1) 237 42 47 ls [] K) := zx_callF (t := 8) z237 zo237 dJ1_put_2_42 rfl C12_117 rfl rfl zm123 rfl rfl (zwt_le (Nat.le_of_ble_eq_true rfl)) rfl h
theorem s237_47 : zX d 237 47 [v0, v1, v2, v3, v4, v5, v6, v7, v8, v9] (zI x :: st) A K = zX d 237 49 [v0, v1, v2, v3, v4, zI x, v6, v7, v8, v9] st A K := zx_istore z237 dJ1_put_2_47 (Nat.le_of_ble_eq_true rfl) rfl rfl
theorem s237_49 : zX d 237 49 [v0, v1, v2, v3, v4, zI x, v6, v7, v8, v9] st A K = zX d 237 51 [v0, v1, v2, v3, v4, zI x, v6, v7, v8, v9] (zI x :: st) A K := zx_iload z237 dJ1_put_2_49 rfl rfl
theorem s237_51 : zX d 237 51 ls (zI x :: st) A K = (if 0 ≤ x then zX d 237 64 ls st A K else zX d 237 54 ls st A K) := zx_if_ge z237 dJ1_put_2_51 rfl rfl
theorem s237_54 : zX d 237 54 [v0, v1, v2, v3, zO o, v5, v6, v7, v8, v9] st A K = zX d 237 56 [v0, v1, v2, v3, zO o, v5, v6, v7, v8, v9] (zO o :: st) A K := zx_aload z237 dJ1_put_2_54 rfl rfl
theorem s237_56 (h : tg A a = 11) : zX d 237 56 ls (zO (some a) :: st) A K = zX d 237 59 ls (fd A a 2 :: st) A K := zx_getf z237 zo237 dJ1_put_2_56 F12_111 rfl h
theorem s237_59 : zX d 237 59 [v0, v1, v2, v3, v4, v5, v6, v7, v8, v9] (zO o :: st) A K = zX d 237 61 [v0, v1, v2, v3, zO o, v5, v6, v7, v8, v9] st A K := zx_astore z237 dJ1_put_2_59 (Nat.le_of_ble_eq_true rfl) rfl rfl
theorem s237_61 : zX d 237 61 ls st A K = zX d 237 104 ls st A K := zx_goto z237 dJ1_put_2_61 rfl
theorem s237_64 : zX d 237 64 [v0, v1, v2, v3, v4, zI x, v6, v7, v8, v9] st A K = zX d 237 66 [v0, v1, v2, v3, v4, zI x, v6, v7, v8, v9] (zI x :: st) A K := zx_iload z237 dJ1_put_2_64 rfl rfl
theorem s237_66 : zX d 237 66 ls (zI x :: st) A K = (if x ≤ 0 then zX d 237 79 ls st A K else zX d 237 69 ls st A K) := zx_if_le z237 dJ1_put_2_66 rfl rfl
theorem s237_69 : zX d 237 69 [v0, v1, v2, v3, zO o, v5, v6, v7, v8, v9] st A K = zX d 237 71 [v0, v1, v2, v3, zO o, v5, v6, v7, v8, v9] (zO o :: st) A K := zx_aload z237 dJ1_put_2_69 rfl rfl
theorem s237_71 (h : tg A a = 11) : zX d 237 71 ls (zO (some a) :: st) A K = zX d 237 74 ls (fd A a 3 :: st) A K := zx_getf z237 zo237 dJ1_put_2_71 F12_114 rfl h
theorem s237_74 : zX d 237 74 [v0, v1, v2, v3, v4, v5, v6, v7, v8, v9] (zO o :: st) A K = zX d 237 76 [v0, v1, v2, v3, zO o, v5, v6, v7, v8, v9] st A K := zx_astore z237 dJ1_put_2_74 (Nat.le_of_ble_eq_true rfl) rfl rfl
theorem s237_76 : zX d 237 76 ls st A K = zX d 237 104 ls st A K := zx_goto z237 dJ1_put_2_76 rfl
theorem s237_79 : zX d 237 79 [v0, v1, v2, v3, zO o, v5, v6, v7, v8, v9] st A K = zX d 237 81 [v0, v1, v2, v3, zO o, v5, v6, v7, v8, v9] (zO o :: st) A K := zx_aload z237 dJ1_put_2_79 rfl rfl
theorem s237_81 (h : tg A a = 11) : zX d 237 81 ls (zO (some a) :: st) A K = zX d 237 84 ls (fd A a 1 :: st) A K := zx_getf z237 zo237 dJ1_put_2_81 F12_58 rfl h
theorem s237_84 : zX d 237 84 [v0, v1, v2, v3, v4, v5, v6, v7, v8, v9] (zO o :: st) A K = zX d 237 86 [v0, v1, v2, v3, v4, v5, v6, v7, zO o, v9] st A K := zx_astore z237 dJ1_put_2_84 (Nat.le_of_ble_eq_true rfl) rfl rfl
theorem s237_86 : zX d 237 86 [v0, v1, v2, zI x, v4, v5, v6, v7, v8, v9] st A K = zX d 237 87 [v0, v1, v2, zI x, v4, v5, v6, v7, v8, v9] (zI x :: st) A K := zx_iload_n z237 dJ1_put_2_86 rfl rfl
theorem s237_87 : zX d 237 87 ls (zI x :: st) A K = (if x ≠ 0 then zX d 237 95 ls st A K else zX d 237 90 ls st A K) := zx_if_ne z237 dJ1_put_2_87 rfl rfl
theorem s237_90 : zX d 237 90 [v0, v1, v2, v3, v4, v5, v6, v7, zO o, v9] st A K = zX d 237 92 [v0, v1, v2, v3, v4, v5, v6, v7, zO o, v9] (zO o :: st) A K := zx_aload z237 dJ1_put_2_90 rfl rfl
theorem s237_92 : zX d 237 92 ls (zO o :: st) A K = (if o ≠ none then zX d 237 101 ls st A K else zX d 237 95 ls st A K) := zx_ifnonnull z237 dJ1_put_2_92 rfl rfl
theorem s237_95 : zX d 237 95 [v0, v1, v2, v3, zO o, v5, v6, v7, v8, v9] st A K = zX d 237 97 [v0, v1, v2, v3, zO o, v5, v6, v7, v8, v9] (zO o :: st) A K := zx_aload z237 dJ1_put_2_95 rfl rfl
theorem s237_97 : zX d 237 97 [v0, v1, zO o, v3, v4, v5, v6, v7, v8, v9] st A K = zX d 237 98 [v0, v1, zO o, v3, v4, v5, v6, v7, v8, v9] (zO o :: st) A K := zx_aload_n z237 dJ1_put_2_97 rfl rfl
theorem s237_98 (h : tg A a = 11) : zX d 237 98 ls (zO o :: zO (some a) :: st) A K = zX d 237 101 ls st (pF A a 1 (zO o)) K := zx_putf (q := 3) z237 zo237 dJ1_put_2_98 F12_58 rfl rfl rfl h rfl
theorem s237_101 : zX d 237 101 [v0, v1, v2, v3, v4, v5, v6, v7, zO o, v9] st A K = zX d 237 103 [v0, v1, v2, v3, v4, v5, v6, v7, zO o, v9] (zO o :: st) A K := zx_aload z237 dJ1_put_2_101 rfl rfl
theorem s237_103 : zX d 237 103 ls [zO o] A K = K (Sum.inl (some (zO o))) A := zx_aret z237 dJ1_put_2_103 rfl
theorem s237_104 : zX d 237 104 [v0, v1, v2, v3, zO o, v5, v6, v7, v8, v9] st A K = zX d 237 106 [v0, v1, v2, v3, zO o, v5, v6, v7, v8, v9] (zO o :: st) A K := zx_aload z237 dJ1_put_2_104 rfl rfl
theorem s237_106 : zX d 237 106 ls (zO o :: st) A K = (if o ≠ none then zX d 237 30 ls st A K else zX d 237 109 ls st A K) := zx_ifnonnull z237 dJ1_put_2_106 rfl rfl
theorem s237_109 : zX d 237 109 ls st A K = zX d 237 201 ls st A K := zx_goto z237 dJ1_put_2_109 rfl
theorem s237_112 : zX d 237 112 [v0, zO o, v2, v3, v4, v5, v6, v7, v8, v9] st A K = zX d 237 113 [v0, zO o, v2, v3, v4, v5, v6, v7, v8, v9] (zO o :: st) A K := zx_aload_n z237 dJ1_put_2_112 rfl rfl
theorem s237_113 : zX (d + 1) 237 113 ls (zO o0 :: []) A K = zX d 281 0 [zO o0] [] A (zK (d + 1) 237 113 116 ls [] K) := zx_callS z237 zo237 dJ1_put_2_113 rfl C12_95 rfl rfl zm281 rfl rfl (zwt_le (Nat.le_of_ble_eq_true rfl)) rfl
theorem s237_116 (h : zc v = true) : zX d 237 116 ls (v :: st) A K = zX d 237 117 ls st A K := zx_pop z237 dJ1_put_2_116 rfl h
theorem s237_117 : zX d 237 117 [v0, zO o, v2, v3, v4, v5, v6, v7, v8, v9] st A K = zX d 237 118 [v0, zO o, v2, v3, v4, v5, v6, v7, v8, v9] (zO o :: st) A K := zx_aload_n z237 dJ1_put_2_117 rfl rfl
theorem s237_118 (h : ([3, 4, 32] : List Nat).contains (tg A a) = true) : zX d 237 118 ls (zO (some a) :: st) A K = zX d 237 121 ls (zO (some a) :: st) A K := zx_cast z237 zo237 dJ1_put_2_118 rfl rfl h
theorem s237_118n : zX d 237 118 ls (zO none :: st) A K = zX d 237 121 ls (zO none :: st) A K := zx_castN z237 zo237 dJ1_put_2_118 rfl rfl
theorem s237_121 : zX d 237 121 [v0, v1, v2, v3, v4, v5, v6, v7, v8, v9] (zO o :: st) A K = zX d 237 123 [v0, v1, v2, v3, v4, v5, v6, v7, zO o, v9] st A K := zx_astore z237 dJ1_put_2_121 (Nat.le_of_ble_eq_true rfl) rfl rfl
theorem s237_123 : zX d 237 123 [v0, v1, v2, v3, zO o, v5, v6, v7, v8, v9] st A K = zX d 237 125 [v0, v1, v2, v3, zO o, v5, v6, v7, v8, v9] (zO o :: st) A K := zx_aload z237 dJ1_put_2_123 rfl rfl
theorem s237_125 : zX d 237 125 [v0, v1, v2, v3, v4, v5, v6, v7, v8, v9] (zO o :: st) A K = zX d 237 127 [v0, v1, v2, v3, v4, v5, zO o, v7, v8, v9] st A K := zx_astore z237 dJ1_put_2_125 (Nat.le_of_ble_eq_true rfl) rfl rfl
theorem s237_127 : zX d 237 127 [v0, v1, v2, v3, v4, v5, v6, v7, zO o, v9] st A K = zX d 237 129 [v0, v1, v2, v3, v4, v5, v6, v7, zO o, v9] (zO o :: st) A K := zx_aload z237 dJ1_put_2_127 rfl rfl
theorem s237_129 : zX d 237 129 [v0, v1, v2, v3, zO o, v5, v6, v7, v8, v9] st A K = zX d 237 131 [v0, v1, v2, v3, zO o, v5, v6, v7, v8, v9] (zO o :: st) A K := zx_aload z237 dJ1_put_2_129 rfl rfl
theorem s237_131 (h : tg A a = 11) : zX d 237 131 ls (zO (some a) :: st) A K = zX d 237 134 ls (fd A a 0 :: st) A K := zx_getf z237 zo237 dJ1_put_2_131 F12_105 rfl h
theorem s237_134_3 (h : tg A a = 3)  : zX (d + 1) 237 134 ls (zO o0 :: zO (some a) :: []) A K = zX d 99 0 [zO (some a), zO o0] [] A (zK (d + 1) 237 134 139 ls [] K) := zx_callF (t := 3) z237 zo237 dJ1_put_2_134 rfl C12_107 rfl rfl zm99 rfl rfl (zwt_le (Nat.le_of_ble_eq_true rfl)) rfl h
theorem s237_134_4 (h : tg A a = 4)  : zX (d + 1) 237 134 ls (zO o0 :: zO (some a) :: []) A K = zX d 115 0 [zO (some a), zO o0] [] A (zK (d + 1) 237 134 139 ls [] K) := zx_callF (t := 4) z237 zo237 dJ1_put_2_134 rfl C12_107 rfl rfl zm115 rfl rfl (zwt_le (Nat.le_of_ble_eq_true rfl)) rfl h
theorem s237_134_32 (h : tg A a = 32)  : zX (d + 1) 237 134 ls (zO o0 :: zO (some a) :: []) A K = zX d 270 0 [zO (some a), zO o0] [] A (zK (d + 1) 237 134 139 ls [] K) := zx_callF (t := 32) z237 zo237 dJ1_put_2_134 rfl C12_107 rfl rfl zm270 rfl rfl (zwt_le (Nat.le_of_ble_eq_true rfl)) rfl h
theorem s237_139 : zX d 237 139 [v0, v1, v2, v3, v4, v5, v6, v7, v8, v9] (zI x :: st) A K = zX d 237 141 [v0, v1, v2, v3, v4, zI x, v6, v7, v8, v9] st A K := zx_istore z237 dJ1_put_2_139 (Nat.le_of_ble_eq_true rfl) rfl rfl
theorem s237_141 : zX d 237 141 [v0, v1, v2, v3, v4, zI x, v6, v7, v8, v9] st A K = zX d 237 143 [v0, v1, v2, v3, v4, zI x, v6, v7, v8, v9] (zI x :: st) A K := zx_iload z237 dJ1_put_2_141 rfl rfl
theorem s237_143 : zX d 237 143 ls (zI x :: st) A K = (if 0 ≤ x then zX d 237 156 ls st A K else zX d 237 146 ls st A K) := zx_if_ge z237 dJ1_put_2_143 rfl rfl
theorem s237_146 : zX d 237 146 [v0, v1, v2, v3, zO o, v5, v6, v7, v8, v9] st A K = zX d 237 148 [v0, v1, v2, v3, zO o, v5, v6, v7, v8, v9] (zO o :: st) A K := zx_aload z237 dJ1_put_2_146 rfl rfl
theorem s237_148 (h : tg A a = 11) : zX d 237 148 ls (zO (some a) :: st) A K = zX d 237 151 ls (fd A a 2 :: st) A K := zx_getf z237 zo237 dJ1_put_2_148 F12_111 rfl h
theorem s237_151 : zX d 237 151 [v0, v1, v2, v3, v4, v5, v6, v7, v8, v9] (zO o :: st) A K = zX d 237 153 [v0, v1, v2, v3, zO o, v5, v6, v7, v8, v9] st A K := zx_astore z237 dJ1_put_2_151 (Nat.le_of_ble_eq_true rfl) rfl rfl
theorem s237_153 : zX d 237 153 ls st A K = zX d 237 196 ls st A K := zx_goto z237 dJ1_put_2_153 rfl
theorem s237_156 : zX d 237 156 [v0, v1, v2, v3, v4, zI x, v6, v7, v8, v9] st A K = zX d 237 158 [v0, v1, v2, v3, v4, zI x, v6, v7, v8, v9] (zI x :: st) A K := zx_iload z237 dJ1_put_2_156 rfl rfl
theorem s237_158 : zX d 237 158 ls (zI x :: st) A K = (if x ≤ 0 then zX d 237 171 ls st A K else zX d 237 161 ls st A K) := zx_if_le z237 dJ1_put_2_158 rfl rfl
theorem s237_161 : zX d 237 161 [v0, v1, v2, v3, zO o, v5, v6, v7, v8, v9] st A K = zX d 237 163 [v0, v1, v2, v3, zO o, v5, v6, v7, v8, v9] (zO o :: st) A K := zx_aload z237 dJ1_put_2_161 rfl rfl
theorem s237_163 (h : tg A a = 11) : zX d 237 163 ls (zO (some a) :: st) A K = zX d 237 166 ls (fd A a 3 :: st) A K := zx_getf z237 zo237 dJ1_put_2_163 F12_114 rfl h
theorem s237_166 : zX d 237 166 [v0, v1, v2, v3, v4, v5, v6, v7, v8, v9] (zO o :: st) A K = zX d 237 168 [v0, v1, v2, v3, zO o, v5, v6, v7, v8, v9] st A K := zx_astore z237 dJ1_put_2_166 (Nat.le_of_ble_eq_true rfl) rfl rfl
theorem s237_168 : zX d 237 168 ls st A K = zX d 237 196 ls st A K := zx_goto z237 dJ1_put_2_168 rfl
theorem s237_171 : zX d 237 171 [v0, v1, v2, v3, zO o, v5, v6, v7, v8, v9] st A K = zX d 237 173 [v0, v1, v2, v3, zO o, v5, v6, v7, v8, v9] (zO o :: st) A K := zx_aload z237 dJ1_put_2_171 rfl rfl
theorem s237_173 (h : tg A a = 11) : zX d 237 173 ls (zO (some a) :: st) A K = zX d 237 176 ls (fd A a 1 :: st) A K := zx_getf z237 zo237 dJ1_put_2_173 F12_58 rfl h
theorem s237_176 : zX d 237 176 [v0, v1, v2, v3, v4, v5, v6, v7, v8, v9] (zO o :: st) A K = zX d 237 178 [v0, v1, v2, v3, v4, v5, v6, v7, v8, zO o] st A K := zx_astore z237 dJ1_put_2_176 (Nat.le_of_ble_eq_true rfl) rfl rfl
theorem s237_178 : zX d 237 178 [v0, v1, v2, zI x, v4, v5, v6, v7, v8, v9] st A K = zX d 237 179 [v0, v1, v2, zI x, v4, v5, v6, v7, v8, v9] (zI x :: st) A K := zx_iload_n z237 dJ1_put_2_178 rfl rfl
theorem s237_179 : zX d 237 179 ls (zI x :: st) A K = (if x ≠ 0 then zX d 237 187 ls st A K else zX d 237 182 ls st A K) := zx_if_ne z237 dJ1_put_2_179 rfl rfl
theorem s237_182 : zX d 237 182 [v0, v1, v2, v3, v4, v5, v6, v7, v8, zO o] st A K = zX d 237 184 [v0, v1, v2, v3, v4, v5, v6, v7, v8, zO o] (zO o :: st) A K := zx_aload z237 dJ1_put_2_182 rfl rfl
theorem s237_184 : zX d 237 184 ls (zO o :: st) A K = (if o ≠ none then zX d 237 193 ls st A K else zX d 237 187 ls st A K) := zx_ifnonnull z237 dJ1_put_2_184 rfl rfl
theorem s237_187 : zX d 237 187 [v0, v1, v2, v3, zO o, v5, v6, v7, v8, v9] st A K = zX d 237 189 [v0, v1, v2, v3, zO o, v5, v6, v7, v8, v9] (zO o :: st) A K := zx_aload z237 dJ1_put_2_187 rfl rfl
theorem s237_189 : zX d 237 189 [v0, v1, zO o, v3, v4, v5, v6, v7, v8, v9] st A K = zX d 237 190 [v0, v1, zO o, v3, v4, v5, v6, v7, v8, v9] (zO o :: st) A K := zx_aload_n z237 dJ1_put_2_189 rfl rfl
theorem s237_190 (h : tg A a = 11) : zX d 237 190 ls (zO o :: zO (some a) :: st) A K = zX d 237 193 ls st (pF A a 1 (zO o)) K := zx_putf (q := 3) z237 zo237 dJ1_put_2_190 F12_58 rfl rfl rfl h rfl
theorem s237_193 : zX d 237 193 [v0, v1, v2, v3, v4, v5, v6, v7, v8, zO o] st A K = zX d 237 195 [v0, v1, v2, v3, v4, v5, v6, v7, v8, zO o] (zO o :: st) A K := zx_aload z237 dJ1_put_2_193 rfl rfl
theorem s237_195 : zX d 237 195 ls [zO o] A K = K (Sum.inl (some (zO o))) A := zx_aret z237 dJ1_put_2_195 rfl
theorem s237_196 : zX d 237 196 [v0, v1, v2, v3, zO o, v5, v6, v7, v8, v9] st A K = zX d 237 198 [v0, v1, v2, v3, zO o, v5, v6, v7, v8, v9] (zO o :: st) A K := zx_aload z237 dJ1_put_2_196 rfl rfl
theorem s237_198 : zX d 237 198 ls (zO o :: st) A K = (if o ≠ none then zX d 237 123 ls st A K else zX d 237 201 ls st A K) := zx_ifnonnull z237 dJ1_put_2_198 rfl rfl
theorem s237_201 : zX d 237 201 [zO o, v1, v2, v3, v4, v5, v6, v7, v8, v9] st A K = zX d 237 202 [zO o, v1, v2, v3, v4, v5, v6, v7, v8, v9] (zO o :: st) A K := zx_aload_n z237 dJ1_put_2_201 rfl rfl
theorem s237_202 : zX d 237 202 [v0, zO o, v2, v3, v4, v5, v6, v7, v8, v9] st A K = zX d 237 203 [v0, zO o, v2, v3, v4, v5, v6, v7, v8, v9] (zO o :: st) A K := zx_aload_n z237 dJ1_put_2_202 rfl rfl
theorem s237_203 : zX d 237 203 [v0, v1, zO o, v3, v4, v5, v6, v7, v8, v9] st A K = zX d 237 204 [v0, v1, zO o, v3, v4, v5, v6, v7, v8, v9] (zO o :: st) A K := zx_aload_n z237 dJ1_put_2_203 rfl rfl
theorem s237_204 : zX d 237 204 [v0, v1, v2, v3, v4, v5, zO o, v7, v8, v9] st A K = zX d 237 206 [v0, v1, v2, v3, v4, v5, zO o, v7, v8, v9] (zO o :: st) A K := zx_aload z237 dJ1_put_2_204 rfl rfl
theorem s237_206 : zX d 237 206 [v0, v1, v2, v3, v4, zI x, v6, v7, v8, v9] st A K = zX d 237 208 [v0, v1, v2, v3, v4, zI x, v6, v7, v8, v9] (zI x :: st) A K := zx_iload z237 dJ1_put_2_206 rfl rfl
theorem s237_208 : zX d 237 208 ls (zI x :: st) A K = (if 0 ≤ x then zX d 237 215 ls st A K else zX d 237 211 ls st A K) := zx_if_ge z237 dJ1_put_2_208 rfl rfl
theorem s237_211 : zX d 237 211 ls st A K = zX d 237 212 ls (zI 1 :: st) A K := zx_const z237 dJ1_put_2_211 (by decide) rfl
theorem s237_212 : zX d 237 212 ls st A K = zX d 237 216 ls st A K := zx_goto z237 dJ1_put_2_212 rfl
theorem s237_215 : zX d 237 215 ls st A K = zX d 237 216 ls (zI 0 :: st) A K := zx_const z237 dJ1_put_2_215 (by decide) rfl
theorem s237_216 (h : tg A a = 10)  : zX (d + 1) 237 216 ls (zI i3 :: zO o2 :: zO o1 :: zO o0 :: zO (some a) :: []) A K = zX d 240 0 [zO (some a), zO o0, zO o1, zO o2, zI i3, zU] [] A (zK (d + 1) 237 216 219 ls [] K) := zx_callV (t := 10) z237 zo237 dJ1_put_2_216 rfl C12_139 rfl rfl zm240 rfl rfl (zwt_le (Nat.le_of_ble_eq_true rfl)) rfl h
theorem s237_219 : zX d 237 219 ls st A K = zX d 237 220 ls (zO none :: st) A K := zx_null z237 dJ1_put_2_219 rfl
theorem s237_220 : zX d 237 220 ls [zO o] A K = K (Sum.inl (some (zO o))) A := zx_aret z237 dJ1_put_2_220 rfl
theorem s238_0 : zX d 238 0 [zO o, v1, v2] st A K = zX d 238 1 [zO o, v1, v2] (zO o :: st) A K := zx_aload_n z238 dJ1_addEntryToEmptyMap_0 rfl rfl
theorem s238_1 : zX d 238 1 [v0, zO o, v2] st A K = zX d 238 2 [v0, zO o, v2] (zO o :: st) A K := zx_aload_n z238 dJ1_addEntryToEmptyMap_1 rfl rfl
theorem s238_2 : zX d 238 2 [v0, zO o, v2] st A K = zX d 238 3 [v0, zO o, v2] (zO o :: st) A K := zx_aload_n z238 dJ1_addEntryToEmptyMap_2 rfl rfl
theorem s238_3 (h : tg A a = 10)  : zX (d + 1) 238 3 ls (zO o1 :: zO o0 :: zO (some a) :: []) A K = zX d 239 0 [zO (some a), zO o0, zO o1] [] A (zK (d + 1) 238 3 6 ls [] K) := zx_callV (t := 10) z238 zo238 dJ1_addEntryToEmptyMap_3 rfl C12_123 rfl rfl zm239 rfl rfl (zwt_le (Nat.le_of_ble_eq_true rfl)) rfl h
theorem s238_6 (h : zc v = true) : zX d 238 6 ls (v :: st) A K = zX d 238 7 ls st A K := zx_pop z238 dJ1_addEntryToEmptyMap_6 rfl h
theorem s238_7 : zX d 238 7 [zO o, v1, v2] st A K = zX d 238 8 [zO o, v1, v2] (zO o :: st) A K := zx_aload_n z238 dJ1_addEntryToEmptyMap_7 rfl rfl
theorem s238_8 : zX d 238 8 ls st A K = zX d 238 11 ls (zO (some (nx A)) :: st) (nO A 11) K := zx_new z238 zo238 dJ1_addEntryToEmptyMap_8 rfl rfl
theorem s238_11 (h : zc v = true) : zX d 238 11 ls (v :: st) A K = zX d 238 12 ls (v :: v :: st) A K := zx_dup z238 dJ1_addEntryToEmptyMap_11 rfl h
theorem s238_12 : zX d 238 12 [v0, zO o, v2] st A K = zX d 238 13 [v0, zO o, v2] (zO o :: st) A K := zx_aload_n z238 dJ1_addEntryToEmptyMap_12 rfl rfl
theorem s238_13 : zX d 238 13 [v0, v1, zO o] st A K = zX d 238 14 [v0, v1, zO o] (zO o :: st) A K := zx_aload_n z238 dJ1_addEntryToEmptyMap_13 rfl rfl
theorem s238_14 : zX d 238 14 ls st A K = zX d 238 15 ls (zO none :: st) A K := zx_null z238 dJ1_addEntryToEmptyMap_14 rfl
theorem s238_15 : zX (d + 1) 238 15 ls (zO o2 :: zO o1 :: zO o0 :: zO (some a) :: [w0, w1]) A K = zX d 280 0 [zO (some a), zO o0, zO o1, zO o2] [] A (zK (d + 1) 238 15 18 ls [w0, w1] K) := zx_callI z238 zo238 dJ1_addEntryToEmptyMap_15 rfl C12_167 rfl rfl zm280 rfl rfl (zwt_le (Nat.le_of_ble_eq_true rfl)) rfl
theorem s238_18 (h : tg A a = 10) : zX d 238 18 ls (zO o :: zO (some a) :: st) A K = zX d 238 21 ls st (pF A a 3 (zO o)) K := zx_putf (q := 3) z238 zo238 dJ1_addEntryToEmptyMap_18 F12_101 rfl rfl rfl h rfl
theorem s238_21 : zX d 238 21 [zO o, v1, v2] st A K = zX d 238 22 [zO o, v1, v2] (zO o :: st) A K := zx_aload_n z238 dJ1_addEntryToEmptyMap_21 rfl rfl
theorem s238_22 : zX d 238 22 ls st A K = zX d 238 23 ls (zI 1 :: st) A K := zx_const z238 dJ1_addEntryToEmptyMap_22 (by decide) rfl
theorem s238_23 (h : tg A a = 10) : zX d 238 23 ls (zI x :: zO (some a) :: st) A K = zX d 238 26 ls st (pF A a 4 (zI x)) K := zx_putf (q := 0) z238 zo238 dJ1_addEntryToEmptyMap_23 F12_7 rfl rfl rfl h rfl
theorem s238_26 : zX d 238 26 [zO o, v1, v2] st A K = zX d 238 27 [zO o, v1, v2] (zO o :: st) A K := zx_aload_n z238 dJ1_addEntryToEmptyMap_26 rfl rfl
theorem s238_27 (h : zc v = true) : zX d 238 27 ls (v :: st) A K = zX d 238 28 ls (v :: v :: st) A K := zx_dup z238 dJ1_addEntryToEmptyMap_27 rfl h
theorem s238_28 (h : tg A a = 10) : zX d 238 28 ls (zO (some a) :: st) A K = zX d 238 31 ls (fd A a 5 :: st) A K := zx_getf z238 zo238 dJ1_addEntryToEmptyMap_28 F12_13 rfl h
theorem s238_31 : zX d 238 31 ls st A K = zX d 238 32 ls (zI 1 :: st) A K := zx_const z238 dJ1_addEntryToEmptyMap_31 (by decide) rfl
theorem s238_32 : zX d 238 32 ls (zI y :: zI x :: st) A K = zX d 238 33 ls (zI (zw (x + y)) :: st) A K := zx_iadd z238 dJ1_addEntryToEmptyMap_32 rfl
theorem s238_33 (h : tg A a = 10) : zX d 238 33 ls (zI x :: zO (some a) :: st) A K = zX d 238 36 ls st (pF A a 5 (zI x)) K := zx_putf (q := 0) z238 zo238 dJ1_addEntryToEmptyMap_33 F12_13 rfl rfl rfl h rfl
theorem s238_36 : zX d 238 36 ls [] A K = K (Sum.inl none) A := zx_vret z238 dJ1_addEntryToEmptyMap_36 rfl
theorem s239_0 : zX d 239 0 [zO o, v1, v2] st A K = zX d 239 1 [zO o, v1, v2] (zO o :: st) A K := zx_aload_n z239 dJ1_compare_0 rfl rfl
theorem s239_1 (h : tg A a = 10) : zX d 239 1 ls (zO (some a) :: st) A K = zX d 239 4 ls (fd A a 2 :: st) A K := zx_getf z239 zo239 dJ1_compare_1 F12_16 rfl h
theorem s239_4 : zX d 239 4 ls (zO o :: st) A K = (if o ≠ none then zX d 239 20 ls st A K else zX d 239 7 ls st A K) := zx_ifnonnull z239 dJ1_compare_4 rfl rfl
theorem s239_7 : zX d 239 7 [v0, zO o, v2] st A K = zX d 239 8 [v0, zO o, v2] (zO o :: st) A K := zx_aload_n z239 dJ1_compare_7 rfl rfl
theorem s239_8 (h : ([3, 4, 32] : List Nat).contains (tg A a) = true) : zX d 239 8 ls (zO (some a) :: st) A K = zX d 239 11 ls (zO (some a) :: st) A K := zx_cast z239 zo239 dJ1_compare_8 rfl rfl h
theorem s239_8n : zX d 239 8 ls (zO none :: st) A K = zX d 239 11 ls (zO none :: st) A K := zx_castN z239 zo239 dJ1_compare_8 rfl rfl
theorem s239_11 : zX d 239 11 [v0, v1, zO o] st A K = zX d 239 12 [v0, v1, zO o] (zO o :: st) A K := zx_aload_n z239 dJ1_compare_11 rfl rfl
theorem s239_12_3 (h : tg A a = 3)  : zX (d + 1) 239 12 ls (zO o0 :: zO (some a) :: []) A K = zX d 99 0 [zO (some a), zO o0] [] A (zK (d + 1) 239 12 17 ls [] K) := zx_callF (t := 3) z239 zo239 dJ1_compare_12 rfl C12_107 rfl rfl zm99 rfl rfl (zwt_le (Nat.le_of_ble_eq_true rfl)) rfl h
theorem s239_12_4 (h : tg A a = 4)  : zX (d + 1) 239 12 ls (zO o0 :: zO (some a) :: []) A K = zX d 115 0 [zO (some a), zO o0] [] A (zK (d + 1) 239 12 17 ls [] K) := zx_callF (t := 4) z239 zo239 dJ1_compare_12 rfl C12_107 rfl rfl zm115 rfl rfl (zwt_le (Nat.le_of_ble_eq_true rfl)) rfl h
theorem s239_12_32 (h : tg A a = 32)  : zX (d + 1) 239 12 ls (zO o0 :: zO (some a) :: []) A K = zX d 270 0 [zO (some a), zO o0] [] A (zK (d + 1) 239 12 17 ls [] K) := zx_callF (t := 32) z239 zo239 dJ1_compare_12 rfl C12_107 rfl rfl zm270 rfl rfl (zwt_le (Nat.le_of_ble_eq_true rfl)) rfl h
theorem s239_17 : zX d 239 17 ls st A K = zX d 239 31 ls st A K := zx_goto z239 dJ1_compare_17 rfl
theorem s239_20 : zX d 239 20 [zO o, v1, v2] st A K = zX d 239 21 [zO o, v1, v2] (zO o :: st) A K := zx_aload_n z239 dJ1_compare_20 rfl rfl
theorem s239_21 (h : tg A a = 10) : zX d 239 21 ls (zO (some a) :: st) A K = zX d 239 24 ls (fd A a 2 :: st) A K := zx_getf z239 zo239 dJ1_compare_21 F12_16 rfl h
theorem s239_24 : zX d 239 24 [v0, zO o, v2] st A K = zX d 239 25 [v0, zO o, v2] (zO o :: st) A K := zx_aload_n z239 dJ1_compare_24 rfl rfl
theorem s239_25 : zX d 239 25 [v0, v1, zO o] st A K = zX d 239 26 [v0, v1, zO o] (zO o :: st) A K := zx_aload_n z239 dJ1_compare_25 rfl rfl
theorem s239_26 (h : tg A a = 8)  : zX (d + 1) 239 26 ls (zO o1 :: zO o0 :: zO (some a) :: []) A K = zX d 123 0 [zO (some a), zO o0, zO o1] [] A (zK (d + 1) 239 26 31 ls [] K) := zx_callF (t := 8) z239 zo239 dJ1_compare_26 rfl C12_117 rfl rfl zm123 rfl rfl (zwt_le (Nat.le_of_ble_eq_true rfl)) rfl h
theorem s239_31 : zX d 239 31 ls [zI x] A K = K (Sum.inl (some (zI x))) A := zx_iret z239 dJ1_compare_31 zk239 rfl
theorem s240_0 : zX d 240 0 ls st A K = zX d 240 3 ls (zO (some (nx A)) :: st) (nO A 11) K := zx_new z240 zo240 dJ1_addEntry_0 rfl rfl
theorem s240_3 (h : zc v = true) : zX d 240 3 ls (v :: st) A K = zX d 240 4 ls (v :: v :: st) A K := zx_dup z240 dJ1_addEntry_3 rfl h
theorem s240_4 : zX d 240 4 [v0, zO o, v2, v3, v4, v5] st A K = zX d 240 5 [v0, zO o, v2, v3, v4, v5] (zO o :: st) A K := zx_aload_n z240 dJ1_addEntry_4 rfl rfl
theorem s240_5 : zX d 240 5 [v0, v1, zO o, v3, v4, v5] st A K = zX d 240 6 [v0, v1, zO o, v3, v4, v5] (zO o :: st) A K := zx_aload_n z240 dJ1_addEntry_5 rfl rfl
theorem s240_6 : zX d 240 6 [v0, v1, v2, zO o, v4, v5] st A K = zX d 240 7 [v0, v1, v2, zO o, v4, v5] (zO o :: st) A K := zx_aload_n z240 dJ1_addEntry_6 rfl rfl
theorem s240_7 : zX (d + 1) 240 7 ls (zO o2 :: zO o1 :: zO o0 :: zO (some a) :: [w0]) A K = zX d 280 0 [zO (some a), zO o0, zO o1, zO o2] [] A (zK (d + 1) 240 7 10 ls [w0] K) := zx_callI z240 zo240 dJ1_addEntry_7 rfl C12_167 rfl rfl zm280 rfl rfl (zwt_le (Nat.le_of_ble_eq_true rfl)) rfl
theorem s240_10 : zX d 240 10 [v0, v1, v2, v3, v4, v5] (zO o :: st) A K = zX d 240 12 [v0, v1, v2, v3, v4, zO o] st A K := zx_astore z240 dJ1_addEntry_10 (Nat.le_of_ble_eq_true rfl) rfl rfl
theorem s240_12 : zX d 240 12 [v0, v1, v2, v3, zI x, v5] st A K = zX d 240 14 [v0, v1, v2, v3, zI x, v5] (zI x :: st) A K := zx_iload z240 dJ1_addEntry_12 rfl rfl
theorem s240_14 : zX d 240 14 ls (zI x :: st) A K = (if x = 0 then zX d 240 26 ls st A K else zX d 240 17 ls st A K) := zx_if_eq z240 dJ1_addEntry_14 rfl rfl
theorem s240_17 : zX d 240 17 [v0, v1, v2, zO o, v4, v5] st A K = zX d 240 18 [v0, v1, v2, zO o, v4, v5] (zO o :: st) A K := zx_aload_n z240 dJ1_addEntry_17 rfl rfl
theorem s240_18 : zX d 240 18 [v0, v1, v2, v3, v4, zO o] st A K = zX d 240 20 [v0, v1, v2, v3, v4, zO o] (zO o :: st) A K := zx_aload z240 dJ1_addEntry_18 rfl rfl
theorem s240_20 (h : tg A a = 11) : zX d 240 20 ls (zO o :: zO (some a) :: st) A K = zX d 240 23 ls st (pF A a 2 (zO o)) K := zx_putf (q := 3) z240 zo240 dJ1_addEntry_20 F12_111 rfl rfl rfl h rfl
theorem s240_23 : zX d 240 23 ls st A K = zX d 240 32 ls st A K := zx_goto z240 dJ1_addEntry_23 rfl
theorem s240_26 : zX d 240 26 [v0, v1, v2, zO o, v4, v5] st A K = zX d 240 27 [v0, v1, v2, zO o, v4, v5] (zO o :: st) A K := zx_aload_n z240 dJ1_addEntry_26 rfl rfl
theorem s240_27 : zX d 240 27 [v0, v1, v2, v3, v4, zO o] st A K = zX d 240 29 [v0, v1, v2, v3, v4, zO o] (zO o :: st) A K := zx_aload z240 dJ1_addEntry_27 rfl rfl
theorem s240_29 (h : tg A a = 11) : zX d 240 29 ls (zO o :: zO (some a) :: st) A K = zX d 240 32 ls st (pF A a 3 (zO o)) K := zx_putf (q := 3) z240 zo240 dJ1_addEntry_29 F12_114 rfl rfl rfl h rfl
theorem s240_32 : zX d 240 32 [zO o, v1, v2, v3, v4, v5] st A K = zX d 240 33 [zO o, v1, v2, v3, v4, v5] (zO o :: st) A K := zx_aload_n z240 dJ1_addEntry_32 rfl rfl
theorem s240_33 : zX d 240 33 [v0, v1, v2, v3, v4, zO o] st A K = zX d 240 35 [v0, v1, v2, v3, v4, zO o] (zO o :: st) A K := zx_aload z240 dJ1_addEntry_33 rfl rfl
theorem s240_35 (h : tg A a = 10)  : zX (d + 1) 240 35 ls (zO o0 :: zO (some a) :: []) A K = zX d 241 0 [zO (some a), zO o0, zU] [] A (zK (d + 1) 240 35 38 ls [] K) := zx_callV (t := 10) z240 zo240 dJ1_addEntry_35 rfl C12_170 rfl rfl zm241 rfl rfl (zwt_le (Nat.le_of_ble_eq_true rfl)) rfl h
theorem s240_38 : zX d 240 38 [zO o, v1, v2, v3, v4, v5] st A K = zX d 240 39 [zO o, v1, v2, v3, v4, v5] (zO o :: st) A K := zx_aload_n z240 dJ1_addEntry_38 rfl rfl
theorem s240_39 (h : zc v = true) : zX d 240 39 ls (v :: st) A K = zX d 240 40 ls (v :: v :: st) A K := zx_dup z240 dJ1_addEntry_39 rfl h
theorem s240_40 (h : tg A a = 10) : zX d 240 40 ls (zO (some a) :: st) A K = zX d 240 43 ls (fd A a 4 :: st) A K := zx_getf z240 zo240 dJ1_addEntry_40 F12_7 rfl h
theorem s240_43 : zX d 240 43 ls st A K = zX d 240 44 ls (zI 1 :: st) A K := zx_const z240 dJ1_addEntry_43 (by decide) rfl
theorem s240_44 : zX d 240 44 ls (zI y :: zI x :: st) A K = zX d 240 45 ls (zI (zw (x + y)) :: st) A K := zx_iadd z240 dJ1_addEntry_44 rfl
theorem s240_45 (h : tg A a = 10) : zX d 240 45 ls (zI x :: zO (some a) :: st) A K = zX d 240 48 ls st (pF A a 4 (zI x)) K := zx_putf (q := 0) z240 zo240 dJ1_addEntry_45 F12_7 rfl rfl rfl h rfl
theorem s240_48 : zX d 240 48 [zO o, v1, v2, v3, v4, v5] st A K = zX d 240 49 [zO o, v1, v2, v3, v4, v5] (zO o :: st) A K := zx_aload_n z240 dJ1_addEntry_48 rfl rfl
theorem s240_49 (h : zc v = true) : zX d 240 49 ls (v :: st) A K = zX d 240 50 ls (v :: v :: st) A K := zx_dup z240 dJ1_addEntry_49 rfl h
theorem s240_50 (h : tg A a = 10) : zX d 240 50 ls (zO (some a) :: st) A K = zX d 240 53 ls (fd A a 5 :: st) A K := zx_getf z240 zo240 dJ1_addEntry_50 F12_13 rfl h
theorem s240_53 : zX d 240 53 ls st A K = zX d 240 54 ls (zI 1 :: st) A K := zx_const z240 dJ1_addEntry_53 (by decide) rfl
theorem s240_54 : zX d 240 54 ls (zI y :: zI x :: st) A K = zX d 240 55 ls (zI (zw (x + y)) :: st) A K := zx_iadd z240 dJ1_addEntry_54 rfl
theorem s240_55 (h : tg A a = 10) : zX d 240 55 ls (zI x :: zO (some a) :: st) A K = zX d 240 58 ls st (pF A a 5 (zI x)) K := zx_putf (q := 0) z240 zo240 dJ1_addEntry_55 F12_13 rfl rfl rfl h rfl
theorem s240_58 : zX d 240 58 ls [] A K = K (Sum.inl none) A := zx_vret z240 dJ1_addEntry_58 rfl
theorem s241_0 : zX d 241 0 [v0, zO o, v2] st A K = zX d 241 1 [v0, zO o, v2] (zO o :: st) A K := zx_aload_n z241 dJ1_fixAfterInsertion_0 rfl rfl
theorem s241_1 : zX d 241 1 ls st A K = zX d 241 2 ls (zI 0 :: st) A K := zx_const z241 dJ1_fixAfterInsertion_1 (by decide) rfl
theorem s241_2 (h : tg A a = 11) (h2 : x = 0 ∨ x = 1) : zX d 241 2 ls (zI x :: zO (some a) :: st) A K = zX d 241 5 ls st (pF A a 5 (zI x)) K := zx_putf (q := 1) z241 zo241 dJ1_fixAfterInsertion_2 F12_290 rfl rfl rfl h (by rcases h2 with q | q <;> subst q <;> rfl)
theorem s241_5 : zX d 241 5 [v0, zO o, v2] st A K = zX d 241 6 [v0, zO o, v2] (zO o :: st) A K := zx_aload_n z241 dJ1_fixAfterInsertion_5 rfl rfl
theorem s241_6 : zX d 241 6 ls (zO o :: st) A K = (if o = none then zX d 241 258 ls st A K else zX d 241 9 ls st A K) := zx_ifnull z241 dJ1_fixAfterInsertion_6 rfl rfl
theorem s241_9 : zX d 241 9 [v0, zO o, v2] st A K = zX d 241 10 [v0, zO o, v2] (zO o :: st) A K := zx_aload_n z241 dJ1_fixAfterInsertion_9 rfl rfl
theorem s241_10 : zX d 241 10 [zO o, v1, v2] st A K = zX d 241 11 [zO o, v1, v2] (zO o :: st) A K := zx_aload_n z241 dJ1_fixAfterInsertion_10 rfl rfl
theorem s241_11 (h : tg A a = 10) : zX d 241 11 ls (zO (some a) :: st) A K = zX d 241 14 ls (fd A a 3 :: st) A K := zx_getf z241 zo241 dJ1_fixAfterInsertion_11 F12_101 rfl h
theorem s241_14 (h : o = o2 ∨ (zfr o = true ∧ zfr o2 = true)) : zX d 241 14 ls (zO o2 :: zO o :: st) A K = (if o = o2 then zX d 241 258 ls st A K else zX d 241 17 ls st A K) := zx_ac_eq z241 dJ1_fixAfterInsertion_14 rfl rfl h
theorem s241_17 : zX d 241 17 [v0, zO o, v2] st A K = zX d 241 18 [v0, zO o, v2] (zO o :: st) A K := zx_aload_n z241 dJ1_fixAfterInsertion_17 rfl rfl
theorem s241_18 (h : tg A a = 11) : zX d 241 18 ls (zO (some a) :: st) A K = zX d 241 21 ls (fd A a 4 :: st) A K := zx_getf z241 zo241 dJ1_fixAfterInsertion_18 F12_124 rfl h
theorem s241_21 (h : tg A a = 11) : zX d 241 21 ls (zO (some a) :: st) A K = zX d 241 24 ls (fd A a 5 :: st) A K := zx_getf z241 zo241 dJ1_fixAfterInsertion_21 F12_290 rfl h
theorem s241_24 : zX d 241 24 ls (zI x :: st) A K = (if x ≠ 0 then zX d 241 258 ls st A K else zX d 241 27 ls st A K) := zx_if_ne z241 dJ1_fixAfterInsertion_24 rfl rfl
theorem s241_27 : zX d 241 27 [v0, zO o, v2] st A K = zX d 241 28 [v0, zO o, v2] (zO o :: st) A K := zx_aload_n z241 dJ1_fixAfterInsertion_27 rfl rfl
theorem s241_28 : zX (d + 1) 241 28 ls (zO o0 :: []) A K = zX d 242 0 [zO o0] [] A (zK (d + 1) 241 28 31 ls [] K) := zx_callS z241 zo241 dJ1_fixAfterInsertion_28 rfl C12_294 rfl rfl zm242 rfl rfl (zwt_le (Nat.le_of_ble_eq_true rfl)) rfl
theorem s241_31 : zX d 241 31 [v0, zO o, v2] st A K = zX d 241 32 [v0, zO o, v2] (zO o :: st) A K := zx_aload_n z241 dJ1_fixAfterInsertion_31 rfl rfl
theorem s241_32 : zX (d + 1) 241 32 ls (zO o0 :: [w0]) A K = zX d 242 0 [zO o0] [] A (zK (d + 1) 241 32 35 ls [w0] K) := zx_callS z241 zo241 dJ1_fixAfterInsertion_32 rfl C12_294 rfl rfl zm242 rfl rfl (zwt_le (Nat.le_of_ble_eq_true rfl)) rfl
theorem s241_35 : zX (d + 1) 241 35 ls (zO o0 :: [w0]) A K = zX d 242 0 [zO o0] [] A (zK (d + 1) 241 35 38 ls [w0] K) := zx_callS z241 zo241 dJ1_fixAfterInsertion_35 rfl C12_294 rfl rfl zm242 rfl rfl (zwt_le (Nat.le_of_ble_eq_true rfl)) rfl
theorem s241_38 : zX (d + 1) 241 38 ls (zO o0 :: [w0]) A K = zX d 243 0 [zO o0] [] A (zK (d + 1) 241 38 41 ls [w0] K) := zx_callS z241 zo241 dJ1_fixAfterInsertion_38 rfl C12_297 rfl rfl zm243 rfl rfl (zwt_le (Nat.le_of_ble_eq_true rfl)) rfl
theorem s241_41 (h : o = o2 ∨ (zfr o = true ∧ zfr o2 = true)) : zX d 241 41 ls (zO o2 :: zO o :: st) A K = (if o ≠ o2 then zX d 241 151 ls st A K else zX d 241 44 ls st A K) := zx_ac_ne z241 dJ1_fixAfterInsertion_41 rfl rfl h
theorem s241_44 : zX d 241 44 [v0, zO o, v2] st A K = zX d 241 45 [v0, zO o, v2] (zO o :: st) A K := zx_aload_n z241 dJ1_fixAfterInsertion_44 rfl rfl
theorem s241_45 : zX (d + 1) 241 45 ls (zO o0 :: []) A K = zX d 242 0 [zO o0] [] A (zK (d + 1) 241 45 48 ls [] K) := zx_callS z241 zo241 dJ1_fixAfterInsertion_45 rfl C12_294 rfl rfl zm242 rfl rfl (zwt_le (Nat.le_of_ble_eq_true rfl)) rfl
theorem s241_48 : zX (d + 1) 241 48 ls (zO o0 :: []) A K = zX d 242 0 [zO o0] [] A (zK (d + 1) 241 48 51 ls [] K) := zx_callS z241 zo241 dJ1_fixAfterInsertion_48 rfl C12_294 rfl rfl zm242 rfl rfl (zwt_le (Nat.le_of_ble_eq_true rfl)) rfl
theorem s241_51 : zX (d + 1) 241 51 ls (zO o0 :: []) A K = zX d 244 0 [zO o0] [] A (zK (d + 1) 241 51 54 ls [] K) := zx_callS z241 zo241 dJ1_fixAfterInsertion_51 rfl C12_300 rfl rfl zm244 rfl rfl (zwt_le (Nat.le_of_ble_eq_true rfl)) rfl
theorem s241_54 : zX d 241 54 [v0, v1, v2] (zO o :: st) A K = zX d 241 55 [v0, v1, zO o] st A K := zx_astore_n z241 dJ1_fixAfterInsertion_54 (Nat.le_of_ble_eq_true rfl) rfl rfl
theorem s241_55 : zX d 241 55 [v0, v1, zO o] st A K = zX d 241 56 [v0, v1, zO o] (zO o :: st) A K := zx_aload_n z241 dJ1_fixAfterInsertion_55 rfl rfl
theorem s241_56 : zX (d + 1) 241 56 ls (zO o0 :: []) A K = zX d 245 0 [zO o0] [] A (zK (d + 1) 241 56 59 ls [] K) := zx_callS z241 zo241 dJ1_fixAfterInsertion_56 rfl C12_303 rfl rfl zm245 rfl rfl (zwt_le (Nat.le_of_ble_eq_true rfl)) rfl
theorem s241_59 : zX d 241 59 ls (zI x :: st) A K = (if x ≠ 0 then zX d 241 97 ls st A K else zX d 241 62 ls st A K) := zx_if_ne z241 dJ1_fixAfterInsertion_59 rfl rfl
theorem s241_62 : zX d 241 62 [v0, zO o, v2] st A K = zX d 241 63 [v0, zO o, v2] (zO o :: st) A K := zx_aload_n z241 dJ1_fixAfterInsertion_62 rfl rfl
theorem s241_63 : zX (d + 1) 241 63 ls (zO o0 :: []) A K = zX d 242 0 [zO o0] [] A (zK (d + 1) 241 63 66 ls [] K) := zx_callS z241 zo241 dJ1_fixAfterInsertion_63 rfl C12_294 rfl rfl zm242 rfl rfl (zwt_le (Nat.le_of_ble_eq_true rfl)) rfl
theorem s241_66 : zX d 241 66 ls st A K = zX d 241 67 ls (zI 1 :: st) A K := zx_const z241 dJ1_fixAfterInsertion_66 (by decide) rfl
theorem s241_67 : zX (d + 1) 241 67 ls (zI i1 :: zO o0 :: []) A K = zX d 246 0 [zO o0, zI i1] [] A (zK (d + 1) 241 67 70 ls [] K) := zx_callS z241 zo241 dJ1_fixAfterInsertion_67 rfl C12_307 rfl rfl zm246 rfl rfl (zwt_le (Nat.le_of_ble_eq_true rfl)) rfl
theorem s241_70 : zX d 241 70 [v0, v1, zO o] st A K = zX d 241 71 [v0, v1, zO o] (zO o :: st) A K := zx_aload_n z241 dJ1_fixAfterInsertion_70 rfl rfl
theorem s241_71 : zX d 241 71 ls st A K = zX d 241 72 ls (zI 1 :: st) A K := zx_const z241 dJ1_fixAfterInsertion_71 (by decide) rfl
theorem s241_72 : zX (d + 1) 241 72 ls (zI i1 :: zO o0 :: []) A K = zX d 246 0 [zO o0, zI i1] [] A (zK (d + 1) 241 72 75 ls [] K) := zx_callS z241 zo241 dJ1_fixAfterInsertion_72 rfl C12_307 rfl rfl zm246 rfl rfl (zwt_le (Nat.le_of_ble_eq_true rfl)) rfl
theorem s241_75 : zX d 241 75 [v0, zO o, v2] st A K = zX d 241 76 [v0, zO o, v2] (zO o :: st) A K := zx_aload_n z241 dJ1_fixAfterInsertion_75 rfl rfl
theorem s241_76 : zX (d + 1) 241 76 ls (zO o0 :: []) A K = zX d 242 0 [zO o0] [] A (zK (d + 1) 241 76 79 ls [] K) := zx_callS z241 zo241 dJ1_fixAfterInsertion_76 rfl C12_294 rfl rfl zm242 rfl rfl (zwt_le (Nat.le_of_ble_eq_true rfl)) rfl
theorem s241_79 : zX (d + 1) 241 79 ls (zO o0 :: []) A K = zX d 242 0 [zO o0] [] A (zK (d + 1) 241 79 82 ls [] K) := zx_callS z241 zo241 dJ1_fixAfterInsertion_79 rfl C12_294 rfl rfl zm242 rfl rfl (zwt_le (Nat.le_of_ble_eq_true rfl)) rfl
theorem s241_82 : zX d 241 82 ls st A K = zX d 241 83 ls (zI 0 :: st) A K := zx_const z241 dJ1_fixAfterInsertion_82 (by decide) rfl
theorem s241_83 : zX (d + 1) 241 83 ls (zI i1 :: zO o0 :: []) A K = zX d 246 0 [zO o0, zI i1] [] A (zK (d + 1) 241 83 86 ls [] K) := zx_callS z241 zo241 dJ1_fixAfterInsertion_83 rfl C12_307 rfl rfl zm246 rfl rfl (zwt_le (Nat.le_of_ble_eq_true rfl)) rfl
theorem s241_86 : zX d 241 86 [v0, zO o, v2] st A K = zX d 241 87 [v0, zO o, v2] (zO o :: st) A K := zx_aload_n z241 dJ1_fixAfterInsertion_86 rfl rfl
theorem s241_87 : zX (d + 1) 241 87 ls (zO o0 :: []) A K = zX d 242 0 [zO o0] [] A (zK (d + 1) 241 87 90 ls [] K) := zx_callS z241 zo241 dJ1_fixAfterInsertion_87 rfl C12_294 rfl rfl zm242 rfl rfl (zwt_le (Nat.le_of_ble_eq_true rfl)) rfl
theorem s241_90 : zX (d + 1) 241 90 ls (zO o0 :: []) A K = zX d 242 0 [zO o0] [] A (zK (d + 1) 241 90 93 ls [] K) := zx_callS z241 zo241 dJ1_fixAfterInsertion_90 rfl C12_294 rfl rfl zm242 rfl rfl (zwt_le (Nat.le_of_ble_eq_true rfl)) rfl
theorem s241_93 : zX d 241 93 [v0, v1, v2] (zO o :: st) A K = zX d 241 94 [v0, zO o, v2] st A K := zx_astore_n z241 dJ1_fixAfterInsertion_93 (Nat.le_of_ble_eq_true rfl) rfl rfl
theorem s241_94 : zX d 241 94 ls st A K = zX d 241 148 ls st A K := zx_goto z241 dJ1_fixAfterInsertion_94 rfl
theorem s241_97 : zX d 241 97 [v0, zO o, v2] st A K = zX d 241 98 [v0, zO o, v2] (zO o :: st) A K := zx_aload_n z241 dJ1_fixAfterInsertion_97 rfl rfl
theorem s241_98 : zX d 241 98 [v0, zO o, v2] st A K = zX d 241 99 [v0, zO o, v2] (zO o :: st) A K := zx_aload_n z241 dJ1_fixAfterInsertion_98 rfl rfl
theorem s241_99 : zX (d + 1) 241 99 ls (zO o0 :: [w0]) A K = zX d 242 0 [zO o0] [] A (zK (d + 1) 241 99 102 ls [w0] K) := zx_callS z241 zo241 dJ1_fixAfterInsertion_99 rfl C12_294 rfl rfl zm242 rfl rfl (zwt_le (Nat.le_of_ble_eq_true rfl)) rfl
theorem s241_102 : zX (d + 1) 241 102 ls (zO o0 :: [w0]) A K = zX d 244 0 [zO o0] [] A (zK (d + 1) 241 102 105 ls [w0] K) := zx_callS z241 zo241 dJ1_fixAfterInsertion_102 rfl C12_300 rfl rfl zm244 rfl rfl (zwt_le (Nat.le_of_ble_eq_true rfl)) rfl
theorem s241_105 (h : o = o2 ∨ (zfr o = true ∧ zfr o2 = true)) : zX d 241 105 ls (zO o2 :: zO o :: st) A K = (if o ≠ o2 then zX d 241 118 ls st A K else zX d 241 108 ls st A K) := zx_ac_ne z241 dJ1_fixAfterInsertion_105 rfl rfl h
theorem s241_108 : zX d 241 108 [v0, zO o, v2] st A K = zX d 241 109 [v0, zO o, v2] (zO o :: st) A K := zx_aload_n z241 dJ1_fixAfterInsertion_108 rfl rfl
theorem s241_109 : zX (d + 1) 241 109 ls (zO o0 :: []) A K = zX d 242 0 [zO o0] [] A (zK (d + 1) 241 109 112 ls [] K) := zx_callS z241 zo241 dJ1_fixAfterInsertion_109 rfl C12_294 rfl rfl zm242 rfl rfl (zwt_le (Nat.le_of_ble_eq_true rfl)) rfl
theorem s241_112 : zX d 241 112 [v0, v1, v2] (zO o :: st) A K = zX d 241 113 [v0, zO o, v2] st A K := zx_astore_n z241 dJ1_fixAfterInsertion_112 (Nat.le_of_ble_eq_true rfl) rfl rfl
theorem s241_113 : zX d 241 113 [zO o, v1, v2] st A K = zX d 241 114 [zO o, v1, v2] (zO o :: st) A K := zx_aload_n z241 dJ1_fixAfterInsertion_113 rfl rfl
theorem s241_114 : zX d 241 114 [v0, zO o, v2] st A K = zX d 241 115 [v0, zO o, v2] (zO o :: st) A K := zx_aload_n z241 dJ1_fixAfterInsertion_114 rfl rfl
theorem s241_115 (h : tg A a = 10)  : zX (d + 1) 241 115 ls (zO o0 :: zO (some a) :: []) A K = zX d 247 0 [zO (some a), zO o0, zU] [] A (zK (d + 1) 241 115 118 ls [] K) := zx_callV (t := 10) z241 zo241 dJ1_fixAfterInsertion_115 rfl C12_311 rfl rfl zm247 rfl rfl (zwt_le (Nat.le_of_ble_eq_true rfl)) rfl h
theorem s241_118 : zX d 241 118 [v0, zO o, v2] st A K = zX d 241 119 [v0, zO o, v2] (zO o :: st) A K := zx_aload_n z241 dJ1_fixAfterInsertion_118 rfl rfl
theorem s241_119 : zX (d + 1) 241 119 ls (zO o0 :: []) A K = zX d 242 0 [zO o0] [] A (zK (d + 1) 241 119 122 ls [] K) := zx_callS z241 zo241 dJ1_fixAfterInsertion_119 rfl C12_294 rfl rfl zm242 rfl rfl (zwt_le (Nat.le_of_ble_eq_true rfl)) rfl
theorem s241_122 : zX d 241 122 ls st A K = zX d 241 123 ls (zI 1 :: st) A K := zx_const z241 dJ1_fixAfterInsertion_122 (by decide) rfl
theorem s241_123 : zX (d + 1) 241 123 ls (zI i1 :: zO o0 :: []) A K = zX d 246 0 [zO o0, zI i1] [] A (zK (d + 1) 241 123 126 ls [] K) := zx_callS z241 zo241 dJ1_fixAfterInsertion_123 rfl C12_307 rfl rfl zm246 rfl rfl (zwt_le (Nat.le_of_ble_eq_true rfl)) rfl
theorem s241_126 : zX d 241 126 [v0, zO o, v2] st A K = zX d 241 127 [v0, zO o, v2] (zO o :: st) A K := zx_aload_n z241 dJ1_fixAfterInsertion_126 rfl rfl
theorem s241_127 : zX (d + 1) 241 127 ls (zO o0 :: []) A K = zX d 242 0 [zO o0] [] A (zK (d + 1) 241 127 130 ls [] K) := zx_callS z241 zo241 dJ1_fixAfterInsertion_127 rfl C12_294 rfl rfl zm242 rfl rfl (zwt_le (Nat.le_of_ble_eq_true rfl)) rfl
theorem s241_130 : zX (d + 1) 241 130 ls (zO o0 :: []) A K = zX d 242 0 [zO o0] [] A (zK (d + 1) 241 130 133 ls [] K) := zx_callS z241 zo241 dJ1_fixAfterInsertion_130 rfl C12_294 rfl rfl zm242 rfl rfl (zwt_le (Nat.le_of_ble_eq_true rfl)) rfl
theorem s241_133 : zX d 241 133 ls st A K = zX d 241 134 ls (zI 0 :: st) A K := zx_const z241 dJ1_fixAfterInsertion_133 (by decide) rfl
theorem s241_134 : zX (d + 1) 241 134 ls (zI i1 :: zO o0 :: []) A K = zX d 246 0 [zO o0, zI i1] [] A (zK (d + 1) 241 134 137 ls [] K) := zx_callS z241 zo241 dJ1_fixAfterInsertion_134 rfl C12_307 rfl rfl zm246 rfl rfl (zwt_le (Nat.le_of_ble_eq_true rfl)) rfl
theorem s241_137 : zX d 241 137 [zO o, v1, v2] st A K = zX d 241 138 [zO o, v1, v2] (zO o :: st) A K := zx_aload_n z241 dJ1_fixAfterInsertion_137 rfl rfl
theorem s241_138 : zX d 241 138 [v0, zO o, v2] st A K = zX d 241 139 [v0, zO o, v2] (zO o :: st) A K := zx_aload_n z241 dJ1_fixAfterInsertion_138 rfl rfl
theorem s241_139 : zX (d + 1) 241 139 ls (zO o0 :: [w0]) A K = zX d 242 0 [zO o0] [] A (zK (d + 1) 241 139 142 ls [w0] K) := zx_callS z241 zo241 dJ1_fixAfterInsertion_139 rfl C12_294 rfl rfl zm242 rfl rfl (zwt_le (Nat.le_of_ble_eq_true rfl)) rfl
theorem s241_142 : zX (d + 1) 241 142 ls (zO o0 :: [w0]) A K = zX d 242 0 [zO o0] [] A (zK (d + 1) 241 142 145 ls [w0] K) := zx_callS z241 zo241 dJ1_fixAfterInsertion_142 rfl C12_294 rfl rfl zm242 rfl rfl (zwt_le (Nat.le_of_ble_eq_true rfl)) rfl
theorem s241_145 (h : tg A a = 10)  : zX (d + 1) 241 145 ls (zO o0 :: zO (some a) :: []) A K = zX d 248 0 [zO (some a), zO o0, zU] [] A (zK (d + 1) 241 145 148 ls [] K) := zx_callV (t := 10) z241 zo241 dJ1_fixAfterInsertion_145 rfl C12_314 rfl rfl zm248 rfl rfl (zwt_le (Nat.le_of_ble_eq_true rfl)) rfl h
theorem s241_148 : zX d 241 148 ls st A K = zX d 241 5 ls st A K := zx_goto z241 dJ1_fixAfterInsertion_148 rfl
theorem s241_151 : zX d 241 151 [v0, zO o, v2] st A K = zX d 241 152 [v0, zO o, v2] (zO o :: st) A K := zx_aload_n z241 dJ1_fixAfterInsertion_151 rfl rfl
theorem s241_152 : zX (d + 1) 241 152 ls (zO o0 :: []) A K = zX d 242 0 [zO o0] [] A (zK (d + 1) 241 152 155 ls [] K) := zx_callS z241 zo241 dJ1_fixAfterInsertion_152 rfl C12_294 rfl rfl zm242 rfl rfl (zwt_le (Nat.le_of_ble_eq_true rfl)) rfl
theorem s241_155 : zX (d + 1) 241 155 ls (zO o0 :: []) A K = zX d 242 0 [zO o0] [] A (zK (d + 1) 241 155 158 ls [] K) := zx_callS z241 zo241 dJ1_fixAfterInsertion_155 rfl C12_294 rfl rfl zm242 rfl rfl (zwt_le (Nat.le_of_ble_eq_true rfl)) rfl
theorem s241_158 : zX (d + 1) 241 158 ls (zO o0 :: []) A K = zX d 243 0 [zO o0] [] A (zK (d + 1) 241 158 161 ls [] K) := zx_callS z241 zo241 dJ1_fixAfterInsertion_158 rfl C12_297 rfl rfl zm243 rfl rfl (zwt_le (Nat.le_of_ble_eq_true rfl)) rfl
theorem s241_161 : zX d 241 161 [v0, v1, v2] (zO o :: st) A K = zX d 241 162 [v0, v1, zO o] st A K := zx_astore_n z241 dJ1_fixAfterInsertion_161 (Nat.le_of_ble_eq_true rfl) rfl rfl
theorem s241_162 : zX d 241 162 [v0, v1, zO o] st A K = zX d 241 163 [v0, v1, zO o] (zO o :: st) A K := zx_aload_n z241 dJ1_fixAfterInsertion_162 rfl rfl
theorem s241_163 : zX (d + 1) 241 163 ls (zO o0 :: []) A K = zX d 245 0 [zO o0] [] A (zK (d + 1) 241 163 166 ls [] K) := zx_callS z241 zo241 dJ1_fixAfterInsertion_163 rfl C12_303 rfl rfl zm245 rfl rfl (zwt_le (Nat.le_of_ble_eq_true rfl)) rfl
theorem s241_166 : zX d 241 166 ls (zI x :: st) A K = (if x ≠ 0 then zX d 241 204 ls st A K else zX d 241 169 ls st A K) := zx_if_ne z241 dJ1_fixAfterInsertion_166 rfl rfl
theorem s241_169 : zX d 241 169 [v0, zO o, v2] st A K = zX d 241 170 [v0, zO o, v2] (zO o :: st) A K := zx_aload_n z241 dJ1_fixAfterInsertion_169 rfl rfl
theorem s241_170 : zX (d + 1) 241 170 ls (zO o0 :: []) A K = zX d 242 0 [zO o0] [] A (zK (d + 1) 241 170 173 ls [] K) := zx_callS z241 zo241 dJ1_fixAfterInsertion_170 rfl C12_294 rfl rfl zm242 rfl rfl (zwt_le (Nat.le_of_ble_eq_true rfl)) rfl
theorem s241_173 : zX d 241 173 ls st A K = zX d 241 174 ls (zI 1 :: st) A K := zx_const z241 dJ1_fixAfterInsertion_173 (by decide) rfl
theorem s241_174 : zX (d + 1) 241 174 ls (zI i1 :: zO o0 :: []) A K = zX d 246 0 [zO o0, zI i1] [] A (zK (d + 1) 241 174 177 ls [] K) := zx_callS z241 zo241 dJ1_fixAfterInsertion_174 rfl C12_307 rfl rfl zm246 rfl rfl (zwt_le (Nat.le_of_ble_eq_true rfl)) rfl
theorem s241_177 : zX d 241 177 [v0, v1, zO o] st A K = zX d 241 178 [v0, v1, zO o] (zO o :: st) A K := zx_aload_n z241 dJ1_fixAfterInsertion_177 rfl rfl
theorem s241_178 : zX d 241 178 ls st A K = zX d 241 179 ls (zI 1 :: st) A K := zx_const z241 dJ1_fixAfterInsertion_178 (by decide) rfl
theorem s241_179 : zX (d + 1) 241 179 ls (zI i1 :: zO o0 :: []) A K = zX d 246 0 [zO o0, zI i1] [] A (zK (d + 1) 241 179 182 ls [] K) := zx_callS z241 zo241 dJ1_fixAfterInsertion_179 rfl C12_307 rfl rfl zm246 rfl rfl (zwt_le (Nat.le_of_ble_eq_true rfl)) rfl
theorem s241_182 : zX d 241 182 [v0, zO o, v2] st A K = zX d 241 183 [v0, zO o, v2] (zO o :: st) A K := zx_aload_n z241 dJ1_fixAfterInsertion_182 rfl rfl
theorem s241_183 : zX (d + 1) 241 183 ls (zO o0 :: []) A K = zX d 242 0 [zO o0] [] A (zK (d + 1) 241 183 186 ls [] K) := zx_callS z241 zo241 dJ1_fixAfterInsertion_183 rfl C12_294 rfl rfl zm242 rfl rfl (zwt_le (Nat.le_of_ble_eq_true rfl)) rfl
theorem s241_186 : zX (d + 1) 241 186 ls (zO o0 :: []) A K = zX d 242 0 [zO o0] [] A (zK (d + 1) 241 186 189 ls [] K) := zx_callS z241 zo241 dJ1_fixAfterInsertion_186 rfl C12_294 rfl rfl zm242 rfl rfl (zwt_le (Nat.le_of_ble_eq_true rfl)) rfl
theorem s241_189 : zX d 241 189 ls st A K = zX d 241 190 ls (zI 0 :: st) A K := zx_const z241 dJ1_fixAfterInsertion_189 (by decide) rfl
theorem s241_190 : zX (d + 1) 241 190 ls (zI i1 :: zO o0 :: []) A K = zX d 246 0 [zO o0, zI i1] [] A (zK (d + 1) 241 190 193 ls [] K) := zx_callS z241 zo241 dJ1_fixAfterInsertion_190 rfl C12_307 rfl rfl zm246 rfl rfl (zwt_le (Nat.le_of_ble_eq_true rfl)) rfl
theorem s241_193 : zX d 241 193 [v0, zO o, v2] st A K = zX d 241 194 [v0, zO o, v2] (zO o :: st) A K := zx_aload_n z241 dJ1_fixAfterInsertion_193 rfl rfl
theorem s241_194 : zX (d + 1) 241 194 ls (zO o0 :: []) A K = zX d 242 0 [zO o0] [] A (zK (d + 1) 241 194 197 ls [] K) := zx_callS z241 zo241 dJ1_fixAfterInsertion_194 rfl C12_294 rfl rfl zm242 rfl rfl (zwt_le (Nat.le_of_ble_eq_true rfl)) rfl
theorem s241_197 : zX (d + 1) 241 197 ls (zO o0 :: []) A K = zX d 242 0 [zO o0] [] A (zK (d + 1) 241 197 200 ls [] K) := zx_callS z241 zo241 dJ1_fixAfterInsertion_197 rfl C12_294 rfl rfl zm242 rfl rfl (zwt_le (Nat.le_of_ble_eq_true rfl)) rfl
theorem s241_200 : zX d 241 200 [v0, v1, v2] (zO o :: st) A K = zX d 241 201 [v0, zO o, v2] st A K := zx_astore_n z241 dJ1_fixAfterInsertion_200 (Nat.le_of_ble_eq_true rfl) rfl rfl
theorem s241_201 : zX d 241 201 ls st A K = zX d 241 255 ls st A K := zx_goto z241 dJ1_fixAfterInsertion_201 rfl
theorem s241_204 : zX d 241 204 [v0, zO o, v2] st A K = zX d 241 205 [v0, zO o, v2] (zO o :: st) A K := zx_aload_n z241 dJ1_fixAfterInsertion_204 rfl rfl
theorem s241_205 : zX d 241 205 [v0, zO o, v2] st A K = zX d 241 206 [v0, zO o, v2] (zO o :: st) A K := zx_aload_n z241 dJ1_fixAfterInsertion_205 rfl rfl
theorem s241_206 : zX (d + 1) 241 206 ls (zO o0 :: [w0]) A K = zX d 242 0 [zO o0] [] A (zK (d + 1) 241 206 209 ls [w0] K) := zx_callS z241 zo241 dJ1_fixAfterInsertion_206 rfl C12_294 rfl rfl zm242 rfl rfl (zwt_le (Nat.le_of_ble_eq_true rfl)) rfl
theorem s241_209 : zX (d + 1) 241 209 ls (zO o0 :: [w0]) A K = zX d 243 0 [zO o0] [] A (zK (d + 1) 241 209 212 ls [w0] K) := zx_callS z241 zo241 dJ1_fixAfterInsertion_209 rfl C12_297 rfl rfl zm243 rfl rfl (zwt_le (Nat.le_of_ble_eq_true rfl)) rfl
theorem s241_212 (h : o = o2 ∨ (zfr o = true ∧ zfr o2 = true)) : zX d 241 212 ls (zO o2 :: zO o :: st) A K = (if o ≠ o2 then zX d 241 225 ls st A K else zX d 241 215 ls st A K) := zx_ac_ne z241 dJ1_fixAfterInsertion_212 rfl rfl h
theorem s241_215 : zX d 241 215 [v0, zO o, v2] st A K = zX d 241 216 [v0, zO o, v2] (zO o :: st) A K := zx_aload_n z241 dJ1_fixAfterInsertion_215 rfl rfl
theorem s241_216 : zX (d + 1) 241 216 ls (zO o0 :: []) A K = zX d 242 0 [zO o0] [] A (zK (d + 1) 241 216 219 ls [] K) := zx_callS z241 zo241 dJ1_fixAfterInsertion_216 rfl C12_294 rfl rfl zm242 rfl rfl (zwt_le (Nat.le_of_ble_eq_true rfl)) rfl
theorem s241_219 : zX d 241 219 [v0, v1, v2] (zO o :: st) A K = zX d 241 220 [v0, zO o, v2] st A K := zx_astore_n z241 dJ1_fixAfterInsertion_219 (Nat.le_of_ble_eq_true rfl) rfl rfl
theorem s241_220 : zX d 241 220 [zO o, v1, v2] st A K = zX d 241 221 [zO o, v1, v2] (zO o :: st) A K := zx_aload_n z241 dJ1_fixAfterInsertion_220 rfl rfl
theorem s241_221 : zX d 241 221 [v0, zO o, v2] st A K = zX d 241 222 [v0, zO o, v2] (zO o :: st) A K := zx_aload_n z241 dJ1_fixAfterInsertion_221 rfl rfl
theorem s241_222 (h : tg A a = 10)  : zX (d + 1) 241 222 ls (zO o0 :: zO (some a) :: []) A K = zX d 248 0 [zO (some a), zO o0, zU] [] A (zK (d + 1) 241 222 225 ls [] K) := zx_callV (t := 10) z241 zo241 dJ1_fixAfterInsertion_222 rfl C12_314 rfl rfl zm248 rfl rfl (zwt_le (Nat.le_of_ble_eq_true rfl)) rfl h
theorem s241_225 : zX d 241 225 [v0, zO o, v2] st A K = zX d 241 226 [v0, zO o, v2] (zO o :: st) A K := zx_aload_n z241 dJ1_fixAfterInsertion_225 rfl rfl
theorem s241_226 : zX (d + 1) 241 226 ls (zO o0 :: []) A K = zX d 242 0 [zO o0] [] A (zK (d + 1) 241 226 229 ls [] K) := zx_callS z241 zo241 dJ1_fixAfterInsertion_226 rfl C12_294 rfl rfl zm242 rfl rfl (zwt_le (Nat.le_of_ble_eq_true rfl)) rfl
theorem s241_229 : zX d 241 229 ls st A K = zX d 241 230 ls (zI 1 :: st) A K := zx_const z241 dJ1_fixAfterInsertion_229 (by decide) rfl
theorem s241_230 : zX (d + 1) 241 230 ls (zI i1 :: zO o0 :: []) A K = zX d 246 0 [zO o0, zI i1] [] A (zK (d + 1) 241 230 233 ls [] K) := zx_callS z241 zo241 dJ1_fixAfterInsertion_230 rfl C12_307 rfl rfl zm246 rfl rfl (zwt_le (Nat.le_of_ble_eq_true rfl)) rfl
theorem s241_233 : zX d 241 233 [v0, zO o, v2] st A K = zX d 241 234 [v0, zO o, v2] (zO o :: st) A K := zx_aload_n z241 dJ1_fixAfterInsertion_233 rfl rfl
theorem s241_234 : zX (d + 1) 241 234 ls (zO o0 :: []) A K = zX d 242 0 [zO o0] [] A (zK (d + 1) 241 234 237 ls [] K) := zx_callS z241 zo241 dJ1_fixAfterInsertion_234 rfl C12_294 rfl rfl zm242 rfl rfl (zwt_le (Nat.le_of_ble_eq_true rfl)) rfl
theorem s241_237 : zX (d + 1) 241 237 ls (zO o0 :: []) A K = zX d 242 0 [zO o0] [] A (zK (d + 1) 241 237 240 ls [] K) := zx_callS z241 zo241 dJ1_fixAfterInsertion_237 rfl C12_294 rfl rfl zm242 rfl rfl (zwt_le (Nat.le_of_ble_eq_true rfl)) rfl
theorem s241_240 : zX d 241 240 ls st A K = zX d 241 241 ls (zI 0 :: st) A K := zx_const z241 dJ1_fixAfterInsertion_240 (by decide) rfl
theorem s241_241 : zX (d + 1) 241 241 ls (zI i1 :: zO o0 :: []) A K = zX d 246 0 [zO o0, zI i1] [] A (zK (d + 1) 241 241 244 ls [] K) := zx_callS z241 zo241 dJ1_fixAfterInsertion_241 rfl C12_307 rfl rfl zm246 rfl rfl (zwt_le (Nat.le_of_ble_eq_true rfl)) rfl
theorem s241_244 : zX d 241 244 [zO o, v1, v2] st A K = zX d 241 245 [zO o, v1, v2] (zO o :: st) A K := zx_aload_n z241 dJ1_fixAfterInsertion_244 rfl rfl
theorem s241_245 : zX d 241 245 [v0, zO o, v2] st A K = zX d 241 246 [v0, zO o, v2] (zO o :: st) A K := zx_aload_n z241 dJ1_fixAfterInsertion_245 rfl rfl
theorem s241_246 : zX (d + 1) 241 246 ls (zO o0 :: [w0]) A K = zX d 242 0 [zO o0] [] A (zK (d + 1) 241 246 249 ls [w0] K) := zx_callS z241 zo241 dJ1_fixAfterInsertion_246 rfl C12_294 rfl rfl zm242 rfl rfl (zwt_le (Nat.le_of_ble_eq_true rfl)) rfl
theorem s241_249 : zX (d + 1) 241 249 ls (zO o0 :: [w0]) A K = zX d 242 0 [zO o0] [] A (zK (d + 1) 241 249 252 ls [w0] K) := zx_callS z241 zo241 dJ1_fixAfterInsertion_249 rfl C12_294 rfl rfl zm242 rfl rfl (zwt_le (Nat.le_of_ble_eq_true rfl)) rfl
theorem s241_252 (h : tg A a = 10)  : zX (d + 1) 241 252 ls (zO o0 :: zO (some a) :: []) A K = zX d 247 0 [zO (some a), zO o0, zU] [] A (zK (d + 1) 241 252 255 ls [] K) := zx_callV (t := 10) z241 zo241 dJ1_fixAfterInsertion_252 rfl C12_311 rfl rfl zm247 rfl rfl (zwt_le (Nat.le_of_ble_eq_true rfl)) rfl h
theorem s241_255 : zX d 241 255 ls st A K = zX d 241 5 ls st A K := zx_goto z241 dJ1_fixAfterInsertion_255 rfl
theorem s241_258 : zX d 241 258 [zO o, v1, v2] st A K = zX d 241 259 [zO o, v1, v2] (zO o :: st) A K := zx_aload_n z241 dJ1_fixAfterInsertion_258 rfl rfl
theorem s241_259 (h : tg A a = 10) : zX d 241 259 ls (zO (some a) :: st) A K = zX d 241 262 ls (fd A a 3 :: st) A K := zx_getf z241 zo241 dJ1_fixAfterInsertion_259 F12_101 rfl h
theorem s241_262 : zX d 241 262 ls st A K = zX d 241 263 ls (zI 1 :: st) A K := zx_const z241 dJ1_fixAfterInsertion_262 (by decide) rfl
theorem s241_263 (h : tg A a = 11) (h2 : x = 0 ∨ x = 1) : zX d 241 263 ls (zI x :: zO (some a) :: st) A K = zX d 241 266 ls st (pF A a 5 (zI x)) K := zx_putf (q := 1) z241 zo241 dJ1_fixAfterInsertion_263 F12_290 rfl rfl rfl h (by rcases h2 with q | q <;> subst q <;> rfl)
theorem s241_266 : zX d 241 266 ls [] A K = K (Sum.inl none) A := zx_vret z241 dJ1_fixAfterInsertion_266 rfl
theorem s242_0 : zX d 242 0 [zO o] st A K = zX d 242 1 [zO o] (zO o :: st) A K := zx_aload_n z242 dJ1_parentOf_0 rfl rfl
theorem s242_1 : zX d 242 1 ls (zO o :: st) A K = (if o ≠ none then zX d 242 8 ls st A K else zX d 242 4 ls st A K) := zx_ifnonnull z242 dJ1_parentOf_1 rfl rfl
theorem s242_4 : zX d 242 4 ls st A K = zX d 242 5 ls (zO none :: st) A K := zx_null z242 dJ1_parentOf_4 rfl
theorem s242_5 : zX d 242 5 ls st A K = zX d 242 12 ls st A K := zx_goto z242 dJ1_parentOf_5 rfl
theorem s242_8 : zX d 242 8 [zO o] st A K = zX d 242 9 [zO o] (zO o :: st) A K := zx_aload_n z242 dJ1_parentOf_8 rfl rfl
theorem s242_9 (h : tg A a = 11) : zX d 242 9 ls (zO (some a) :: st) A K = zX d 242 12 ls (fd A a 4 :: st) A K := zx_getf z242 zo242 dJ1_parentOf_9 F12_124 rfl h
theorem s242_12 : zX d 242 12 ls [zO o] A K = K (Sum.inl (some (zO o))) A := zx_aret z242 dJ1_parentOf_12 rfl
theorem s243_0 : zX d 243 0 [zO o] st A K = zX d 243 1 [zO o] (zO o :: st) A K := zx_aload_n z243 dJ1_leftOf_0 rfl rfl
theorem s243_1 : zX d 243 1 ls (zO o :: st) A K = (if o ≠ none then zX d 243 8 ls st A K else zX d 243 4 ls st A K) := zx_ifnonnull z243 dJ1_leftOf_1 rfl rfl
theorem s243_4 : zX d 243 4 ls st A K = zX d 243 5 ls (zO none :: st) A K := zx_null z243 dJ1_leftOf_4 rfl
theorem s243_5 : zX d 243 5 ls st A K = zX d 243 12 ls st A K := zx_goto z243 dJ1_leftOf_5 rfl
theorem s243_8 : zX d 243 8 [zO o] st A K = zX d 243 9 [zO o] (zO o :: st) A K := zx_aload_n z243 dJ1_leftOf_8 rfl rfl
theorem s243_9 (h : tg A a = 11) : zX d 243 9 ls (zO (some a) :: st) A K = zX d 243 12 ls (fd A a 2 :: st) A K := zx_getf z243 zo243 dJ1_leftOf_9 F12_111 rfl h
theorem s243_12 : zX d 243 12 ls [zO o] A K = K (Sum.inl (some (zO o))) A := zx_aret z243 dJ1_leftOf_12 rfl
theorem s244_0 : zX d 244 0 [zO o] st A K = zX d 244 1 [zO o] (zO o :: st) A K := zx_aload_n z244 dJ1_rightOf_0 rfl rfl
theorem s244_1 : zX d 244 1 ls (zO o :: st) A K = (if o ≠ none then zX d 244 8 ls st A K else zX d 244 4 ls st A K) := zx_ifnonnull z244 dJ1_rightOf_1 rfl rfl
theorem s244_4 : zX d 244 4 ls st A K = zX d 244 5 ls (zO none :: st) A K := zx_null z244 dJ1_rightOf_4 rfl
theorem s244_5 : zX d 244 5 ls st A K = zX d 244 12 ls st A K := zx_goto z244 dJ1_rightOf_5 rfl
theorem s244_8 : zX d 244 8 [zO o] st A K = zX d 244 9 [zO o] (zO o :: st) A K := zx_aload_n z244 dJ1_rightOf_8 rfl rfl
theorem s244_9 (h : tg A a = 11) : zX d 244 9 ls (zO (some a) :: st) A K = zX d 244 12 ls (fd A a 3 :: st) A K := zx_getf z244 zo244 dJ1_rightOf_9 F12_114 rfl h
theorem s244_12 : zX d 244 12 ls [zO o] A K = K (Sum.inl (some (zO o))) A := zx_aret z244 dJ1_rightOf_12 rfl
theorem s245_0 : zX d 245 0 [zO o] st A K = zX d 245 1 [zO o] (zO o :: st) A K := zx_aload_n z245 dJ1_colorOf_0 rfl rfl
theorem s245_1 : zX d 245 1 ls (zO o :: st) A K = (if o ≠ none then zX d 245 8 ls st A K else zX d 245 4 ls st A K) := zx_ifnonnull z245 dJ1_colorOf_1 rfl rfl
theorem s245_4 : zX d 245 4 ls st A K = zX d 245 5 ls (zI 1 :: st) A K := zx_const z245 dJ1_colorOf_4 (by decide) rfl
theorem s245_5 : zX d 245 5 ls st A K = zX d 245 12 ls st A K := zx_goto z245 dJ1_colorOf_5 rfl
theorem s245_8 : zX d 245 8 [zO o] st A K = zX d 245 9 [zO o] (zO o :: st) A K := zx_aload_n z245 dJ1_colorOf_8 rfl rfl
theorem s245_9 (h : tg A a = 11) : zX d 245 9 ls (zO (some a) :: st) A K = zX d 245 12 ls (fd A a 5 :: st) A K := zx_getf z245 zo245 dJ1_colorOf_9 F12_290 rfl h
theorem s245_12 (h : x = 0 ∨ x = 1) : zX d 245 12 ls [zI x] A K = K (Sum.inl (some (zI x))) A := zx_iret z245 dJ1_colorOf_12 zk245 (by rcases h with q | q <;> subst q <;> rfl)
theorem s246_0 : zX d 246 0 [zO o, v1] st A K = zX d 246 1 [zO o, v1] (zO o :: st) A K := zx_aload_n z246 dJ1_setColor_0 rfl rfl
theorem s246_1 : zX d 246 1 ls (zO o :: st) A K = (if o = none then zX d 246 9 ls st A K else zX d 246 4 ls st A K) := zx_ifnull z246 dJ1_setColor_1 rfl rfl
theorem s246_4 : zX d 246 4 [zO o, v1] st A K = zX d 246 5 [zO o, v1] (zO o :: st) A K := zx_aload_n z246 dJ1_setColor_4 rfl rfl
theorem s246_5 : zX d 246 5 [v0, zI x] st A K = zX d 246 6 [v0, zI x] (zI x :: st) A K := zx_iload_n z246 dJ1_setColor_5 rfl rfl
theorem s246_6 (h : tg A a = 11) (h2 : x = 0 ∨ x = 1) : zX d 246 6 ls (zI x :: zO (some a) :: st) A K = zX d 246 9 ls st (pF A a 5 (zI x)) K := zx_putf (q := 1) z246 zo246 dJ1_setColor_6 F12_290 rfl rfl rfl h (by rcases h2 with q | q <;> subst q <;> rfl)
theorem s246_9 : zX d 246 9 ls [] A K = K (Sum.inl none) A := zx_vret z246 dJ1_setColor_9 rfl
theorem s247_0 : zX d 247 0 [v0, zO o, v2] st A K = zX d 247 1 [v0, zO o, v2] (zO o :: st) A K := zx_aload_n z247 dJ1_rotateLeft_0 rfl rfl
theorem s247_1 : zX d 247 1 ls (zO o :: st) A K = (if o = none then zX d 247 95 ls st A K else zX d 247 4 ls st A K) := zx_ifnull z247 dJ1_rotateLeft_1 rfl rfl
theorem s247_4 : zX d 247 4 [v0, zO o, v2] st A K = zX d 247 5 [v0, zO o, v2] (zO o :: st) A K := zx_aload_n z247 dJ1_rotateLeft_4 rfl rfl
theorem s247_5 (h : tg A a = 11) : zX d 247 5 ls (zO (some a) :: st) A K = zX d 247 8 ls (fd A a 3 :: st) A K := zx_getf z247 zo247 dJ1_rotateLeft_5 F12_114 rfl h
theorem s247_8 : zX d 247 8 [v0, v1, v2] (zO o :: st) A K = zX d 247 9 [v0, v1, zO o] st A K := zx_astore_n z247 dJ1_rotateLeft_8 (Nat.le_of_ble_eq_true rfl) rfl rfl
theorem s247_9 : zX d 247 9 [v0, zO o, v2] st A K = zX d 247 10 [v0, zO o, v2] (zO o :: st) A K := zx_aload_n z247 dJ1_rotateLeft_9 rfl rfl
theorem s247_10 : zX d 247 10 [v0, v1, zO o] st A K = zX d 247 11 [v0, v1, zO o] (zO o :: st) A K := zx_aload_n z247 dJ1_rotateLeft_10 rfl rfl
theorem s247_11 (h : tg A a = 11) : zX d 247 11 ls (zO (some a) :: st) A K = zX d 247 14 ls (fd A a 2 :: st) A K := zx_getf z247 zo247 dJ1_rotateLeft_11 F12_111 rfl h
theorem s247_14 (h : tg A a = 11) : zX d 247 14 ls (zO o :: zO (some a) :: st) A K = zX d 247 17 ls st (pF A a 3 (zO o)) K := zx_putf (q := 3) z247 zo247 dJ1_rotateLeft_14 F12_114 rfl rfl rfl h rfl
theorem s247_17 : zX d 247 17 [v0, v1, zO o] st A K = zX d 247 18 [v0, v1, zO o] (zO o :: st) A K := zx_aload_n z247 dJ1_rotateLeft_17 rfl rfl
theorem s247_18 (h : tg A a = 11) : zX d 247 18 ls (zO (some a) :: st) A K = zX d 247 21 ls (fd A a 2 :: st) A K := zx_getf z247 zo247 dJ1_rotateLeft_18 F12_111 rfl h
theorem s247_21 : zX d 247 21 ls (zO o :: st) A K = (if o = none then zX d 247 32 ls st A K else zX d 247 24 ls st A K) := zx_ifnull z247 dJ1_rotateLeft_21 rfl rfl
theorem s247_24 : zX d 247 24 [v0, v1, zO o] st A K = zX d 247 25 [v0, v1, zO o] (zO o :: st) A K := zx_aload_n z247 dJ1_rotateLeft_24 rfl rfl
theorem s247_25 (h : tg A a = 11) : zX d 247 25 ls (zO (some a) :: st) A K = zX d 247 28 ls (fd A a 2 :: st) A K := zx_getf z247 zo247 dJ1_rotateLeft_25 F12_111 rfl h
theorem s247_28 : zX d 247 28 [v0, zO o, v2] st A K = zX d 247 29 [v0, zO o, v2] (zO o :: st) A K := zx_aload_n z247 dJ1_rotateLeft_28 rfl rfl
theorem s247_29 (h : tg A a = 11) : zX d 247 29 ls (zO o :: zO (some a) :: st) A K = zX d 247 32 ls st (pF A a 4 (zO o)) K := zx_putf (q := 3) z247 zo247 dJ1_rotateLeft_29 F12_124 rfl rfl rfl h rfl
theorem s247_32 : zX d 247 32 [v0, v1, zO o] st A K = zX d 247 33 [v0, v1, zO o] (zO o :: st) A K := zx_aload_n z247 dJ1_rotateLeft_32 rfl rfl
theorem s247_33 : zX d 247 33 [v0, zO o, v2] st A K = zX d 247 34 [v0, zO o, v2] (zO o :: st) A K := zx_aload_n z247 dJ1_rotateLeft_33 rfl rfl
theorem s247_34 (h : tg A a = 11) : zX d 247 34 ls (zO (some a) :: st) A K = zX d 247 37 ls (fd A a 4 :: st) A K := zx_getf z247 zo247 dJ1_rotateLeft_34 F12_124 rfl h
theorem s247_37 (h : tg A a = 11) : zX d 247 37 ls (zO o :: zO (some a) :: st) A K = zX d 247 40 ls st (pF A a 4 (zO o)) K := zx_putf (q := 3) z247 zo247 dJ1_rotateLeft_37 F12_124 rfl rfl rfl h rfl
theorem s247_40 : zX d 247 40 [v0, zO o, v2] st A K = zX d 247 41 [v0, zO o, v2] (zO o :: st) A K := zx_aload_n z247 dJ1_rotateLeft_40 rfl rfl
theorem s247_41 (h : tg A a = 11) : zX d 247 41 ls (zO (some a) :: st) A K = zX d 247 44 ls (fd A a 4 :: st) A K := zx_getf z247 zo247 dJ1_rotateLeft_41 F12_124 rfl h
theorem s247_44 : zX d 247 44 ls (zO o :: st) A K = (if o ≠ none then zX d 247 55 ls st A K else zX d 247 47 ls st A K) := zx_ifnonnull z247 dJ1_rotateLeft_44 rfl rfl
theorem s247_47 : zX d 247 47 [zO o, v1, v2] st A K = zX d 247 48 [zO o, v1, v2] (zO o :: st) A K := zx_aload_n z247 dJ1_rotateLeft_47 rfl rfl
theorem s247_48 : zX d 247 48 [v0, v1, zO o] st A K = zX d 247 49 [v0, v1, zO o] (zO o :: st) A K := zx_aload_n z247 dJ1_rotateLeft_48 rfl rfl
theorem s247_49 (h : tg A a = 10) : zX d 247 49 ls (zO o :: zO (some a) :: st) A K = zX d 247 52 ls st (pF A a 3 (zO o)) K := zx_putf (q := 3) z247 zo247 dJ1_rotateLeft_49 F12_101 rfl rfl rfl h rfl
theorem s247_52 : zX d 247 52 ls st A K = zX d 247 85 ls st A K := zx_goto z247 dJ1_rotateLeft_52 rfl
theorem s247_55 : zX d 247 55 [v0, zO o, v2] st A K = zX d 247 56 [v0, zO o, v2] (zO o :: st) A K := zx_aload_n z247 dJ1_rotateLeft_55 rfl rfl
theorem s247_56 (h : tg A a = 11) : zX d 247 56 ls (zO (some a) :: st) A K = zX d 247 59 ls (fd A a 4 :: st) A K := zx_getf z247 zo247 dJ1_rotateLeft_56 F12_124 rfl h
theorem s247_59 (h : tg A a = 11) : zX d 247 59 ls (zO (some a) :: st) A K = zX d 247 62 ls (fd A a 2 :: st) A K := zx_getf z247 zo247 dJ1_rotateLeft_59 F12_111 rfl h
theorem s247_62 : zX d 247 62 [v0, zO o, v2] st A K = zX d 247 63 [v0, zO o, v2] (zO o :: st) A K := zx_aload_n z247 dJ1_rotateLeft_62 rfl rfl
theorem s247_63 (h : o = o2 ∨ (zfr o = true ∧ zfr o2 = true)) : zX d 247 63 ls (zO o2 :: zO o :: st) A K = (if o ≠ o2 then zX d 247 77 ls st A K else zX d 247 66 ls st A K) := zx_ac_ne z247 dJ1_rotateLeft_63 rfl rfl h
theorem s247_66 : zX d 247 66 [v0, zO o, v2] st A K = zX d 247 67 [v0, zO o, v2] (zO o :: st) A K := zx_aload_n z247 dJ1_rotateLeft_66 rfl rfl
theorem s247_67 (h : tg A a = 11) : zX d 247 67 ls (zO (some a) :: st) A K = zX d 247 70 ls (fd A a 4 :: st) A K := zx_getf z247 zo247 dJ1_rotateLeft_67 F12_124 rfl h
theorem s247_70 : zX d 247 70 [v0, v1, zO o] st A K = zX d 247 71 [v0, v1, zO o] (zO o :: st) A K := zx_aload_n z247 dJ1_rotateLeft_70 rfl rfl
theorem s247_71 (h : tg A a = 11) : zX d 247 71 ls (zO o :: zO (some a) :: st) A K = zX d 247 74 ls st (pF A a 2 (zO o)) K := zx_putf (q := 3) z247 zo247 dJ1_rotateLeft_71 F12_111 rfl rfl rfl h rfl
theorem s247_74 : zX d 247 74 ls st A K = zX d 247 85 ls st A K := zx_goto z247 dJ1_rotateLeft_74 rfl
theorem s247_77 : zX d 247 77 [v0, zO o, v2] st A K = zX d 247 78 [v0, zO o, v2] (zO o :: st) A K := zx_aload_n z247 dJ1_rotateLeft_77 rfl rfl
theorem s247_78 (h : tg A a = 11) : zX d 247 78 ls (zO (some a) :: st) A K = zX d 247 81 ls (fd A a 4 :: st) A K := zx_getf z247 zo247 dJ1_rotateLeft_78 F12_124 rfl h
theorem s247_81 : zX d 247 81 [v0, v1, zO o] st A K = zX d 247 82 [v0, v1, zO o] (zO o :: st) A K := zx_aload_n z247 dJ1_rotateLeft_81 rfl rfl
theorem s247_82 (h : tg A a = 11) : zX d 247 82 ls (zO o :: zO (some a) :: st) A K = zX d 247 85 ls st (pF A a 3 (zO o)) K := zx_putf (q := 3) z247 zo247 dJ1_rotateLeft_82 F12_114 rfl rfl rfl h rfl
theorem s247_85 : zX d 247 85 [v0, v1, zO o] st A K = zX d 247 86 [v0, v1, zO o] (zO o :: st) A K := zx_aload_n z247 dJ1_rotateLeft_85 rfl rfl
theorem s247_86 : zX d 247 86 [v0, zO o, v2] st A K = zX d 247 87 [v0, zO o, v2] (zO o :: st) A K := zx_aload_n z247 dJ1_rotateLeft_86 rfl rfl
theorem s247_87 (h : tg A a = 11) : zX d 247 87 ls (zO o :: zO (some a) :: st) A K = zX d 247 90 ls st (pF A a 2 (zO o)) K := zx_putf (q := 3) z247 zo247 dJ1_rotateLeft_87 F12_111 rfl rfl rfl h rfl
theorem s247_90 : zX d 247 90 [v0, zO o, v2] st A K = zX d 247 91 [v0, zO o, v2] (zO o :: st) A K := zx_aload_n z247 dJ1_rotateLeft_90 rfl rfl
theorem s247_91 : zX d 247 91 [v0, v1, zO o] st A K = zX d 247 92 [v0, v1, zO o] (zO o :: st) A K := zx_aload_n z247 dJ1_rotateLeft_91 rfl rfl
theorem s247_92 (h : tg A a = 11) : zX d 247 92 ls (zO o :: zO (some a) :: st) A K = zX d 247 95 ls st (pF A a 4 (zO o)) K := zx_putf (q := 3) z247 zo247 dJ1_rotateLeft_92 F12_124 rfl rfl rfl h rfl
theorem s247_95 : zX d 247 95 ls [] A K = K (Sum.inl none) A := zx_vret z247 dJ1_rotateLeft_95 rfl
theorem s248_0 : zX d 248 0 [v0, zO o, v2] st A K = zX d 248 1 [v0, zO o, v2] (zO o :: st) A K := zx_aload_n z248 dJ1_rotateRight_0 rfl rfl
theorem s248_1 : zX d 248 1 ls (zO o :: st) A K = (if o = none then zX d 248 95 ls st A K else zX d 248 4 ls st A K) := zx_ifnull z248 dJ1_rotateRight_1 rfl rfl
theorem s248_4 : zX d 248 4 [v0, zO o, v2] st A K = zX d 248 5 [v0, zO o, v2] (zO o :: st) A K := zx_aload_n z248 dJ1_rotateRight_4 rfl rfl
theorem s248_5 (h : tg A a = 11) : zX d 248 5 ls (zO (some a) :: st) A K = zX d 248 8 ls (fd A a 2 :: st) A K := zx_getf z248 zo248 dJ1_rotateRight_5 F12_111 rfl h
theorem s248_8 : zX d 248 8 [v0, v1, v2] (zO o :: st) A K = zX d 248 9 [v0, v1, zO o] st A K := zx_astore_n z248 dJ1_rotateRight_8 (Nat.le_of_ble_eq_true rfl) rfl rfl
theorem s248_9 : zX d 248 9 [v0, zO o, v2] st A K = zX d 248 10 [v0, zO o, v2] (zO o :: st) A K := zx_aload_n z248 dJ1_rotateRight_9 rfl rfl
theorem s248_10 : zX d 248 10 [v0, v1, zO o] st A K = zX d 248 11 [v0, v1, zO o] (zO o :: st) A K := zx_aload_n z248 dJ1_rotateRight_10 rfl rfl
theorem s248_11 (h : tg A a = 11) : zX d 248 11 ls (zO (some a) :: st) A K = zX d 248 14 ls (fd A a 3 :: st) A K := zx_getf z248 zo248 dJ1_rotateRight_11 F12_114 rfl h
theorem s248_14 (h : tg A a = 11) : zX d 248 14 ls (zO o :: zO (some a) :: st) A K = zX d 248 17 ls st (pF A a 2 (zO o)) K := zx_putf (q := 3) z248 zo248 dJ1_rotateRight_14 F12_111 rfl rfl rfl h rfl
theorem s248_17 : zX d 248 17 [v0, v1, zO o] st A K = zX d 248 18 [v0, v1, zO o] (zO o :: st) A K := zx_aload_n z248 dJ1_rotateRight_17 rfl rfl
theorem s248_18 (h : tg A a = 11) : zX d 248 18 ls (zO (some a) :: st) A K = zX d 248 21 ls (fd A a 3 :: st) A K := zx_getf z248 zo248 dJ1_rotateRight_18 F12_114 rfl h
theorem s248_21 : zX d 248 21 ls (zO o :: st) A K = (if o = none then zX d 248 32 ls st A K else zX d 248 24 ls st A K) := zx_ifnull z248 dJ1_rotateRight_21 rfl rfl
theorem s248_24 : zX d 248 24 [v0, v1, zO o] st A K = zX d 248 25 [v0, v1, zO o] (zO o :: st) A K := zx_aload_n z248 dJ1_rotateRight_24 rfl rfl
theorem s248_25 (h : tg A a = 11) : zX d 248 25 ls (zO (some a) :: st) A K = zX d 248 28 ls (fd A a 3 :: st) A K := zx_getf z248 zo248 dJ1_rotateRight_25 F12_114 rfl h
theorem s248_28 : zX d 248 28 [v0, zO o, v2] st A K = zX d 248 29 [v0, zO o, v2] (zO o :: st) A K := zx_aload_n z248 dJ1_rotateRight_28 rfl rfl
theorem s248_29 (h : tg A a = 11) : zX d 248 29 ls (zO o :: zO (some a) :: st) A K = zX d 248 32 ls st (pF A a 4 (zO o)) K := zx_putf (q := 3) z248 zo248 dJ1_rotateRight_29 F12_124 rfl rfl rfl h rfl
theorem s248_32 : zX d 248 32 [v0, v1, zO o] st A K = zX d 248 33 [v0, v1, zO o] (zO o :: st) A K := zx_aload_n z248 dJ1_rotateRight_32 rfl rfl
theorem s248_33 : zX d 248 33 [v0, zO o, v2] st A K = zX d 248 34 [v0, zO o, v2] (zO o :: st) A K := zx_aload_n z248 dJ1_rotateRight_33 rfl rfl
theorem s248_34 (h : tg A a = 11) : zX d 248 34 ls (zO (some a) :: st) A K = zX d 248 37 ls (fd A a 4 :: st) A K := zx_getf z248 zo248 dJ1_rotateRight_34 F12_124 rfl h
theorem s248_37 (h : tg A a = 11) : zX d 248 37 ls (zO o :: zO (some a) :: st) A K = zX d 248 40 ls st (pF A a 4 (zO o)) K := zx_putf (q := 3) z248 zo248 dJ1_rotateRight_37 F12_124 rfl rfl rfl h rfl
theorem s248_40 : zX d 248 40 [v0, zO o, v2] st A K = zX d 248 41 [v0, zO o, v2] (zO o :: st) A K := zx_aload_n z248 dJ1_rotateRight_40 rfl rfl
theorem s248_41 (h : tg A a = 11) : zX d 248 41 ls (zO (some a) :: st) A K = zX d 248 44 ls (fd A a 4 :: st) A K := zx_getf z248 zo248 dJ1_rotateRight_41 F12_124 rfl h
theorem s248_44 : zX d 248 44 ls (zO o :: st) A K = (if o ≠ none then zX d 248 55 ls st A K else zX d 248 47 ls st A K) := zx_ifnonnull z248 dJ1_rotateRight_44 rfl rfl
theorem s248_47 : zX d 248 47 [zO o, v1, v2] st A K = zX d 248 48 [zO o, v1, v2] (zO o :: st) A K := zx_aload_n z248 dJ1_rotateRight_47 rfl rfl
theorem s248_48 : zX d 248 48 [v0, v1, zO o] st A K = zX d 248 49 [v0, v1, zO o] (zO o :: st) A K := zx_aload_n z248 dJ1_rotateRight_48 rfl rfl
theorem s248_49 (h : tg A a = 10) : zX d 248 49 ls (zO o :: zO (some a) :: st) A K = zX d 248 52 ls st (pF A a 3 (zO o)) K := zx_putf (q := 3) z248 zo248 dJ1_rotateRight_49 F12_101 rfl rfl rfl h rfl
theorem s248_52 : zX d 248 52 ls st A K = zX d 248 85 ls st A K := zx_goto z248 dJ1_rotateRight_52 rfl
theorem s248_55 : zX d 248 55 [v0, zO o, v2] st A K = zX d 248 56 [v0, zO o, v2] (zO o :: st) A K := zx_aload_n z248 dJ1_rotateRight_55 rfl rfl
theorem s248_56 (h : tg A a = 11) : zX d 248 56 ls (zO (some a) :: st) A K = zX d 248 59 ls (fd A a 4 :: st) A K := zx_getf z248 zo248 dJ1_rotateRight_56 F12_124 rfl h
theorem s248_59 (h : tg A a = 11) : zX d 248 59 ls (zO (some a) :: st) A K = zX d 248 62 ls (fd A a 3 :: st) A K := zx_getf z248 zo248 dJ1_rotateRight_59 F12_114 rfl h
theorem s248_62 : zX d 248 62 [v0, zO o, v2] st A K = zX d 248 63 [v0, zO o, v2] (zO o :: st) A K := zx_aload_n z248 dJ1_rotateRight_62 rfl rfl
theorem s248_63 (h : o = o2 ∨ (zfr o = true ∧ zfr o2 = true)) : zX d 248 63 ls (zO o2 :: zO o :: st) A K = (if o ≠ o2 then zX d 248 77 ls st A K else zX d 248 66 ls st A K) := zx_ac_ne z248 dJ1_rotateRight_63 rfl rfl h
theorem s248_66 : zX d 248 66 [v0, zO o, v2] st A K = zX d 248 67 [v0, zO o, v2] (zO o :: st) A K := zx_aload_n z248 dJ1_rotateRight_66 rfl rfl
theorem s248_67 (h : tg A a = 11) : zX d 248 67 ls (zO (some a) :: st) A K = zX d 248 70 ls (fd A a 4 :: st) A K := zx_getf z248 zo248 dJ1_rotateRight_67 F12_124 rfl h
theorem s248_70 : zX d 248 70 [v0, v1, zO o] st A K = zX d 248 71 [v0, v1, zO o] (zO o :: st) A K := zx_aload_n z248 dJ1_rotateRight_70 rfl rfl
theorem s248_71 (h : tg A a = 11) : zX d 248 71 ls (zO o :: zO (some a) :: st) A K = zX d 248 74 ls st (pF A a 3 (zO o)) K := zx_putf (q := 3) z248 zo248 dJ1_rotateRight_71 F12_114 rfl rfl rfl h rfl
theorem s248_74 : zX d 248 74 ls st A K = zX d 248 85 ls st A K := zx_goto z248 dJ1_rotateRight_74 rfl
theorem s248_77 : zX d 248 77 [v0, zO o, v2] st A K = zX d 248 78 [v0, zO o, v2] (zO o :: st) A K := zx_aload_n z248 dJ1_rotateRight_77 rfl rfl
theorem s248_78 (h : tg A a = 11) : zX d 248 78 ls (zO (some a) :: st) A K = zX d 248 81 ls (fd A a 4 :: st) A K := zx_getf z248 zo248 dJ1_rotateRight_78 F12_124 rfl h
theorem s248_81 : zX d 248 81 [v0, v1, zO o] st A K = zX d 248 82 [v0, v1, zO o] (zO o :: st) A K := zx_aload_n z248 dJ1_rotateRight_81 rfl rfl
theorem s248_82 (h : tg A a = 11) : zX d 248 82 ls (zO o :: zO (some a) :: st) A K = zX d 248 85 ls st (pF A a 2 (zO o)) K := zx_putf (q := 3) z248 zo248 dJ1_rotateRight_82 F12_111 rfl rfl rfl h rfl
theorem s248_85 : zX d 248 85 [v0, v1, zO o] st A K = zX d 248 86 [v0, v1, zO o] (zO o :: st) A K := zx_aload_n z248 dJ1_rotateRight_85 rfl rfl
theorem s248_86 : zX d 248 86 [v0, zO o, v2] st A K = zX d 248 87 [v0, zO o, v2] (zO o :: st) A K := zx_aload_n z248 dJ1_rotateRight_86 rfl rfl
theorem s248_87 (h : tg A a = 11) : zX d 248 87 ls (zO o :: zO (some a) :: st) A K = zX d 248 90 ls st (pF A a 3 (zO o)) K := zx_putf (q := 3) z248 zo248 dJ1_rotateRight_87 F12_114 rfl rfl rfl h rfl
theorem s248_90 : zX d 248 90 [v0, zO o, v2] st A K = zX d 248 91 [v0, zO o, v2] (zO o :: st) A K := zx_aload_n z248 dJ1_rotateRight_90 rfl rfl
theorem s248_91 : zX d 248 91 [v0, v1, zO o] st A K = zX d 248 92 [v0, v1, zO o] (zO o :: st) A K := zx_aload_n z248 dJ1_rotateRight_91 rfl rfl
theorem s248_92 (h : tg A a = 11) : zX d 248 92 ls (zO o :: zO (some a) :: st) A K = zX d 248 95 ls st (pF A a 4 (zO o)) K := zx_putf (q := 3) z248 zo248 dJ1_rotateRight_92 F12_124 rfl rfl rfl h rfl
theorem s248_95 : zX d 248 95 ls [] A K = K (Sum.inl none) A := zx_vret z248 dJ1_rotateRight_95 rfl
theorem s249_0 : zX d 249 0 [zO o, v1, v2] st A K = zX d 249 1 [zO o, v1, v2] (zO o :: st) A K := zx_aload_n z249 dJ1_get_0 rfl rfl
theorem s249_1 : zX d 249 1 [v0, zO o, v2] st A K = zX d 249 2 [v0, zO o, v2] (zO o :: st) A K := zx_aload_n z249 dJ1_get_1 rfl rfl
theorem s249_2 (h : tg A a = 10)  : zX (d + 1) 249 2 ls (zO o0 :: zO (some a) :: []) A K = zX d 250 0 [zO (some a), zO o0, zU, zU, zU] [] A (zK (d + 1) 249 2 5 ls [] K) := zx_callV (t := 10) z249 zo249 dJ1_get_2 rfl C12_50 rfl rfl zm250 rfl rfl (zwt_le (Nat.le_of_ble_eq_true rfl)) rfl h
theorem s249_5 : zX d 249 5 [v0, v1, v2] (zO o :: st) A K = zX d 249 6 [v0, v1, zO o] st A K := zx_astore_n z249 dJ1_get_5 (Nat.le_of_ble_eq_true rfl) rfl rfl
theorem s249_6 : zX d 249 6 [v0, v1, zO o] st A K = zX d 249 7 [v0, v1, zO o] (zO o :: st) A K := zx_aload_n z249 dJ1_get_6 rfl rfl
theorem s249_7 : zX d 249 7 ls (zO o :: st) A K = (if o ≠ none then zX d 249 14 ls st A K else zX d 249 10 ls st A K) := zx_ifnonnull z249 dJ1_get_7 rfl rfl
theorem s249_10 : zX d 249 10 ls st A K = zX d 249 11 ls (zO none :: st) A K := zx_null z249 dJ1_get_10 rfl
theorem s249_11 : zX d 249 11 ls st A K = zX d 249 18 ls st A K := zx_goto z249 dJ1_get_11 rfl
theorem s249_14 : zX d 249 14 [v0, v1, zO o] st A K = zX d 249 15 [v0, v1, zO o] (zO o :: st) A K := zx_aload_n z249 dJ1_get_14 rfl rfl
theorem s249_15 (h : tg A a = 11) : zX d 249 15 ls (zO (some a) :: st) A K = zX d 249 18 ls (fd A a 1 :: st) A K := zx_getf z249 zo249 dJ1_get_15 F12_58 rfl h
theorem s249_18 : zX d 249 18 ls [zO o] A K = K (Sum.inl (some (zO o))) A := zx_aret z249 dJ1_get_18 rfl
theorem s250_0 : zX d 250 0 [zO o, v1, v2, v3, v4] st A K = zX d 250 1 [zO o, v1, v2, v3, v4] (zO o :: st) A K := zx_aload_n z250 dJ1_getEntry_0 rfl rfl
theorem s250_1 (h : tg A a = 10) : zX d 250 1 ls (zO (some a) :: st) A K = zX d 250 4 ls (fd A a 2 :: st) A K := zx_getf z250 zo250 dJ1_getEntry_1 F12_16 rfl h
theorem s250_4 : zX d 250 4 ls (zO o :: st) A K = (if o = none then zX d 250 13 ls st A K else zX d 250 7 ls st A K) := zx_ifnull z250 dJ1_getEntry_4 rfl rfl
theorem s250_7 : zX d 250 7 [zO o, v1, v2, v3, v4] st A K = zX d 250 8 [zO o, v1, v2, v3, v4] (zO o :: st) A K := zx_aload_n z250 dJ1_getEntry_7 rfl rfl
theorem s250_8 : zX d 250 8 [v0, zO o, v2, v3, v4] st A K = zX d 250 9 [v0, zO o, v2, v3, v4] (zO o :: st) A K := zx_aload_n z250 dJ1_getEntry_8 rfl rfl
theorem s250_12 : zX d 250 12 ls [zO o] A K = K (Sum.inl (some (zO o))) A := zx_aret z250 dJ1_getEntry_12 rfl
theorem s250_13 : zX d 250 13 [v0, zO o, v2, v3, v4] st A K = zX d 250 14 [v0, zO o, v2, v3, v4] (zO o :: st) A K := zx_aload_n z250 dJ1_getEntry_13 rfl rfl
theorem s250_14 : zX (d + 1) 250 14 ls (zO o0 :: []) A K = zX d 281 0 [zO o0] [] A (zK (d + 1) 250 14 17 ls [] K) := zx_callS z250 zo250 dJ1_getEntry_14 rfl C12_95 rfl rfl zm281 rfl rfl (zwt_le (Nat.le_of_ble_eq_true rfl)) rfl
theorem s250_17 (h : zc v = true) : zX d 250 17 ls (v :: st) A K = zX d 250 18 ls st A K := zx_pop z250 dJ1_getEntry_17 rfl h
theorem s250_18 : zX d 250 18 [v0, zO o, v2, v3, v4] st A K = zX d 250 19 [v0, zO o, v2, v3, v4] (zO o :: st) A K := zx_aload_n z250 dJ1_getEntry_18 rfl rfl
theorem s250_19 (h : ([3, 4, 32] : List Nat).contains (tg A a) = true) : zX d 250 19 ls (zO (some a) :: st) A K = zX d 250 22 ls (zO (some a) :: st) A K := zx_cast z250 zo250 dJ1_getEntry_19 rfl rfl h
theorem s250_19n : zX d 250 19 ls (zO none :: st) A K = zX d 250 22 ls (zO none :: st) A K := zx_castN z250 zo250 dJ1_getEntry_19 rfl rfl
theorem s250_22 : zX d 250 22 [v0, v1, v2, v3, v4] (zO o :: st) A K = zX d 250 23 [v0, v1, zO o, v3, v4] st A K := zx_astore_n z250 dJ1_getEntry_22 (Nat.le_of_ble_eq_true rfl) rfl rfl
theorem s250_23 : zX d 250 23 [zO o, v1, v2, v3, v4] st A K = zX d 250 24 [zO o, v1, v2, v3, v4] (zO o :: st) A K := zx_aload_n z250 dJ1_getEntry_23 rfl rfl
theorem s250_24 (h : tg A a = 10) : zX d 250 24 ls (zO (some a) :: st) A K = zX d 250 27 ls (fd A a 3 :: st) A K := zx_getf z250 zo250 dJ1_getEntry_24 F12_101 rfl h
theorem s250_27 : zX d 250 27 [v0, v1, v2, v3, v4] (zO o :: st) A K = zX d 250 28 [v0, v1, v2, zO o, v4] st A K := zx_astore_n z250 dJ1_getEntry_27 (Nat.le_of_ble_eq_true rfl) rfl rfl
theorem s250_28 : zX d 250 28 [v0, v1, v2, zO o, v4] st A K = zX d 250 29 [v0, v1, v2, zO o, v4] (zO o :: st) A K := zx_aload_n z250 dJ1_getEntry_28 rfl rfl
theorem s250_29 : zX d 250 29 ls (zO o :: st) A K = (if o = none then zX d 250 75 ls st A K else zX d 250 32 ls st A K) := zx_ifnull z250 dJ1_getEntry_29 rfl rfl
theorem s250_32 : zX d 250 32 [v0, v1, zO o, v3, v4] st A K = zX d 250 33 [v0, v1, zO o, v3, v4] (zO o :: st) A K := zx_aload_n z250 dJ1_getEntry_32 rfl rfl
theorem s250_33 : zX d 250 33 [v0, v1, v2, zO o, v4] st A K = zX d 250 34 [v0, v1, v2, zO o, v4] (zO o :: st) A K := zx_aload_n z250 dJ1_getEntry_33 rfl rfl
theorem s250_34 (h : tg A a = 11) : zX d 250 34 ls (zO (some a) :: st) A K = zX d 250 37 ls (fd A a 0 :: st) A K := zx_getf z250 zo250 dJ1_getEntry_34 F12_105 rfl h
theorem s250_37_3 (h : tg A a = 3)  : zX (d + 1) 250 37 ls (zO o0 :: zO (some a) :: []) A K = zX d 99 0 [zO (some a), zO o0] [] A (zK (d + 1) 250 37 42 ls [] K) := zx_callF (t := 3) z250 zo250 dJ1_getEntry_37 rfl C12_107 rfl rfl zm99 rfl rfl (zwt_le (Nat.le_of_ble_eq_true rfl)) rfl h
theorem s250_37_4 (h : tg A a = 4)  : zX (d + 1) 250 37 ls (zO o0 :: zO (some a) :: []) A K = zX d 115 0 [zO (some a), zO o0] [] A (zK (d + 1) 250 37 42 ls [] K) := zx_callF (t := 4) z250 zo250 dJ1_getEntry_37 rfl C12_107 rfl rfl zm115 rfl rfl (zwt_le (Nat.le_of_ble_eq_true rfl)) rfl h
theorem s250_37_32 (h : tg A a = 32)  : zX (d + 1) 250 37 ls (zO o0 :: zO (some a) :: []) A K = zX d 270 0 [zO (some a), zO o0] [] A (zK (d + 1) 250 37 42 ls [] K) := zx_callF (t := 32) z250 zo250 dJ1_getEntry_37 rfl C12_107 rfl rfl zm270 rfl rfl (zwt_le (Nat.le_of_ble_eq_true rfl)) rfl h
theorem s250_42 : zX d 250 42 [v0, v1, v2, v3, v4] (zI x :: st) A K = zX d 250 44 [v0, v1, v2, v3, zI x] st A K := zx_istore z250 dJ1_getEntry_42 (Nat.le_of_ble_eq_true rfl) rfl rfl
theorem s250_44 : zX d 250 44 [v0, v1, v2, v3, zI x] st A K = zX d 250 46 [v0, v1, v2, v3, zI x] (zI x :: st) A K := zx_iload z250 dJ1_getEntry_44 rfl rfl
theorem s250_46 : zX d 250 46 ls (zI x :: st) A K = (if 0 ≤ x then zX d 250 57 ls st A K else zX d 250 49 ls st A K) := zx_if_ge z250 dJ1_getEntry_46 rfl rfl
theorem s250_49 : zX d 250 49 [v0, v1, v2, zO o, v4] st A K = zX d 250 50 [v0, v1, v2, zO o, v4] (zO o :: st) A K := zx_aload_n z250 dJ1_getEntry_49 rfl rfl
theorem s250_50 (h : tg A a = 11) : zX d 250 50 ls (zO (some a) :: st) A K = zX d 250 53 ls (fd A a 2 :: st) A K := zx_getf z250 zo250 dJ1_getEntry_50 F12_111 rfl h
theorem s250_53 : zX d 250 53 [v0, v1, v2, v3, v4] (zO o :: st) A K = zX d 250 54 [v0, v1, v2, zO o, v4] st A K := zx_astore_n z250 dJ1_getEntry_53 (Nat.le_of_ble_eq_true rfl) rfl rfl
theorem s250_54 : zX d 250 54 ls st A K = zX d 250 72 ls st A K := zx_goto z250 dJ1_getEntry_54 rfl
theorem s250_57 : zX d 250 57 [v0, v1, v2, v3, zI x] st A K = zX d 250 59 [v0, v1, v2, v3, zI x] (zI x :: st) A K := zx_iload z250 dJ1_getEntry_57 rfl rfl
theorem s250_59 : zX d 250 59 ls (zI x :: st) A K = (if x ≤ 0 then zX d 250 70 ls st A K else zX d 250 62 ls st A K) := zx_if_le z250 dJ1_getEntry_59 rfl rfl
theorem s250_62 : zX d 250 62 [v0, v1, v2, zO o, v4] st A K = zX d 250 63 [v0, v1, v2, zO o, v4] (zO o :: st) A K := zx_aload_n z250 dJ1_getEntry_62 rfl rfl
theorem s250_63 (h : tg A a = 11) : zX d 250 63 ls (zO (some a) :: st) A K = zX d 250 66 ls (fd A a 3 :: st) A K := zx_getf z250 zo250 dJ1_getEntry_63 F12_114 rfl h
theorem s250_66 : zX d 250 66 [v0, v1, v2, v3, v4] (zO o :: st) A K = zX d 250 67 [v0, v1, v2, zO o, v4] st A K := zx_astore_n z250 dJ1_getEntry_66 (Nat.le_of_ble_eq_true rfl) rfl rfl
theorem s250_67 : zX d 250 67 ls st A K = zX d 250 72 ls st A K := zx_goto z250 dJ1_getEntry_67 rfl
theorem s250_70 : zX d 250 70 [v0, v1, v2, zO o, v4] st A K = zX d 250 71 [v0, v1, v2, zO o, v4] (zO o :: st) A K := zx_aload_n z250 dJ1_getEntry_70 rfl rfl
theorem s250_71 : zX d 250 71 ls [zO o] A K = K (Sum.inl (some (zO o))) A := zx_aret z250 dJ1_getEntry_71 rfl
theorem s250_72 : zX d 250 72 ls st A K = zX d 250 28 ls st A K := zx_goto z250 dJ1_getEntry_72 rfl
theorem s250_75 : zX d 250 75 ls st A K = zX d 250 76 ls (zO none :: st) A K := zx_null z250 dJ1_getEntry_75 rfl
theorem s250_76 : zX d 250 76 ls [zO o] A K = K (Sum.inl (some (zO o))) A := zx_aret z250 dJ1_getEntry_76 rfl
theorem s251_0 : zX d 251 0 [zO o, v1] st A K = zX d 251 1 [zO o, v1] (zO o :: st) A K := zx_aload_n z251 dJ1_containsKey_0 rfl rfl
theorem s251_1 : zX d 251 1 [v0, zO o] st A K = zX d 251 2 [v0, zO o] (zO o :: st) A K := zx_aload_n z251 dJ1_containsKey_1 rfl rfl
theorem s251_2 (h : tg A a = 10)  : zX (d + 1) 251 2 ls (zO o0 :: zO (some a) :: []) A K = zX d 250 0 [zO (some a), zO o0, zU, zU, zU] [] A (zK (d + 1) 251 2 5 ls [] K) := zx_callV (t := 10) z251 zo251 dJ1_containsKey_2 rfl C12_50 rfl rfl zm250 rfl rfl (zwt_le (Nat.le_of_ble_eq_true rfl)) rfl h
theorem s251_5 : zX d 251 5 ls (zO o :: st) A K = (if o = none then zX d 251 12 ls st A K else zX d 251 8 ls st A K) := zx_ifnull z251 dJ1_containsKey_5 rfl rfl
theorem s251_8 : zX d 251 8 ls st A K = zX d 251 9 ls (zI 1 :: st) A K := zx_const z251 dJ1_containsKey_8 (by decide) rfl
theorem s251_9 : zX d 251 9 ls st A K = zX d 251 13 ls st A K := zx_goto z251 dJ1_containsKey_9 rfl
theorem s251_12 : zX d 251 12 ls st A K = zX d 251 13 ls (zI 0 :: st) A K := zx_const z251 dJ1_containsKey_12 (by decide) rfl
theorem s251_13 (h : x = 0 ∨ x = 1) : zX d 251 13 ls [zI x] A K = K (Sum.inl (some (zI x))) A := zx_iret z251 dJ1_containsKey_13 zk251 (by rcases h with q | q <;> subst q <;> rfl)
theorem s252_0 : zX d 252 0 [zO o, v1] st A K = zX d 252 1 [zO o, v1] (zO o :: st) A K := zx_aload_n z252 dJ1_navigableKeySet_0 rfl rfl
theorem s252_1 (h : tg A a = 10) : zX d 252 1 ls (zO (some a) :: st) A K = zX d 252 4 ls (fd A a 7 :: st) A K := zx_getf z252 zo252 dJ1_navigableKeySet_1 F12_191 rfl h
theorem s252_4 : zX d 252 4 [v0, v1] (zO o :: st) A K = zX d 252 5 [v0, zO o] st A K := zx_astore_n z252 dJ1_navigableKeySet_4 (Nat.le_of_ble_eq_true rfl) rfl rfl
theorem s252_5 : zX d 252 5 [v0, zO o] st A K = zX d 252 6 [v0, zO o] (zO o :: st) A K := zx_aload_n z252 dJ1_navigableKeySet_5 rfl rfl
theorem s252_6 : zX d 252 6 ls (zO o :: st) A K = (if o = none then zX d 252 13 ls st A K else zX d 252 9 ls st A K) := zx_ifnull z252 dJ1_navigableKeySet_6 rfl rfl
theorem s252_9 : zX d 252 9 [v0, zO o] st A K = zX d 252 10 [v0, zO o] (zO o :: st) A K := zx_aload_n z252 dJ1_navigableKeySet_9 rfl rfl
theorem s252_10 : zX d 252 10 ls st A K = zX d 252 26 ls st A K := zx_goto z252 dJ1_navigableKeySet_10 rfl
theorem s252_13 : zX d 252 13 [zO o, v1] st A K = zX d 252 14 [zO o, v1] (zO o :: st) A K := zx_aload_n z252 dJ1_navigableKeySet_13 rfl rfl
theorem s252_14 : zX d 252 14 ls st A K = zX d 252 17 ls (zO (some (nx A)) :: st) (nO A 12) K := zx_new z252 zo252 dJ1_navigableKeySet_14 rfl rfl
theorem s252_17 (h : zc v = true) : zX d 252 17 ls (v :: st) A K = zX d 252 18 ls (v :: v :: st) A K := zx_dup z252 dJ1_navigableKeySet_17 rfl h
theorem s252_18 : zX d 252 18 [zO o, v1] st A K = zX d 252 19 [zO o, v1] (zO o :: st) A K := zx_aload_n z252 dJ1_navigableKeySet_18 rfl rfl
theorem s252_19 : zX (d + 1) 252 19 ls (zO o0 :: zO (some a) :: [w0, w1]) A K = zX d 282 0 [zO (some a), zO o0] [] A (zK (d + 1) 252 19 22 ls [w0, w1] K) := zx_callI z252 zo252 dJ1_navigableKeySet_19 rfl C12_224 rfl rfl zm282 rfl rfl (zwt_le (Nat.le_of_ble_eq_true rfl)) rfl
theorem s252_22 (h : zc v = true) (h2 : zc u = true) : zX d 252 22 ls (v :: u :: st) A K = zX d 252 23 ls (v :: u :: v :: st) A K := zx_dup_x1 z252 dJ1_navigableKeySet_22 rfl h h2
theorem s252_23 (h : tg A a = 10) : zX d 252 23 ls (zO o :: zO (some a) :: st) A K = zX d 252 26 ls st (pF A a 7 (zO o)) K := zx_putf (q := 3) z252 zo252 dJ1_navigableKeySet_23 F12_191 rfl rfl rfl h rfl
theorem s252_26 : zX d 252 26 ls [zO o] A K = K (Sum.inl (some (zO o))) A := zx_aret z252 dJ1_navigableKeySet_26 rfl
theorem s253_0 : zX d 253 0 ls st A K = zX d 253 3 ls (zO (some (nx A)) :: st) (nO A 13) K := zx_new z253 zo253 dJ1_keyIterator_0 rfl rfl
theorem s253_3 (h : zc v = true) : zX d 253 3 ls (v :: st) A K = zX d 253 4 ls (v :: v :: st) A K := zx_dup z253 dJ1_keyIterator_3 rfl h
theorem s253_4 : zX d 253 4 [zO o] st A K = zX d 253 5 [zO o] (zO o :: st) A K := zx_aload_n z253 dJ1_keyIterator_4 rfl rfl
theorem s253_5 : zX d 253 5 [zO o] st A K = zX d 253 6 [zO o] (zO o :: st) A K := zx_aload_n z253 dJ1_keyIterator_5 rfl rfl
theorem s253_6 (h : tg A a = 10)  : zX (d + 1) 253 6 ls (zO (some a) :: [w0, w1, w2]) A K = zX d 254 0 [zO (some a), zU] [] A (zK (d + 1) 253 6 9 ls [w0, w1, w2] K) := zx_callV (t := 10) z253 zo253 dJ1_keyIterator_6 rfl C12_54 rfl rfl zm254 rfl rfl (zwt_le (Nat.le_of_ble_eq_true rfl)) rfl h
theorem s253_9 : zX (d + 1) 253 9 ls (zO o1 :: zO o0 :: zO (some a) :: [w0]) A K = zX d 287 0 [zO (some a), zO o0, zO o1] [] A (zK (d + 1) 253 9 12 ls [w0] K) := zx_callI z253 zo253 dJ1_keyIterator_9 rfl C12_271 rfl rfl zm287 rfl rfl (zwt_le (Nat.le_of_ble_eq_true rfl)) rfl
theorem s253_12 : zX d 253 12 ls [zO o] A K = K (Sum.inl (some (zO o))) A := zx_aret z253 dJ1_keyIterator_12 rfl
theorem s254_0 : zX d 254 0 [zO o, v1] st A K = zX d 254 1 [zO o, v1] (zO o :: st) A K := zx_aload_n z254 dJ1_getFirstEntry_0 rfl rfl
theorem s254_1 (h : tg A a = 10) : zX d 254 1 ls (zO (some a) :: st) A K = zX d 254 4 ls (fd A a 3 :: st) A K := zx_getf z254 zo254 dJ1_getFirstEntry_1 F12_101 rfl h
theorem s254_4 : zX d 254 4 [v0, v1] (zO o :: st) A K = zX d 254 5 [v0, zO o] st A K := zx_astore_n z254 dJ1_getFirstEntry_4 (Nat.le_of_ble_eq_true rfl) rfl rfl
theorem s254_5 : zX d 254 5 [v0, zO o] st A K = zX d 254 6 [v0, zO o] (zO o :: st) A K := zx_aload_n z254 dJ1_getFirstEntry_5 rfl rfl
theorem s254_6 : zX d 254 6 ls (zO o :: st) A K = (if o = none then zX d 254 24 ls st A K else zX d 254 9 ls st A K) := zx_ifnull z254 dJ1_getFirstEntry_6 rfl rfl
theorem s254_9 : zX d 254 9 [v0, zO o] st A K = zX d 254 10 [v0, zO o] (zO o :: st) A K := zx_aload_n z254 dJ1_getFirstEntry_9 rfl rfl
theorem s254_10 (h : tg A a = 11) : zX d 254 10 ls (zO (some a) :: st) A K = zX d 254 13 ls (fd A a 2 :: st) A K := zx_getf z254 zo254 dJ1_getFirstEntry_10 F12_111 rfl h
theorem s254_13 : zX d 254 13 ls (zO o :: st) A K = (if o = none then zX d 254 24 ls st A K else zX d 254 16 ls st A K) := zx_ifnull z254 dJ1_getFirstEntry_13 rfl rfl
theorem s254_16 : zX d 254 16 [v0, zO o] st A K = zX d 254 17 [v0, zO o] (zO o :: st) A K := zx_aload_n z254 dJ1_getFirstEntry_16 rfl rfl
theorem s254_17 (h : tg A a = 11) : zX d 254 17 ls (zO (some a) :: st) A K = zX d 254 20 ls (fd A a 2 :: st) A K := zx_getf z254 zo254 dJ1_getFirstEntry_17 F12_111 rfl h
theorem s254_20 : zX d 254 20 [v0, v1] (zO o :: st) A K = zX d 254 21 [v0, zO o] st A K := zx_astore_n z254 dJ1_getFirstEntry_20 (Nat.le_of_ble_eq_true rfl) rfl rfl
theorem s254_21 : zX d 254 21 ls st A K = zX d 254 9 ls st A K := zx_goto z254 dJ1_getFirstEntry_21 rfl
theorem s254_24 : zX d 254 24 [v0, zO o] st A K = zX d 254 25 [v0, zO o] (zO o :: st) A K := zx_aload_n z254 dJ1_getFirstEntry_24 rfl rfl
theorem s254_25 : zX d 254 25 ls [zO o] A K = K (Sum.inl (some (zO o))) A := zx_aret z254 dJ1_getFirstEntry_25 rfl
theorem s255_0 : zX d 255 0 [zO o, v1, v2] st A K = zX d 255 1 [zO o, v1, v2] (zO o :: st) A K := zx_aload_n z255 dJ1_successor_0 rfl rfl
theorem s255_1 : zX d 255 1 ls (zO o :: st) A K = (if o ≠ none then zX d 255 6 ls st A K else zX d 255 4 ls st A K) := zx_ifnonnull z255 dJ1_successor_1 rfl rfl
theorem s255_4 : zX d 255 4 ls st A K = zX d 255 5 ls (zO none :: st) A K := zx_null z255 dJ1_successor_4 rfl
theorem s255_5 : zX d 255 5 ls [zO o] A K = K (Sum.inl (some (zO o))) A := zx_aret z255 dJ1_successor_5 rfl
theorem s255_6 : zX d 255 6 [zO o, v1, v2] st A K = zX d 255 7 [zO o, v1, v2] (zO o :: st) A K := zx_aload_n z255 dJ1_successor_6 rfl rfl
theorem s255_7 (h : tg A a = 11) : zX d 255 7 ls (zO (some a) :: st) A K = zX d 255 10 ls (fd A a 3 :: st) A K := zx_getf z255 zo255 dJ1_successor_7 F12_114 rfl h
theorem s255_10 : zX d 255 10 ls (zO o :: st) A K = (if o = none then zX d 255 35 ls st A K else zX d 255 13 ls st A K) := zx_ifnull z255 dJ1_successor_10 rfl rfl
theorem s255_13 : zX d 255 13 [zO o, v1, v2] st A K = zX d 255 14 [zO o, v1, v2] (zO o :: st) A K := zx_aload_n z255 dJ1_successor_13 rfl rfl
theorem s255_14 (h : tg A a = 11) : zX d 255 14 ls (zO (some a) :: st) A K = zX d 255 17 ls (fd A a 3 :: st) A K := zx_getf z255 zo255 dJ1_successor_14 F12_114 rfl h
theorem s255_17 : zX d 255 17 [v0, v1, v2] (zO o :: st) A K = zX d 255 18 [v0, zO o, v2] st A K := zx_astore_n z255 dJ1_successor_17 (Nat.le_of_ble_eq_true rfl) rfl rfl
theorem s255_18 : zX d 255 18 [v0, zO o, v2] st A K = zX d 255 19 [v0, zO o, v2] (zO o :: st) A K := zx_aload_n z255 dJ1_successor_18 rfl rfl
theorem s255_19 (h : tg A a = 11) : zX d 255 19 ls (zO (some a) :: st) A K = zX d 255 22 ls (fd A a 2 :: st) A K := zx_getf z255 zo255 dJ1_successor_19 F12_111 rfl h
theorem s255_22 : zX d 255 22 ls (zO o :: st) A K = (if o = none then zX d 255 33 ls st A K else zX d 255 25 ls st A K) := zx_ifnull z255 dJ1_successor_22 rfl rfl
theorem s255_25 : zX d 255 25 [v0, zO o, v2] st A K = zX d 255 26 [v0, zO o, v2] (zO o :: st) A K := zx_aload_n z255 dJ1_successor_25 rfl rfl
theorem s255_26 (h : tg A a = 11) : zX d 255 26 ls (zO (some a) :: st) A K = zX d 255 29 ls (fd A a 2 :: st) A K := zx_getf z255 zo255 dJ1_successor_26 F12_111 rfl h
theorem s255_29 : zX d 255 29 [v0, v1, v2] (zO o :: st) A K = zX d 255 30 [v0, zO o, v2] st A K := zx_astore_n z255 dJ1_successor_29 (Nat.le_of_ble_eq_true rfl) rfl rfl
theorem s255_30 : zX d 255 30 ls st A K = zX d 255 18 ls st A K := zx_goto z255 dJ1_successor_30 rfl
theorem s255_33 : zX d 255 33 [v0, zO o, v2] st A K = zX d 255 34 [v0, zO o, v2] (zO o :: st) A K := zx_aload_n z255 dJ1_successor_33 rfl rfl
theorem s255_34 : zX d 255 34 ls [zO o] A K = K (Sum.inl (some (zO o))) A := zx_aret z255 dJ1_successor_34 rfl
theorem s255_35 : zX d 255 35 [zO o, v1, v2] st A K = zX d 255 36 [zO o, v1, v2] (zO o :: st) A K := zx_aload_n z255 dJ1_successor_35 rfl rfl
theorem s255_36 (h : tg A a = 11) : zX d 255 36 ls (zO (some a) :: st) A K = zX d 255 39 ls (fd A a 4 :: st) A K := zx_getf z255 zo255 dJ1_successor_36 F12_124 rfl h
theorem s255_39 : zX d 255 39 [v0, v1, v2] (zO o :: st) A K = zX d 255 40 [v0, zO o, v2] st A K := zx_astore_n z255 dJ1_successor_39 (Nat.le_of_ble_eq_true rfl) rfl rfl
theorem s255_40 : zX d 255 40 [zO o, v1, v2] st A K = zX d 255 41 [zO o, v1, v2] (zO o :: st) A K := zx_aload_n z255 dJ1_successor_40 rfl rfl
theorem s255_41 : zX d 255 41 [v0, v1, v2] (zO o :: st) A K = zX d 255 42 [v0, v1, zO o] st A K := zx_astore_n z255 dJ1_successor_41 (Nat.le_of_ble_eq_true rfl) rfl rfl
theorem s255_42 : zX d 255 42 [v0, zO o, v2] st A K = zX d 255 43 [v0, zO o, v2] (zO o :: st) A K := zx_aload_n z255 dJ1_successor_42 rfl rfl
theorem s255_43 : zX d 255 43 ls (zO o :: st) A K = (if o = none then zX d 255 64 ls st A K else zX d 255 46 ls st A K) := zx_ifnull z255 dJ1_successor_43 rfl rfl
theorem s255_46 : zX d 255 46 [v0, v1, zO o] st A K = zX d 255 47 [v0, v1, zO o] (zO o :: st) A K := zx_aload_n z255 dJ1_successor_46 rfl rfl
theorem s255_47 : zX d 255 47 [v0, zO o, v2] st A K = zX d 255 48 [v0, zO o, v2] (zO o :: st) A K := zx_aload_n z255 dJ1_successor_47 rfl rfl
theorem s255_48 (h : tg A a = 11) : zX d 255 48 ls (zO (some a) :: st) A K = zX d 255 51 ls (fd A a 3 :: st) A K := zx_getf z255 zo255 dJ1_successor_48 F12_114 rfl h
theorem s255_51 (h : o = o2 ∨ (zfr o = true ∧ zfr o2 = true)) : zX d 255 51 ls (zO o2 :: zO o :: st) A K = (if o ≠ o2 then zX d 255 64 ls st A K else zX d 255 54 ls st A K) := zx_ac_ne z255 dJ1_successor_51 rfl rfl h
theorem s255_54 : zX d 255 54 [v0, zO o, v2] st A K = zX d 255 55 [v0, zO o, v2] (zO o :: st) A K := zx_aload_n z255 dJ1_successor_54 rfl rfl
theorem s255_55 : zX d 255 55 [v0, v1, v2] (zO o :: st) A K = zX d 255 56 [v0, v1, zO o] st A K := zx_astore_n z255 dJ1_successor_55 (Nat.le_of_ble_eq_true rfl) rfl rfl
theorem s255_56 : zX d 255 56 [v0, zO o, v2] st A K = zX d 255 57 [v0, zO o, v2] (zO o :: st) A K := zx_aload_n z255 dJ1_successor_56 rfl rfl
theorem s255_57 (h : tg A a = 11) : zX d 255 57 ls (zO (some a) :: st) A K = zX d 255 60 ls (fd A a 4 :: st) A K := zx_getf z255 zo255 dJ1_successor_57 F12_124 rfl h
theorem s255_60 : zX d 255 60 [v0, v1, v2] (zO o :: st) A K = zX d 255 61 [v0, zO o, v2] st A K := zx_astore_n z255 dJ1_successor_60 (Nat.le_of_ble_eq_true rfl) rfl rfl
theorem s255_61 : zX d 255 61 ls st A K = zX d 255 42 ls st A K := zx_goto z255 dJ1_successor_61 rfl
theorem s255_64 : zX d 255 64 [v0, zO o, v2] st A K = zX d 255 65 [v0, zO o, v2] (zO o :: st) A K := zx_aload_n z255 dJ1_successor_64 rfl rfl
theorem s255_65 : zX d 255 65 ls [zO o] A K = K (Sum.inl (some (zO o))) A := zx_aret z255 dJ1_successor_65 rfl
theorem s256_0 : zX d 256 0 [zO o] st A K = zX d 256 1 [zO o] (zO o :: st) A K := zx_aload_n z256 dJ2_init_0 rfl rfl
theorem s256_1 : zX d 256 1 ls (zO (some a) :: []) A K = zX d 256 4 ls [] A K := zx_inI z256 zo256 dJ2_init_1 rfl rfl rfl (zin_1 (zwt_le (Nat.le_of_ble_eq_true rfl)))
theorem s256_4 : zX d 256 4 ls [] A K = K (Sum.inl none) A := zx_vret z256 dJ2_init_4 rfl
theorem s257_0 : zX d 257 0 [zO o] st A K = zX d 257 1 [zO o] (zO o :: st) A K := zx_aload_n z257 dJ2_isEmpty_0 rfl rfl
theorem s257_1 (h : tg A a = 15)  : zX (d + 1) 257 1 ls (zO (some a) :: []) A K = zX d 310 0 [zO (some a)] [] A (zK (d + 1) 257 1 4 ls [] K) := zx_callV (t := 15) z257 zo257 dJ2_isEmpty_1 rfl C13_7 rfl rfl zm310 rfl rfl (zwt_le (Nat.le_of_ble_eq_true rfl)) rfl h
theorem s257_4 : zX d 257 4 ls (zI x :: st) A K = (if x ≠ 0 then zX d 257 11 ls st A K else zX d 257 7 ls st A K) := zx_if_ne z257 dJ2_isEmpty_4 rfl rfl
theorem s257_7 : zX d 257 7 ls st A K = zX d 257 8 ls (zI 1 :: st) A K := zx_const z257 dJ2_isEmpty_7 (by decide) rfl
theorem s257_8 : zX d 257 8 ls st A K = zX d 257 12 ls st A K := zx_goto z257 dJ2_isEmpty_8 rfl
theorem s257_11 : zX d 257 11 ls st A K = zX d 257 12 ls (zI 0 :: st) A K := zx_const z257 dJ2_isEmpty_11 (by decide) rfl
theorem s257_12 (h : x = 0 ∨ x = 1) : zX d 257 12 ls [zI x] A K = K (Sum.inl (some (zI x))) A := zx_iret z257 dJ2_isEmpty_12 zk257 (by rcases h with q | q <;> subst q <;> rfl)
theorem s258_0 : zX d 258 0 [zO o] st A K = zX d 258 1 [zO o] (zO o :: st) A K := zx_aload_n z258 dJ3_init_0 rfl rfl
theorem s258_1 : zX (d + 1) 258 1 ls (zO (some a) :: []) A K = zX d 256 0 [zO (some a)] [] A (zK (d + 1) 258 1 4 ls [] K) := zx_callI z258 zo258 dJ3_init_1 rfl C14_1 rfl rfl zm256 rfl rfl (zwt_le (Nat.le_of_ble_eq_true rfl)) rfl
theorem s258_4 : zX d 258 4 ls [] A K = K (Sum.inl none) A := zx_vret z258 dJ3_init_4 rfl
theorem s259_0 : zX d 259 0 [zO o] st A K = zX d 259 1 [zO o] (zO o :: st) A K := zx_aload_n z259 dJ4_init_0 rfl rfl
theorem s259_1 : zX d 259 1 ls st A K = zX d 259 4 ls (zO (some (nx A)) :: st) (nO A 10) K := zx_new z259 zo259 dJ4_init_1 rfl rfl
theorem s259_4 (h : zc v = true) : zX d 259 4 ls (v :: st) A K = zX d 259 5 ls (v :: v :: st) A K := zx_dup z259 dJ4_init_4 rfl h
theorem s259_5 : zX (d + 1) 259 5 ls (zO (some a) :: [w0, w1]) A K = zX d 233 0 [zO (some a)] [] A (zK (d + 1) 259 5 8 ls [w0, w1] K) := zx_callI z259 zo259 dJ4_init_5 rfl C15_15 rfl rfl zm233 rfl rfl (zwt_le (Nat.le_of_ble_eq_true rfl)) rfl
theorem s259_8 : zX (d + 1) 259 8 ls (zO o0 :: zO (some a) :: []) A K = zX d 260 0 [zO (some a), zO o0] [] A (zK (d + 1) 259 8 11 ls [] K) := zx_callI z259 zo259 dJ4_init_8 rfl C15_16 rfl rfl zm260 rfl rfl (zwt_le (Nat.le_of_ble_eq_true rfl)) rfl
theorem s259_11 : zX d 259 11 ls [] A K = K (Sum.inl none) A := zx_vret z259 dJ4_init_11 rfl
theorem s260_0 : zX d 260 0 [zO o, v1] st A K = zX d 260 1 [zO o, v1] (zO o :: st) A K := zx_aload_n z260 dJ4_init_2_0 rfl rfl
theorem s260_1 : zX (d + 1) 260 1 ls (zO (some a) :: []) A K = zX d 258 0 [zO (some a)] [] A (zK (d + 1) 260 1 4 ls [] K) := zx_callI z260 zo260 dJ4_init_2_1 rfl C15_1 rfl rfl zm258 rfl rfl (zwt_le (Nat.le_of_ble_eq_true rfl)) rfl
theorem s260_4 : zX d 260 4 [zO o, v1] st A K = zX d 260 5 [zO o, v1] (zO o :: st) A K := zx_aload_n z260 dJ4_init_2_4 rfl rfl
theorem s260_5 : zX d 260 5 [v0, zO o] st A K = zX d 260 6 [v0, zO o] (zO o :: st) A K := zx_aload_n z260 dJ4_init_2_5 rfl rfl
theorem s260_6 (h : tg A a = 14) : zX d 260 6 ls (zO o :: zO (some a) :: st) A K = zX d 260 9 ls st (pF A a 0 (zO o)) K := zx_putf (q := 3) z260 zo260 dJ4_init_2_6 F15_7 rfl rfl rfl h rfl
theorem s260_9 : zX d 260 9 ls [] A K = K (Sum.inl none) A := zx_vret z260 dJ4_init_2_9 rfl
theorem s261_0 : zX d 261 0 [zO o] st A K = zX d 261 1 [zO o] (zO o :: st) A K := zx_aload_n z261 dJ4_clear_0 rfl rfl
theorem s261_1 (h : tg A a = 14) : zX d 261 1 ls (zO (some a) :: st) A K = zX d 261 4 ls (fd A a 0 :: st) A K := zx_getf z261 zo261 dJ4_clear_1 F15_7 rfl h
theorem s261_4 (h : tg A a = 10)  : zX (d + 1) 261 4 ls (zO (some a) :: []) A K = zX d 234 0 [zO (some a)] [] A (zK (d + 1) 261 4 9 ls [] K) := zx_callF (t := 10) z261 zo261 dJ4_clear_4 rfl C15_77 rfl rfl zm234 rfl rfl (zwt_le (Nat.le_of_ble_eq_true rfl)) rfl h
theorem s261_9 : zX d 261 9 ls [] A K = K (Sum.inl none) A := zx_vret z261 dJ4_clear_9 rfl
theorem s262_0 : zX d 262 0 [zO o, v1] st A K = zX d 262 1 [zO o, v1] (zO o :: st) A K := zx_aload_n z262 dJ4_contains_0 rfl rfl
theorem s262_1 (h : tg A a = 14) : zX d 262 1 ls (zO (some a) :: st) A K = zX d 262 4 ls (fd A a 0 :: st) A K := zx_getf z262 zo262 dJ4_contains_1 F15_7 rfl h
theorem s262_4 : zX d 262 4 [v0, zO o] st A K = zX d 262 5 [v0, zO o] (zO o :: st) A K := zx_aload_n z262 dJ4_contains_4 rfl rfl
theorem s262_5 (h : tg A a = 10)  : zX (d + 1) 262 5 ls (zO o0 :: zO (some a) :: []) A K = zX d 251 0 [zO (some a), zO o0] [] A (zK (d + 1) 262 5 10 ls [] K) := zx_callF (t := 10) z262 zo262 dJ4_contains_5 rfl C15_61 rfl rfl zm251 rfl rfl (zwt_le (Nat.le_of_ble_eq_true rfl)) rfl h
theorem s262_10 (h : x = 0 ∨ x = 1) : zX d 262 10 ls [zI x] A K = K (Sum.inl (some (zI x))) A := zx_iret z262 dJ4_contains_10 zk262 (by rcases h with q | q <;> subst q <;> rfl)
theorem s263_0 : zX d 263 0 [zO o, v1] st A K = zX d 263 1 [zO o, v1] (zO o :: st) A K := zx_aload_n z263 dJ4_add_0 rfl rfl
theorem s263_1 (h : tg A a = 14) : zX d 263 1 ls (zO (some a) :: st) A K = zX d 263 4 ls (fd A a 0 :: st) A K := zx_getf z263 zo263 dJ4_add_1 F15_7 rfl h
theorem s263_4 : zX d 263 4 [v0, zO o] st A K = zX d 263 5 [v0, zO o] (zO o :: st) A K := zx_aload_n z263 dJ4_add_4 rfl rfl
theorem s263_5 : zX d 263 5 ls st A K = zX d 263 8 ls (sg A 3 :: st) A K := zx_gets z263 zo263 dJ4_add_5 rfl rfl
theorem s263_8 (h : tg A a = 10)  : zX (d + 1) 263 8 ls (zO o1 :: zO o0 :: zO (some a) :: []) A K = zX d 236 0 [zO (some a), zO o0, zO o1] [] A (zK (d + 1) 263 8 13 ls [] K) := zx_callF (t := 10) z263 zo263 dJ4_add_8 rfl C15_69 rfl rfl zm236 rfl rfl (zwt_le (Nat.le_of_ble_eq_true rfl)) rfl h
theorem s263_13 : zX d 263 13 ls (zO o :: st) A K = (if o ≠ none then zX d 263 20 ls st A K else zX d 263 16 ls st A K) := zx_ifnonnull z263 dJ4_add_13 rfl rfl
theorem s263_16 : zX d 263 16 ls st A K = zX d 263 17 ls (zI 1 :: st) A K := zx_const z263 dJ4_add_16 (by decide) rfl
theorem s263_17 : zX d 263 17 ls st A K = zX d 263 21 ls st A K := zx_goto z263 dJ4_add_17 rfl
theorem s263_20 : zX d 263 20 ls st A K = zX d 263 21 ls (zI 0 :: st) A K := zx_const z263 dJ4_add_20 (by decide) rfl
theorem s263_21 (h : x = 0 ∨ x = 1) : zX d 263 21 ls [zI x] A K = K (Sum.inl (some (zI x))) A := zx_iret z263 dJ4_add_21 zk263 (by rcases h with q | q <;> subst q <;> rfl)
theorem s264_0 : zX d 264 0 [zO o] st A K = zX d 264 1 [zO o] (zO o :: st) A K := zx_aload_n z264 dJ4_size_0 rfl rfl
theorem s264_1 (h : tg A a = 14) : zX d 264 1 ls (zO (some a) :: st) A K = zX d 264 4 ls (fd A a 0 :: st) A K := zx_getf z264 zo264 dJ4_size_1 F15_7 rfl h
theorem s264_4 (h : tg A a = 10)  : zX (d + 1) 264 4 ls (zO (some a) :: []) A K = zX d 235 0 [zO (some a)] [] A (zK (d + 1) 264 4 9 ls [] K) := zx_callF (t := 10) z264 zo264 dJ4_size_4 rfl C15_53 rfl rfl zm235 rfl rfl (zwt_le (Nat.le_of_ble_eq_true rfl)) rfl h
theorem s264_9 : zX d 264 9 ls [zI x] A K = K (Sum.inl (some (zI x))) A := zx_iret z264 dJ4_size_9 zk264 rfl
theorem s265_0 : zX d 265 0 [zO o] st A K = zX d 265 1 [zO o] (zO o :: st) A K := zx_aload_n z265 dJ4_iterator_0 rfl rfl
theorem s265_1 (h : tg A a = 14) : zX d 265 1 ls (zO (some a) :: st) A K = zX d 265 4 ls (fd A a 0 :: st) A K := zx_getf z265 zo265 dJ4_iterator_1 F15_7 rfl h
theorem s265_4 (h : tg A a = 10)  : zX (d + 1) 265 4 ls (zO (some a) :: []) A K = zX d 252 0 [zO (some a), zU] [] A (zK (d + 1) 265 4 9 ls [] K) := zx_callF (t := 10) z265 zo265 dJ4_iterator_4 rfl C15_34 rfl rfl zm252 rfl rfl (zwt_le (Nat.le_of_ble_eq_true rfl)) rfl h
theorem s265_9 (h : tg A a = 12)  : zX (d + 1) 265 9 ls (zO (some a) :: []) A K = zX d 283 0 [zO (some a)] [] A (zK (d + 1) 265 9 14 ls [] K) := zx_callF (t := 12) z265 zo265 dJ4_iterator_9 rfl C15_40 rfl rfl zm283 rfl rfl (zwt_le (Nat.le_of_ble_eq_true rfl)) rfl h
theorem s265_14 : zX d 265 14 ls [zO o] A K = K (Sum.inl (some (zO o))) A := zx_aret z265 dJ4_iterator_14 rfl
theorem s266_0 : zX d 266 0 [zO o] st A K = zX d 266 1 [zO o] (zO o :: st) A K := zx_aload_n z266 dJ5_init_0 rfl rfl
theorem s266_1 : zX d 266 1 ls (zO (some a) :: []) A K = zX d 266 4 ls [] A K := zx_inI z266 zo266 dJ5_init_1 rfl rfl rfl (zin_1 (zwt_le (Nat.le_of_ble_eq_true rfl)))
theorem s266_4 : zX d 266 4 [zO o] st A K = zX d 266 5 [zO o] (zO o :: st) A K := zx_aload_n z266 dJ5_init_4 rfl rfl
theorem s266_5 : zX d 266 5 [zO o] st A K = zX d 266 6 [zO o] (zO o :: st) A K := zx_aload_n z266 dJ5_init_5 rfl rfl
theorem s266_6 (h : tg A a = 5) : zX d 266 6 ls (zO o :: zO (some a) :: st) A K = zX d 266 9 ls st (pF A a 0 (zO o)) K := zx_putf (q := 3) z266 zo266 dJ5_init_6 F16_7 rfl rfl rfl h rfl
theorem s266_9 : zX d 266 9 [zO o] st A K = zX d 266 10 [zO o] (zO o :: st) A K := zx_aload_n z266 dJ5_init_9 rfl rfl
theorem s266_10 : zX d 266 10 ls st A K = zX d 266 13 ls (sg A 4 :: st) A K := zx_gets z266 zo266 dJ5_init_10 rfl rfl
theorem s266_13 (h : tg A a = 5) : zX d 266 13 ls (zO o :: zO (some a) :: st) A K = zX d 266 16 ls st (pF A a 1 (zO o)) K := zx_putf (q := 3) z266 zo266 dJ5_init_13 F16_17 rfl rfl rfl h rfl
theorem s266_16 : zX d 266 16 [zO o] st A K = zX d 266 17 [zO o] (zO o :: st) A K := zx_aload_n z266 dJ5_init_16 rfl rfl
theorem s266_17 : zX d 266 17 ls st A K = zX d 266 20 ls (sg A 5 :: st) A K := zx_gets z266 zo266 dJ5_init_17 rfl rfl
theorem s266_20 (h : tg A a = 5) : zX d 266 20 ls (zO o :: zO (some a) :: st) A K = zX d 266 23 ls st (pF A a 2 (zO o)) K := zx_putf (q := 3) z266 zo266 dJ5_init_20 F16_24 rfl rfl rfl h rfl
theorem s266_23 : zX d 266 23 [zO o] st A K = zX d 266 24 [zO o] (zO o :: st) A K := zx_aload_n z266 dJ5_init_23 rfl rfl
theorem s266_27 (h : zc v = true) : zX d 266 27 ls (v :: st) A K = zX d 266 28 ls st A K := zx_pop z266 dJ5_init_27 rfl h
theorem s266_28 : zX d 266 28 ls [] A K = K (Sum.inl none) A := zx_vret z266 dJ5_init_28 rfl
theorem s267_0 : zX d 267 0 [zO o, v1, v2, v3, v4] st A K = zX d 267 1 [zO o, v1, v2, v3, v4] (zO o :: st) A K := zx_aload_n z267 dJ5_init_2_0 rfl rfl
theorem s267_1 : zX d 267 1 ls (zO (some a) :: []) A K = zX d 267 4 ls [] A K := zx_inI z267 zo267 dJ5_init_2_1 rfl rfl rfl (zin_1 (zwt_le (Nat.le_of_ble_eq_true rfl)))
theorem s267_4 : zX d 267 4 [zO o, v1, v2, v3, v4] st A K = zX d 267 5 [zO o, v1, v2, v3, v4] (zO o :: st) A K := zx_aload_n z267 dJ5_init_2_4 rfl rfl
theorem s267_5 : zX d 267 5 [zO o, v1, v2, v3, v4] st A K = zX d 267 6 [zO o, v1, v2, v3, v4] (zO o :: st) A K := zx_aload_n z267 dJ5_init_2_5 rfl rfl
theorem s267_6 (h : tg A a = 5) : zX d 267 6 ls (zO o :: zO (some a) :: st) A K = zX d 267 9 ls st (pF A a 0 (zO o)) K := zx_putf (q := 3) z267 zo267 dJ5_init_2_6 F16_7 rfl rfl rfl h rfl
theorem s267_9 : zX d 267 9 [zO o, v1, v2, v3, v4] st A K = zX d 267 10 [zO o, v1, v2, v3, v4] (zO o :: st) A K := zx_aload_n z267 dJ5_init_2_9 rfl rfl
theorem s267_10 : zX d 267 10 ls st A K = zX d 267 13 ls (sg A 4 :: st) A K := zx_gets z267 zo267 dJ5_init_2_10 rfl rfl
theorem s267_13 (h : tg A a = 5) : zX d 267 13 ls (zO o :: zO (some a) :: st) A K = zX d 267 16 ls st (pF A a 1 (zO o)) K := zx_putf (q := 3) z267 zo267 dJ5_init_2_13 F16_17 rfl rfl rfl h rfl
theorem s267_16 : zX d 267 16 [zO o, v1, v2, v3, v4] st A K = zX d 267 17 [zO o, v1, v2, v3, v4] (zO o :: st) A K := zx_aload_n z267 dJ5_init_2_16 rfl rfl
theorem s267_17 : zX d 267 17 ls st A K = zX d 267 20 ls (sg A 5 :: st) A K := zx_gets z267 zo267 dJ5_init_2_17 rfl rfl
theorem s267_20 (h : tg A a = 5) : zX d 267 20 ls (zO o :: zO (some a) :: st) A K = zX d 267 23 ls st (pF A a 2 (zO o)) K := zx_putf (q := 3) z267 zo267 dJ5_init_2_20 F16_24 rfl rfl rfl h rfl
theorem s267_23 : zX d 267 23 [v0, v1, v2, v3, zI x] st A K = zX d 267 25 [v0, v1, v2, v3, zI x] (zI x :: st) A K := zx_iload z267 dJ5_init_2_23 rfl rfl
theorem s267_25 : zX d 267 25 ls (zI x :: st) A K = (if x = 0 then zX d 267 36 ls st A K else zX d 267 28 ls st A K) := zx_if_eq z267 dJ5_init_2_25 rfl rfl
theorem s267_28 : zX d 267 28 [zO o, v1, v2, v3, v4] st A K = zX d 267 29 [zO o, v1, v2, v3, v4] (zO o :: st) A K := zx_aload_n z267 dJ5_init_2_28 rfl rfl
theorem s267_32 (h : zc v = true) : zX d 267 32 ls (v :: st) A K = zX d 267 33 ls st A K := zx_pop z267 dJ5_init_2_32 rfl h
theorem s267_33 : zX d 267 33 ls st A K = zX d 267 41 ls st A K := zx_goto z267 dJ5_init_2_33 rfl
theorem s267_36 : zX d 267 36 [zO o, v1, v2, v3, v4] st A K = zX d 267 37 [zO o, v1, v2, v3, v4] (zO o :: st) A K := zx_aload_n z267 dJ5_init_2_36 rfl rfl
theorem s267_37 : zX d 267 37 ls st A K = zX d 267 38 ls (zO none :: st) A K := zx_null z267 dJ5_init_2_37 rfl
theorem s267_38 (h : tg A a = 5) : zX d 267 38 ls (zO o :: zO (some a) :: st) A K = zX d 267 41 ls st (pF A a 1 (zO o)) K := zx_putf (q := 3) z267 zo267 dJ5_init_2_38 F16_17 rfl rfl rfl h rfl
theorem s267_41 : zX d 267 41 [zO o, v1, v2, v3, v4] st A K = zX d 267 42 [zO o, v1, v2, v3, v4] (zO o :: st) A K := zx_aload_n z267 dJ5_init_2_41 rfl rfl
theorem s267_42 : zX d 267 42 [v0, zO o, v2, v3, v4] st A K = zX d 267 43 [v0, zO o, v2, v3, v4] (zO o :: st) A K := zx_aload_n z267 dJ5_init_2_42 rfl rfl
theorem s267_43 (h : tg A a = 5) : zX d 267 43 ls (zO o :: zO (some a) :: st) A K = zX d 267 46 ls st (pF A a 3 (zO o)) K := zx_putf (q := 3) z267 zo267 dJ5_init_2_43 F16_31 rfl rfl rfl h rfl
theorem s267_46 : zX d 267 46 [zO o, v1, v2, v3, v4] st A K = zX d 267 47 [zO o, v1, v2, v3, v4] (zO o :: st) A K := zx_aload_n z267 dJ5_init_2_46 rfl rfl
theorem s267_47 : zX d 267 47 [v0, v1, zO o, v3, v4] st A K = zX d 267 48 [v0, v1, zO o, v3, v4] (zO o :: st) A K := zx_aload_n z267 dJ5_init_2_47 rfl rfl
theorem s267_48 (h : tg A a = 5) : zX d 267 48 ls (zO o :: zO (some a) :: st) A K = zX d 267 51 ls st (pF A a 0 (zO o)) K := zx_putf (q := 3) z267 zo267 dJ5_init_2_48 F16_7 rfl rfl rfl h rfl
theorem s267_51 : zX d 267 51 [v0, v1, v2, zI x, v4] st A K = zX d 267 52 [v0, v1, v2, zI x, v4] (zI x :: st) A K := zx_iload_n z267 dJ5_init_2_51 rfl rfl
theorem s267_52 : zX d 267 52 ls (zI x :: st) A K = (if x ≠ 0 then zX d 267 60 ls st A K else zX d 267 55 ls st A K) := zx_if_ne z267 dJ5_init_2_52 rfl rfl
theorem s267_55 : zX d 267 55 [zO o, v1, v2, v3, v4] st A K = zX d 267 56 [zO o, v1, v2, v3, v4] (zO o :: st) A K := zx_aload_n z267 dJ5_init_2_55 rfl rfl
theorem s267_56 : zX d 267 56 ls st A K = zX d 267 57 ls (zO none :: st) A K := zx_null z267 dJ5_init_2_56 rfl
theorem s267_57 (h : tg A a = 5) : zX d 267 57 ls (zO o :: zO (some a) :: st) A K = zX d 267 60 ls st (pF A a 2 (zO o)) K := zx_putf (q := 3) z267 zo267 dJ5_init_2_57 F16_24 rfl rfl rfl h rfl
theorem s267_60 : zX d 267 60 ls [] A K = K (Sum.inl none) A := zx_vret z267 dJ5_init_2_60 rfl
theorem s268_0 : zX d 268 0 [zO o, v1, v2, v3, v4] st A K = zX d 268 1 [zO o, v1, v2, v3, v4] (zO o :: st) A K := zx_aload_n z268 dJ6_init_0 rfl rfl
theorem s268_1 : zX d 268 1 [v0, zO o, v2, v3, v4] st A K = zX d 268 2 [v0, zO o, v2, v3, v4] (zO o :: st) A K := zx_aload_n z268 dJ6_init_1 rfl rfl
theorem s268_2 : zX d 268 2 [v0, v1, zO o, v3, v4] st A K = zX d 268 3 [v0, v1, zO o, v3, v4] (zO o :: st) A K := zx_aload_n z268 dJ6_init_2 rfl rfl
theorem s268_3 : zX d 268 3 [v0, v1, v2, zI x, v4] st A K = zX d 268 4 [v0, v1, v2, zI x, v4] (zI x :: st) A K := zx_iload_n z268 dJ6_init_3 rfl rfl
theorem s268_4 : zX d 268 4 [v0, v1, v2, v3, zI x] st A K = zX d 268 6 [v0, v1, v2, v3, zI x] (zI x :: st) A K := zx_iload z268 dJ6_init_4 rfl rfl
theorem s268_6 : zX (d + 1) 268 6 ls (zI i3 :: zI i2 :: zO o1 :: zO o0 :: zO (some a) :: []) A K = zX d 267 0 [zO (some a), zO o0, zO o1, zI i2, zI i3] [] A (zK (d + 1) 268 6 9 ls [] K) := zx_callI z268 zo268 dJ6_init_6 rfl C17_16 rfl rfl zm267 rfl rfl (zwt_le (Nat.le_of_ble_eq_true rfl)) rfl
theorem s268_9 : zX d 268 9 ls [] A K = K (Sum.inl none) A := zx_vret z268 dJ6_init_9 rfl
theorem s269_0 : zX d 269 0 [zI x] st A K = zX d 269 1 [zI x] (zI x :: st) A K := zx_iload_n z269 dJ8_valueOf_0 rfl rfl
theorem s269_1 : zX d 269 1 ls st A K = zX d 269 3 ls (zI (-128) :: st) A K := zx_bipush z269 dJ8_valueOf_1 (by decide) rfl
theorem s269_3 : zX d 269 3 ls (zI y :: zI x :: st) A K = (if x < y then zX d 269 23 ls st A K else zX d 269 6 ls st A K) := zx_ic_lt z269 dJ8_valueOf_3 rfl rfl
theorem s269_6 : zX d 269 6 [zI x] st A K = zX d 269 7 [zI x] (zI x :: st) A K := zx_iload_n z269 dJ8_valueOf_6 rfl rfl
theorem s269_7 : zX d 269 7 ls st A K = zX d 269 10 ls (sg A 0 :: st) A K := zx_gets z269 zo269 dJ8_valueOf_7 rfl rfl
theorem s269_10 : zX d 269 10 ls (zI y :: zI x :: st) A K = (if y < x then zX d 269 23 ls st A K else zX d 269 13 ls st A K) := zx_ic_gt z269 dJ8_valueOf_10 rfl rfl
theorem s269_13 : zX d 269 13 ls st A K = zX d 269 16 ls (sg A 1 :: st) A K := zx_gets z269 zo269 dJ8_valueOf_13 rfl rfl
theorem s269_16 : zX d 269 16 [zI x] st A K = zX d 269 17 [zI x] (zI x :: st) A K := zx_iload_n z269 dJ8_valueOf_16 rfl rfl
theorem s269_17 : zX d 269 17 ls st A K = zX d 269 20 ls (zI (128) :: st) A K := zx_sipush z269 dJ8_valueOf_17 (by decide) rfl
theorem s269_20 : zX d 269 20 ls (zI y :: zI x :: st) A K = zX d 269 21 ls (zI (zw (x + y)) :: st) A K := zx_iadd z269 dJ8_valueOf_20 rfl
theorem s269_21 (h : zarr (tg A a) = 3) (h0 : 0 ≤ x) (h1 : x.toNat < (ra A a).length) : zX d 269 21 ls (zI x :: zO (some a) :: st) A K = zX d 269 22 ls (zO ((ra A a).getD x.toNat none) :: st) A K := zx_aald z269 dJ8_valueOf_21 rfl h h0 h1
theorem s269_22 : zX d 269 22 ls [zO o] A K = K (Sum.inl (some (zO o))) A := zx_aret z269 dJ8_valueOf_22 rfl
theorem s269_26 (h : zc v = true) : zX d 269 26 ls (v :: st) A K = zX d 269 27 ls (v :: v :: st) A K := zx_dup z269 dJ8_valueOf_26 rfl h
theorem s269_27 : zX d 269 27 [zI x] st A K = zX d 269 28 [zI x] (zI x :: st) A K := zx_iload_n z269 dJ8_valueOf_27 rfl rfl
theorem s269_31 : zX d 269 31 ls [zO o] A K = K (Sum.inl (some (zO o))) A := zx_aret z269 dJ8_valueOf_31 rfl
theorem s270_0 : zX d 270 0 [zO o, v1] st A K = zX d 270 1 [zO o, v1] (zO o :: st) A K := zx_aload_n z270 dJ8_compareTo_0 rfl rfl
theorem s270_1 : zX d 270 1 [v0, zO o] st A K = zX d 270 2 [v0, zO o] (zO o :: st) A K := zx_aload_n z270 dJ8_compareTo_1 rfl rfl
theorem s270_2 (h : ([32] : List Nat).contains (tg A a) = true) : zX d 270 2 ls (zO (some a) :: st) A K = zX d 270 5 ls (zO (some a) :: st) A K := zx_cast z270 zo270 dJ8_compareTo_2 rfl rfl h
theorem s270_2n : zX d 270 2 ls (zO none :: st) A K = zX d 270 5 ls (zO none :: st) A K := zx_castN z270 zo270 dJ8_compareTo_2 rfl rfl
theorem s270_5 (h : tg A a = 32)  : zX (d + 1) 270 5 ls (zO o0 :: zO (some a) :: []) A K = zX d 271 0 [zO (some a), zO o0] [] A (zK (d + 1) 270 5 8 ls [] K) := zx_callV (t := 32) z270 zo270 dJ8_compareTo_5 rfl C18_284 rfl rfl zm271 rfl rfl (zwt_le (Nat.le_of_ble_eq_true rfl)) rfl h
theorem s270_8 : zX d 270 8 ls [zI x] A K = K (Sum.inl (some (zI x))) A := zx_iret z270 dJ8_compareTo_8 zk270 rfl
theorem s271_0 : zX d 271 0 [zO o, v1] st A K = zX d 271 1 [zO o, v1] (zO o :: st) A K := zx_aload_n z271 dJ8_compareTo_2_0 rfl rfl
theorem s271_1 (h : tg A a = 32) : zX d 271 1 ls (zO (some a) :: st) A K = zX d 271 4 ls (fd A a 0 :: st) A K := zx_getf z271 zo271 dJ8_compareTo_2_1 F18_205 rfl h
theorem s271_4 : zX d 271 4 [v0, zO o] st A K = zX d 271 5 [v0, zO o] (zO o :: st) A K := zx_aload_n z271 dJ8_compareTo_2_4 rfl rfl
theorem s271_5 (h : tg A a = 32) : zX d 271 5 ls (zO (some a) :: st) A K = zX d 271 8 ls (fd A a 0 :: st) A K := zx_getf z271 zo271 dJ8_compareTo_2_5 F18_205 rfl h
theorem s271_8 : zX (d + 1) 271 8 ls (zI i1 :: zI i0 :: []) A K = zX d 272 0 [zI i0, zI i1] [] A (zK (d + 1) 271 8 11 ls [] K) := zx_callS z271 zo271 dJ8_compareTo_2_8 rfl C18_259 rfl rfl zm272 rfl rfl (zwt_le (Nat.le_of_ble_eq_true rfl)) rfl
theorem s271_11 : zX d 271 11 ls [zI x] A K = K (Sum.inl (some (zI x))) A := zx_iret z271 dJ8_compareTo_2_11 zk271 rfl
theorem s272_0 : zX d 272 0 [zI x, v1] st A K = zX d 272 1 [zI x, v1] (zI x :: st) A K := zx_iload_n z272 dJ8_compare_0 rfl rfl
theorem s272_1 : zX d 272 1 [v0, zI x] st A K = zX d 272 2 [v0, zI x] (zI x :: st) A K := zx_iload_n z272 dJ8_compare_1 rfl rfl
theorem s272_2 : zX d 272 2 ls (zI y :: zI x :: st) A K = (if y ≤ x then zX d 272 9 ls st A K else zX d 272 5 ls st A K) := zx_ic_ge z272 dJ8_compare_2 rfl rfl
theorem s272_5 : zX d 272 5 ls st A K = zX d 272 6 ls (zI (-1) :: st) A K := zx_const z272 dJ8_compare_5 (by decide) rfl
theorem s272_6 : zX d 272 6 ls st A K = zX d 272 19 ls st A K := zx_goto z272 dJ8_compare_6 rfl
theorem s272_9 : zX d 272 9 [zI x, v1] st A K = zX d 272 10 [zI x, v1] (zI x :: st) A K := zx_iload_n z272 dJ8_compare_9 rfl rfl
theorem s272_10 : zX d 272 10 [v0, zI x] st A K = zX d 272 11 [v0, zI x] (zI x :: st) A K := zx_iload_n z272 dJ8_compare_10 rfl rfl
theorem s272_11 : zX d 272 11 ls (zI y :: zI x :: st) A K = (if x ≠ y then zX d 272 18 ls st A K else zX d 272 14 ls st A K) := zx_ic_ne z272 dJ8_compare_11 rfl rfl
theorem s272_14 : zX d 272 14 ls st A K = zX d 272 15 ls (zI 0 :: st) A K := zx_const z272 dJ8_compare_14 (by decide) rfl
theorem s272_15 : zX d 272 15 ls st A K = zX d 272 19 ls st A K := zx_goto z272 dJ8_compare_15 rfl
theorem s272_18 : zX d 272 18 ls st A K = zX d 272 19 ls (zI 1 :: st) A K := zx_const z272 dJ8_compare_18 (by decide) rfl
theorem s272_19 : zX d 272 19 ls [zI x] A K = K (Sum.inl (some (zI x))) A := zx_iret z272 dJ8_compare_19 zk272 rfl
theorem s273_0 : zX d 273 0 [zO o] st A K = zX d 273 1 [zO o] (zO o :: st) A K := zx_aload_n z273 dJ8_intValue_0 rfl rfl
theorem s273_1 (h : tg A a = 32) : zX d 273 1 ls (zO (some a) :: st) A K = zX d 273 4 ls (fd A a 0 :: st) A K := zx_getf z273 zo273 dJ8_intValue_1 F18_205 rfl h
theorem s273_4 : zX d 273 4 ls [zI x] A K = K (Sum.inl (some (zI x))) A := zx_iret z273 dJ8_intValue_4 zk273 rfl
theorem s274_0 : zX d 274 0 [zI x, v1] st A K = zX d 274 1 [zI x, v1] (zI x :: st) A K := zx_iload_n z274 dJ9_checkIndex_0 rfl rfl
theorem s274_1 : zX d 274 1 [v0, zI x] st A K = zX d 274 2 [v0, zI x] (zI x :: st) A K := zx_iload_n z274 dJ9_checkIndex_1 rfl rfl
theorem s274_2 : zX d 274 2 ls st A K = zX d 274 5 ls (sg A 6 :: st) A K := zx_gets z274 zo274 dJ9_checkIndex_2 rfl rfl
theorem s274_5 : zX (d + 1) 274 5 ls (zO o2 :: zI i1 :: zI i0 :: []) A K = zX d 279 0 [zI i0, zI i1, zO o2] [] A (zK (d + 1) 274 5 8 ls [] K) := zx_callS z274 zo274 dJ9_checkIndex_5 rfl C19_1059 rfl rfl zm279 rfl rfl (zwt_le (Nat.le_of_ble_eq_true rfl)) rfl
theorem s274_8 (h : zc v = true) : zX d 274 8 ls (v :: st) A K = zX d 274 9 ls st A K := zx_pop z274 dJ9_checkIndex_8 rfl h
theorem s274_9 : zX d 274 9 ls [] A K = K (Sum.inl none) A := zx_vret z274 dJ9_checkIndex_9 rfl
theorem s275_0 : zX d 275 0 [zI x] st A K = zX d 275 1 [zI x] (zI x :: st) A K := zx_iload_n z275 dJ10_canEncode_0 rfl rfl
theorem s275_1 : zX d 275 1 ls st A K = zX d 275 4 ls (zI (255) :: st) A K := zx_sipush z275 dJ10_canEncode_1 (by decide) rfl
theorem s275_4 : zX d 275 4 ls (zI y :: zI x :: st) A K = (if y < x then zX d 275 11 ls st A K else zX d 275 7 ls st A K) := zx_ic_gt z275 dJ10_canEncode_4 rfl rfl
theorem s275_7 : zX d 275 7 ls st A K = zX d 275 8 ls (zI 1 :: st) A K := zx_const z275 dJ10_canEncode_7 (by decide) rfl
theorem s275_8 : zX d 275 8 ls st A K = zX d 275 12 ls st A K := zx_goto z275 dJ10_canEncode_8 rfl
theorem s275_11 : zX d 275 11 ls st A K = zX d 275 12 ls (zI 0 :: st) A K := zx_const z275 dJ10_canEncode_11 (by decide) rfl
theorem s275_12 (h : x = 0 ∨ x = 1) : zX d 275 12 ls [zI x] A K = K (Sum.inl (some (zI x))) A := zx_iret z275 dJ10_canEncode_12 zk275 (by rcases h with q | q <;> subst q <;> rfl)
theorem s276_0 : zX d 276 0 [zI x, v1] st A K = zX d 276 1 [zI x, v1] (zI x :: st) A K := zx_iload_n z276 dJ11_min_0 rfl rfl
theorem s276_1 : zX d 276 1 [v0, zI x] st A K = zX d 276 2 [v0, zI x] (zI x :: st) A K := zx_iload_n z276 dJ11_min_1 rfl rfl
theorem s276_2 : zX d 276 2 ls (zI y :: zI x :: st) A K = (if y < x then zX d 276 9 ls st A K else zX d 276 5 ls st A K) := zx_ic_gt z276 dJ11_min_2 rfl rfl
theorem s276_5 : zX d 276 5 [zI x, v1] st A K = zX d 276 6 [zI x, v1] (zI x :: st) A K := zx_iload_n z276 dJ11_min_5 rfl rfl
theorem s276_6 : zX d 276 6 ls st A K = zX d 276 10 ls st A K := zx_goto z276 dJ11_min_6 rfl
theorem s276_9 : zX d 276 9 [v0, zI x] st A K = zX d 276 10 [v0, zI x] (zI x :: st) A K := zx_iload_n z276 dJ11_min_9 rfl rfl
theorem s276_10 : zX d 276 10 ls [zI x] A K = K (Sum.inl (some (zI x))) A := zx_iret z276 dJ11_min_10 zk276 rfl
theorem s277_0 : zX d 277 0 [zI x, v1] st A K = zX d 277 1 [zI x, v1] (zI x :: st) A K := zx_iload_n z277 dJ11_max_0 rfl rfl
theorem s277_1 : zX d 277 1 [v0, zI x] st A K = zX d 277 2 [v0, zI x] (zI x :: st) A K := zx_iload_n z277 dJ11_max_1 rfl rfl
theorem s277_2 : zX d 277 2 ls (zI y :: zI x :: st) A K = (if x < y then zX d 277 9 ls st A K else zX d 277 5 ls st A K) := zx_ic_lt z277 dJ11_max_2 rfl rfl
theorem s277_5 : zX d 277 5 [zI x, v1] st A K = zX d 277 6 [zI x, v1] (zI x :: st) A K := zx_iload_n z277 dJ11_max_5 rfl rfl
theorem s277_6 : zX d 277 6 ls st A K = zX d 277 10 ls st A K := zx_goto z277 dJ11_max_6 rfl
theorem s277_9 : zX d 277 9 [v0, zI x] st A K = zX d 277 10 [v0, zI x] (zI x :: st) A K := zx_iload_n z277 dJ11_max_9 rfl rfl
theorem s277_10 : zX d 277 10 ls [zI x] A K = K (Sum.inl (some (zI x))) A := zx_iret z277 dJ11_max_10 zk277 rfl
theorem s278_0 : zX d 278 0 [zI x, v1, v2, v3] st A K = zX d 278 1 [zI x, v1, v2, v3] (zI x :: st) A K := zx_iload_n z278 dJ12_newLength_0 rfl rfl
theorem s278_1 : zX d 278 1 [v0, zI x, v2, v3] st A K = zX d 278 2 [v0, zI x, v2, v3] (zI x :: st) A K := zx_iload_n z278 dJ12_newLength_1 rfl rfl
theorem s278_2 : zX d 278 2 [v0, v1, zI x, v3] st A K = zX d 278 3 [v0, v1, zI x, v3] (zI x :: st) A K := zx_iload_n z278 dJ12_newLength_2 rfl rfl
theorem s278_3 : zX (d + 1) 278 3 ls (zI i1 :: zI i0 :: [w0]) A K = zX d 277 0 [zI i0, zI i1] [] A (zK (d + 1) 278 3 6 ls [w0] K) := zx_callS z278 zo278 dJ12_newLength_3 rfl C22_194 rfl rfl zm277 rfl rfl (zwt_le (Nat.le_of_ble_eq_true rfl)) rfl
theorem s278_6 : zX d 278 6 ls (zI y :: zI x :: st) A K = zX d 278 7 ls (zI (zw (x + y)) :: st) A K := zx_iadd z278 dJ12_newLength_6 rfl
theorem s278_7 : zX d 278 7 [v0, v1, v2, v3] (zI x :: st) A K = zX d 278 8 [v0, v1, v2, zI x] st A K := zx_istore_n z278 dJ12_newLength_7 (Nat.le_of_ble_eq_true rfl) rfl rfl
theorem s278_8 : zX d 278 8 ls st A K = zX d 278 9 ls (zI 0 :: st) A K := zx_const z278 dJ12_newLength_8 (by decide) rfl
theorem s278_9 : zX d 278 9 [v0, v1, v2, zI x] st A K = zX d 278 10 [v0, v1, v2, zI x] (zI x :: st) A K := zx_iload_n z278 dJ12_newLength_9 rfl rfl
theorem s278_10 : zX d 278 10 ls (zI y :: zI x :: st) A K = (if y ≤ x then zX d 278 21 ls st A K else zX d 278 13 ls st A K) := zx_ic_ge z278 dJ12_newLength_10 rfl rfl
theorem s278_13 : zX d 278 13 [v0, v1, v2, zI x] st A K = zX d 278 14 [v0, v1, v2, zI x] (zI x :: st) A K := zx_iload_n z278 dJ12_newLength_13 rfl rfl
theorem s278_14 : zX d 278 14 ls st A K = zX d 278 16 ls (zI (2147483639) :: st) A K := zx_ldc z278 zo278 dJ12_newLength_14 rfl rfl
theorem s278_16 : zX d 278 16 ls (zI y :: zI x :: st) A K = (if y < x then zX d 278 21 ls st A K else zX d 278 19 ls st A K) := zx_ic_gt z278 dJ12_newLength_16 rfl rfl
theorem s278_19 : zX d 278 19 [v0, v1, v2, zI x] st A K = zX d 278 20 [v0, v1, v2, zI x] (zI x :: st) A K := zx_iload_n z278 dJ12_newLength_19 rfl rfl
theorem s278_20 : zX d 278 20 ls [zI x] A K = K (Sum.inl (some (zI x))) A := zx_iret z278 dJ12_newLength_20 zk278 rfl
theorem s278_21 : zX d 278 21 [zI x, v1, v2, v3] st A K = zX d 278 22 [zI x, v1, v2, v3] (zI x :: st) A K := zx_iload_n z278 dJ12_newLength_21 rfl rfl
theorem s278_22 : zX d 278 22 [v0, zI x, v2, v3] st A K = zX d 278 23 [v0, zI x, v2, v3] (zI x :: st) A K := zx_iload_n z278 dJ12_newLength_22 rfl rfl
theorem s278_26 : zX d 278 26 ls [zI x] A K = K (Sum.inl (some (zI x))) A := zx_iret z278 dJ12_newLength_26 zk278 rfl
theorem s279_0 : zX d 279 0 [zI x, v1, v2] st A K = zX d 279 1 [zI x, v1, v2] (zI x :: st) A K := zx_iload_n z279 dJ16_checkIndex_0 rfl rfl
theorem s279_1 : zX d 279 1 ls (zI x :: st) A K = (if x < 0 then zX d 279 9 ls st A K else zX d 279 4 ls st A K) := zx_if_lt z279 dJ16_checkIndex_1 rfl rfl
theorem s279_4 : zX d 279 4 [zI x, v1, v2] st A K = zX d 279 5 [zI x, v1, v2] (zI x :: st) A K := zx_iload_n z279 dJ16_checkIndex_4 rfl rfl
theorem s279_5 : zX d 279 5 [v0, zI x, v2] st A K = zX d 279 6 [v0, zI x, v2] (zI x :: st) A K := zx_iload_n z279 dJ16_checkIndex_5 rfl rfl
theorem s279_6 : zX d 279 6 ls (zI y :: zI x :: st) A K = (if x < y then zX d 279 16 ls st A K else zX d 279 9 ls st A K) := zx_ic_lt z279 dJ16_checkIndex_6 rfl rfl
theorem s279_9 : zX d 279 9 [v0, v1, zO o] st A K = zX d 279 10 [v0, v1, zO o] (zO o :: st) A K := zx_aload_n z279 dJ16_checkIndex_9 rfl rfl
theorem s279_10 : zX d 279 10 [zI x, v1, v2] st A K = zX d 279 11 [zI x, v1, v2] (zI x :: st) A K := zx_iload_n z279 dJ16_checkIndex_10 rfl rfl
theorem s279_11 : zX d 279 11 [v0, zI x, v2] st A K = zX d 279 12 [v0, zI x, v2] (zI x :: st) A K := zx_iload_n z279 dJ16_checkIndex_11 rfl rfl
theorem s279_16 : zX d 279 16 [zI x, v1, v2] st A K = zX d 279 17 [zI x, v1, v2] (zI x :: st) A K := zx_iload_n z279 dJ16_checkIndex_16 rfl rfl
theorem s279_17 : zX d 279 17 ls [zI x] A K = K (Sum.inl (some (zI x))) A := zx_iret z279 dJ16_checkIndex_17 zk279 rfl
theorem s280_0 : zX d 280 0 [zO o, v1, v2, v3] st A K = zX d 280 1 [zO o, v1, v2, v3] (zO o :: st) A K := zx_aload_n z280 dJ17_init_0 rfl rfl
theorem s280_1 : zX d 280 1 ls (zO (some a) :: []) A K = zX d 280 4 ls [] A K := zx_inI z280 zo280 dJ17_init_1 rfl rfl rfl (zin_1 (zwt_le (Nat.le_of_ble_eq_true rfl)))
theorem s280_4 : zX d 280 4 [zO o, v1, v2, v3] st A K = zX d 280 5 [zO o, v1, v2, v3] (zO o :: st) A K := zx_aload_n z280 dJ17_init_4 rfl rfl
theorem s280_5 : zX d 280 5 ls st A K = zX d 280 6 ls (zI 1 :: st) A K := zx_const z280 dJ17_init_5 (by decide) rfl
theorem s280_6 (h : tg A a = 11) (h2 : x = 0 ∨ x = 1) : zX d 280 6 ls (zI x :: zO (some a) :: st) A K = zX d 280 9 ls st (pF A a 5 (zI x)) K := zx_putf (q := 1) z280 zo280 dJ17_init_6 F24_9 rfl rfl rfl h (by rcases h2 with q | q <;> subst q <;> rfl)
theorem s280_9 : zX d 280 9 [zO o, v1, v2, v3] st A K = zX d 280 10 [zO o, v1, v2, v3] (zO o :: st) A K := zx_aload_n z280 dJ17_init_9 rfl rfl
theorem s280_10 : zX d 280 10 [v0, zO o, v2, v3] st A K = zX d 280 11 [v0, zO o, v2, v3] (zO o :: st) A K := zx_aload_n z280 dJ17_init_10 rfl rfl
theorem s280_11 (h : tg A a = 11) : zX d 280 11 ls (zO o :: zO (some a) :: st) A K = zX d 280 14 ls st (pF A a 0 (zO o)) K := zx_putf (q := 3) z280 zo280 dJ17_init_11 F24_15 rfl rfl rfl h rfl
theorem s280_14 : zX d 280 14 [zO o, v1, v2, v3] st A K = zX d 280 15 [zO o, v1, v2, v3] (zO o :: st) A K := zx_aload_n z280 dJ17_init_14 rfl rfl
theorem s280_15 : zX d 280 15 [v0, v1, zO o, v3] st A K = zX d 280 16 [v0, v1, zO o, v3] (zO o :: st) A K := zx_aload_n z280 dJ17_init_15 rfl rfl
theorem s280_16 (h : tg A a = 11) : zX d 280 16 ls (zO o :: zO (some a) :: st) A K = zX d 280 19 ls st (pF A a 1 (zO o)) K := zx_putf (q := 3) z280 zo280 dJ17_init_16 F24_19 rfl rfl rfl h rfl
theorem s280_19 : zX d 280 19 [zO o, v1, v2, v3] st A K = zX d 280 20 [zO o, v1, v2, v3] (zO o :: st) A K := zx_aload_n z280 dJ17_init_19 rfl rfl
theorem s280_20 : zX d 280 20 [v0, v1, v2, zO o] st A K = zX d 280 21 [v0, v1, v2, zO o] (zO o :: st) A K := zx_aload_n z280 dJ17_init_20 rfl rfl
theorem s280_21 (h : tg A a = 11) : zX d 280 21 ls (zO o :: zO (some a) :: st) A K = zX d 280 24 ls st (pF A a 4 (zO o)) K := zx_putf (q := 3) z280 zo280 dJ17_init_21 F24_22 rfl rfl rfl h rfl
theorem s280_24 : zX d 280 24 ls [] A K = K (Sum.inl none) A := zx_vret z280 dJ17_init_24 rfl
theorem s281_0 : zX d 281 0 [zO o] st A K = zX d 281 1 [zO o] (zO o :: st) A K := zx_aload_n z281 dJ18_requireNonNull_0 rfl rfl
theorem s281_1 : zX d 281 1 ls (zO o :: st) A K = (if o ≠ none then zX d 281 12 ls st A K else zX d 281 4 ls st A K) := zx_ifnonnull z281 dJ18_requireNonNull_1 rfl rfl
theorem s281_7 (h : zc v = true) : zX d 281 7 ls (v :: st) A K = zX d 281 8 ls (v :: v :: st) A K := zx_dup z281 dJ18_requireNonNull_7 rfl h
theorem s281_12 : zX d 281 12 [zO o] st A K = zX d 281 13 [zO o] (zO o :: st) A K := zx_aload_n z281 dJ18_requireNonNull_12 rfl rfl
theorem s281_13 : zX d 281 13 ls [zO o] A K = K (Sum.inl (some (zO o))) A := zx_aret z281 dJ18_requireNonNull_13 rfl
theorem s282_0 : zX d 282 0 [zO o, v1] st A K = zX d 282 1 [zO o, v1] (zO o :: st) A K := zx_aload_n z282 dJ19_init_0 rfl rfl
theorem s282_1 : zX (d + 1) 282 1 ls (zO (some a) :: []) A K = zX d 258 0 [zO (some a)] [] A (zK (d + 1) 282 1 4 ls [] K) := zx_callI z282 zo282 dJ19_init_1 rfl C26_1 rfl rfl zm258 rfl rfl (zwt_le (Nat.le_of_ble_eq_true rfl)) rfl
theorem s282_4 : zX d 282 4 [zO o, v1] st A K = zX d 282 5 [zO o, v1] (zO o :: st) A K := zx_aload_n z282 dJ19_init_4 rfl rfl
theorem s282_5 : zX d 282 5 [v0, zO o] st A K = zX d 282 6 [v0, zO o] (zO o :: st) A K := zx_aload_n z282 dJ19_init_5 rfl rfl
theorem s282_6 (h : tg A a = 12) : zX d 282 6 ls (zO o :: zO (some a) :: st) A K = zX d 282 9 ls st (pF A a 0 (zO o)) K := zx_putf (q := 3) z282 zo282 dJ19_init_6 F26_7 rfl rfl rfl h rfl
theorem s282_9 : zX d 282 9 ls [] A K = K (Sum.inl none) A := zx_vret z282 dJ19_init_9 rfl
theorem s283_0 : zX d 283 0 [zO o] st A K = zX d 283 1 [zO o] (zO o :: st) A K := zx_aload_n z283 dJ19_iterator_0 rfl rfl
theorem s283_1 (h : tg A a = 12) : zX d 283 1 ls (zO (some a) :: st) A K = zX d 283 4 ls (fd A a 0 :: st) A K := zx_getf z283 zo283 dJ19_iterator_1 F26_7 rfl h
theorem s283_4 (h : ([10] : List Nat).contains (tg A a) = true) (h2 : tg A a < 20) : zX d 283 4 ls (zO (some a) :: st) A K = zX d 283 7 ls (zI 1 :: st) A K := zx_inst z283 zo283 dJ19_iterator_4 rfl rfl h h2
theorem s283_7 : zX d 283 7 ls (zI x :: st) A K = (if x = 0 then zX d 283 21 ls st A K else zX d 283 10 ls st A K) := zx_if_eq z283 dJ19_iterator_7 rfl rfl
theorem s283_10 : zX d 283 10 [zO o] st A K = zX d 283 11 [zO o] (zO o :: st) A K := zx_aload_n z283 dJ19_iterator_10 rfl rfl
theorem s283_11 (h : tg A a = 12) : zX d 283 11 ls (zO (some a) :: st) A K = zX d 283 14 ls (fd A a 0 :: st) A K := zx_getf z283 zo283 dJ19_iterator_11 F26_7 rfl h
theorem s283_14 (h : ([10] : List Nat).contains (tg A a) = true) : zX d 283 14 ls (zO (some a) :: st) A K = zX d 283 17 ls (zO (some a) :: st) A K := zx_cast z283 zo283 dJ19_iterator_14 rfl rfl h
theorem s283_14n : zX d 283 14 ls (zO none :: st) A K = zX d 283 17 ls (zO none :: st) A K := zx_castN z283 zo283 dJ19_iterator_14 rfl rfl
theorem s283_17 (h : tg A a = 10)  : zX (d + 1) 283 17 ls (zO (some a) :: []) A K = zX d 253 0 [zO (some a)] [] A (zK (d + 1) 283 17 20 ls [] K) := zx_callV (t := 10) z283 zo283 dJ19_iterator_17 rfl C26_15 rfl rfl zm253 rfl rfl (zwt_le (Nat.le_of_ble_eq_true rfl)) rfl h
theorem s283_20 : zX d 283 20 ls [zO o] A K = K (Sum.inl (some (zO o))) A := zx_aret z283 dJ19_iterator_20 rfl
theorem s283_21 : zX d 283 21 [zO o] st A K = zX d 283 22 [zO o] (zO o :: st) A K := zx_aload_n z283 dJ19_iterator_21 rfl rfl
theorem s283_22 (h : tg A a = 12) : zX d 283 22 ls (zO (some a) :: st) A K = zX d 283 25 ls (fd A a 0 :: st) A K := zx_getf z283 zo283 dJ19_iterator_22 F26_7 rfl h
theorem s283_31 : zX d 283 31 ls [zO o] A K = K (Sum.inl (some (zO o))) A := zx_aret z283 dJ19_iterator_31 rfl
theorem s284_0 : zX d 284 0 [zO o, v1, v2] st A K = zX d 284 1 [zO o, v1, v2] (zO o :: st) A K := zx_aload_n z284 dJ20_init_0 rfl rfl
theorem s284_1 : zX d 284 1 [v0, zO o, v2] st A K = zX d 284 2 [v0, zO o, v2] (zO o :: st) A K := zx_aload_n z284 dJ20_init_1 rfl rfl
theorem s284_2 (h : tg A a = 13) : zX d 284 2 ls (zO o :: zO (some a) :: st) A K = zX d 284 5 ls st (pF A a 3 (zO o)) K := zx_putf (q := 3) z284 zo284 dJ20_init_2 F27_1 rfl rfl rfl h rfl
theorem s284_5 : zX d 284 5 [zO o, v1, v2] st A K = zX d 284 6 [zO o, v1, v2] (zO o :: st) A K := zx_aload_n z284 dJ20_init_5 rfl rfl
theorem s284_6 : zX d 284 6 ls (zO (some a) :: []) A K = zX d 284 9 ls [] A K := zx_inI z284 zo284 dJ20_init_6 rfl rfl rfl (zin_1 (zwt_le (Nat.le_of_ble_eq_true rfl)))
theorem s284_9 : zX d 284 9 [zO o, v1, v2] st A K = zX d 284 10 [zO o, v1, v2] (zO o :: st) A K := zx_aload_n z284 dJ20_init_9 rfl rfl
theorem s284_10 : zX d 284 10 [v0, zO o, v2] st A K = zX d 284 11 [v0, zO o, v2] (zO o :: st) A K := zx_aload_n z284 dJ20_init_10 rfl rfl
theorem s284_11 (h : tg A a = 10) : zX d 284 11 ls (zO (some a) :: st) A K = zX d 284 14 ls (fd A a 5 :: st) A K := zx_getf z284 zo284 dJ20_init_11 F27_13 rfl h
theorem s284_14 (h : tg A a = 13) : zX d 284 14 ls (zI x :: zO (some a) :: st) A K = zX d 284 17 ls st (pF A a 2 (zI x)) K := zx_putf (q := 0) z284 zo284 dJ20_init_14 F27_19 rfl rfl rfl h rfl
theorem s284_17 : zX d 284 17 [zO o, v1, v2] st A K = zX d 284 18 [zO o, v1, v2] (zO o :: st) A K := zx_aload_n z284 dJ20_init_17 rfl rfl
theorem s284_18 : zX d 284 18 ls st A K = zX d 284 19 ls (zO none :: st) A K := zx_null z284 dJ20_init_18 rfl
theorem s284_19 (h : tg A a = 13) : zX d 284 19 ls (zO o :: zO (some a) :: st) A K = zX d 284 22 ls st (pF A a 1 (zO o)) K := zx_putf (q := 3) z284 zo284 dJ20_init_19 F27_22 rfl rfl rfl h rfl
theorem s284_22 : zX d 284 22 [zO o, v1, v2] st A K = zX d 284 23 [zO o, v1, v2] (zO o :: st) A K := zx_aload_n z284 dJ20_init_22 rfl rfl
theorem s284_23 : zX d 284 23 [v0, v1, zO o] st A K = zX d 284 24 [v0, v1, zO o] (zO o :: st) A K := zx_aload_n z284 dJ20_init_23 rfl rfl
theorem s284_24 (h : tg A a = 13) : zX d 284 24 ls (zO o :: zO (some a) :: st) A K = zX d 284 27 ls st (pF A a 0 (zO o)) K := zx_putf (q := 3) z284 zo284 dJ20_init_24 F27_26 rfl rfl rfl h rfl
theorem s284_27 : zX d 284 27 ls [] A K = K (Sum.inl none) A := zx_vret z284 dJ20_init_27 rfl
theorem s285_0 : zX d 285 0 [zO o] st A K = zX d 285 1 [zO o] (zO o :: st) A K := zx_aload_n z285 dJ20_hasNext_0 rfl rfl
theorem s285_1 (h : tg A a = 13) : zX d 285 1 ls (zO (some a) :: st) A K = zX d 285 4 ls (fd A a 0 :: st) A K := zx_getf z285 zo285 dJ20_hasNext_1 F27_26 rfl h
theorem s285_4 : zX d 285 4 ls (zO o :: st) A K = (if o = none then zX d 285 11 ls st A K else zX d 285 7 ls st A K) := zx_ifnull z285 dJ20_hasNext_4 rfl rfl
theorem s285_7 : zX d 285 7 ls st A K = zX d 285 8 ls (zI 1 :: st) A K := zx_const z285 dJ20_hasNext_7 (by decide) rfl
theorem s285_8 : zX d 285 8 ls st A K = zX d 285 12 ls st A K := zx_goto z285 dJ20_hasNext_8 rfl
theorem s285_11 : zX d 285 11 ls st A K = zX d 285 12 ls (zI 0 :: st) A K := zx_const z285 dJ20_hasNext_11 (by decide) rfl
theorem s285_12 (h : x = 0 ∨ x = 1) : zX d 285 12 ls [zI x] A K = K (Sum.inl (some (zI x))) A := zx_iret z285 dJ20_hasNext_12 zk285 (by rcases h with q | q <;> subst q <;> rfl)
theorem s286_0 : zX d 286 0 [zO o, v1] st A K = zX d 286 1 [zO o, v1] (zO o :: st) A K := zx_aload_n z286 dJ20_nextEntry_0 rfl rfl
theorem s286_1 (h : tg A a = 13) : zX d 286 1 ls (zO (some a) :: st) A K = zX d 286 4 ls (fd A a 0 :: st) A K := zx_getf z286 zo286 dJ20_nextEntry_1 F27_26 rfl h
theorem s286_4 : zX d 286 4 [v0, v1] (zO o :: st) A K = zX d 286 5 [v0, zO o] st A K := zx_astore_n z286 dJ20_nextEntry_4 (Nat.le_of_ble_eq_true rfl) rfl rfl
theorem s286_5 : zX d 286 5 [v0, zO o] st A K = zX d 286 6 [v0, zO o] (zO o :: st) A K := zx_aload_n z286 dJ20_nextEntry_5 rfl rfl
theorem s286_6 : zX d 286 6 ls (zO o :: st) A K = (if o ≠ none then zX d 286 17 ls st A K else zX d 286 9 ls st A K) := zx_ifnonnull z286 dJ20_nextEntry_6 rfl rfl
theorem s286_12 (h : zc v = true) : zX d 286 12 ls (v :: st) A K = zX d 286 13 ls (v :: v :: st) A K := zx_dup z286 dJ20_nextEntry_12 rfl h
theorem s286_17 : zX d 286 17 [zO o, v1] st A K = zX d 286 18 [zO o, v1] (zO o :: st) A K := zx_aload_n z286 dJ20_nextEntry_17 rfl rfl
theorem s286_18 (h : tg A a = 13) : zX d 286 18 ls (zO (some a) :: st) A K = zX d 286 21 ls (fd A a 3 :: st) A K := zx_getf z286 zo286 dJ20_nextEntry_18 F27_1 rfl h
theorem s286_21 (h : tg A a = 10) : zX d 286 21 ls (zO (some a) :: st) A K = zX d 286 24 ls (fd A a 5 :: st) A K := zx_getf z286 zo286 dJ20_nextEntry_21 F27_13 rfl h
theorem s286_24 : zX d 286 24 [zO o, v1] st A K = zX d 286 25 [zO o, v1] (zO o :: st) A K := zx_aload_n z286 dJ20_nextEntry_24 rfl rfl
theorem s286_25 (h : tg A a = 13) : zX d 286 25 ls (zO (some a) :: st) A K = zX d 286 28 ls (fd A a 2 :: st) A K := zx_getf z286 zo286 dJ20_nextEntry_25 F27_19 rfl h
theorem s286_28 : zX d 286 28 ls (zI y :: zI x :: st) A K = (if x = y then zX d 286 39 ls st A K else zX d 286 31 ls st A K) := zx_ic_eq z286 dJ20_nextEntry_28 rfl rfl
theorem s286_34 (h : zc v = true) : zX d 286 34 ls (v :: st) A K = zX d 286 35 ls (v :: v :: st) A K := zx_dup z286 dJ20_nextEntry_34 rfl h
theorem s286_39 : zX d 286 39 [zO o, v1] st A K = zX d 286 40 [zO o, v1] (zO o :: st) A K := zx_aload_n z286 dJ20_nextEntry_39 rfl rfl
theorem s286_40 : zX d 286 40 [v0, zO o] st A K = zX d 286 41 [v0, zO o] (zO o :: st) A K := zx_aload_n z286 dJ20_nextEntry_40 rfl rfl
theorem s286_41 : zX (d + 1) 286 41 ls (zO o0 :: [w0]) A K = zX d 255 0 [zO o0, zU, zU] [] A (zK (d + 1) 286 41 44 ls [w0] K) := zx_callS z286 zo286 dJ20_nextEntry_41 rfl C27_35 rfl rfl zm255 rfl rfl (zwt_le (Nat.le_of_ble_eq_true rfl)) rfl
theorem s286_44 (h : tg A a = 13) : zX d 286 44 ls (zO o :: zO (some a) :: st) A K = zX d 286 47 ls st (pF A a 0 (zO o)) K := zx_putf (q := 3) z286 zo286 dJ20_nextEntry_44 F27_26 rfl rfl rfl h rfl
theorem s286_47 : zX d 286 47 [zO o, v1] st A K = zX d 286 48 [zO o, v1] (zO o :: st) A K := zx_aload_n z286 dJ20_nextEntry_47 rfl rfl
theorem s286_48 : zX d 286 48 [v0, zO o] st A K = zX d 286 49 [v0, zO o] (zO o :: st) A K := zx_aload_n z286 dJ20_nextEntry_48 rfl rfl
theorem s286_49 (h : tg A a = 13) : zX d 286 49 ls (zO o :: zO (some a) :: st) A K = zX d 286 52 ls st (pF A a 1 (zO o)) K := zx_putf (q := 3) z286 zo286 dJ20_nextEntry_49 F27_22 rfl rfl rfl h rfl
theorem s286_52 : zX d 286 52 [v0, zO o] st A K = zX d 286 53 [v0, zO o] (zO o :: st) A K := zx_aload_n z286 dJ20_nextEntry_52 rfl rfl
theorem s286_53 : zX d 286 53 ls [zO o] A K = K (Sum.inl (some (zO o))) A := zx_aret z286 dJ20_nextEntry_53 rfl
theorem s287_0 : zX d 287 0 [zO o, v1, v2] st A K = zX d 287 1 [zO o, v1, v2] (zO o :: st) A K := zx_aload_n z287 dJ21_init_0 rfl rfl
theorem s287_1 : zX d 287 1 [v0, zO o, v2] st A K = zX d 287 2 [v0, zO o, v2] (zO o :: st) A K := zx_aload_n z287 dJ21_init_1 rfl rfl
theorem s287_2 : zX d 287 2 [v0, v1, zO o] st A K = zX d 287 3 [v0, v1, zO o] (zO o :: st) A K := zx_aload_n z287 dJ21_init_2 rfl rfl
theorem s287_3 : zX (d + 1) 287 3 ls (zO o1 :: zO o0 :: zO (some a) :: []) A K = zX d 284 0 [zO (some a), zO o0, zO o1] [] A (zK (d + 1) 287 3 6 ls [] K) := zx_callI z287 zo287 dJ21_init_3 rfl C28_1 rfl rfl zm284 rfl rfl (zwt_le (Nat.le_of_ble_eq_true rfl)) rfl
theorem s287_6 : zX d 287 6 ls [] A K = K (Sum.inl none) A := zx_vret z287 dJ21_init_6 rfl
theorem s288_0 : zX d 288 0 [zO o] st A K = zX d 288 1 [zO o] (zO o :: st) A K := zx_aload_n z288 dJ21_next_0 rfl rfl
theorem s288_1 (h : tg A a = 13)  : zX (d + 1) 288 1 ls (zO (some a) :: []) A K = zX d 286 0 [zO (some a), zU] [] A (zK (d + 1) 288 1 4 ls [] K) := zx_callV (t := 13) z288 zo288 dJ21_next_1 rfl C28_7 rfl rfl zm286 rfl rfl (zwt_le (Nat.le_of_ble_eq_true rfl)) rfl h
theorem s288_4 (h : tg A a = 11) : zX d 288 4 ls (zO (some a) :: st) A K = zX d 288 7 ls (fd A a 0 :: st) A K := zx_getf z288 zo288 dJ21_next_4 F28_13 rfl h
theorem s288_7 : zX d 288 7 ls [zO o] A K = K (Sum.inl (some (zO o))) A := zx_aret z288 dJ21_next_7 rfl
theorem s289_0 : zX d 289 0 ls st A K = zX d 289 3 ls (sg A 2 :: st) A K := zx_gets z289 zo289 dJ22_isLatin1_0 rfl rfl
theorem s289_3 : zX d 289 3 ls (zI x :: st) A K = (if x = 0 then zX d 289 17 ls st A K else zX d 289 6 ls st A K) := zx_if_eq z289 dJ22_isLatin1_3 rfl rfl
theorem s289_6 : zX d 289 6 [zO o] st A K = zX d 289 7 [zO o] (zO o :: st) A K := zx_aload_n z289 dJ22_isLatin1_6 rfl rfl
theorem s289_7 (h : tg A a = 16) : zX d 289 7 ls (zO (some a) :: st) A K = zX d 289 10 ls (fd A a 1 :: st) A K := zx_getf z289 zo289 dJ22_isLatin1_7 F29_22 rfl h
theorem s289_10 : zX d 289 10 ls (zI x :: st) A K = (if x ≠ 0 then zX d 289 17 ls st A K else zX d 289 13 ls st A K) := zx_if_ne z289 dJ22_isLatin1_10 rfl rfl
theorem s289_13 : zX d 289 13 ls st A K = zX d 289 14 ls (zI 1 :: st) A K := zx_const z289 dJ22_isLatin1_13 (by decide) rfl
theorem s289_14 : zX d 289 14 ls st A K = zX d 289 18 ls st A K := zx_goto z289 dJ22_isLatin1_14 rfl
theorem s289_17 : zX d 289 17 ls st A K = zX d 289 18 ls (zI 0 :: st) A K := zx_const z289 dJ22_isLatin1_17 (by decide) rfl
theorem s289_18 (h : x = 0 ∨ x = 1) : zX d 289 18 ls [zI x] A K = K (Sum.inl (some (zI x))) A := zx_iret z289 dJ22_isLatin1_18 zk289 (by rcases h with q | q <;> subst q <;> rfl)
theorem s290_0 : zX d 290 0 [zO o, v1] st A K = zX d 290 1 [zO o, v1] (zO o :: st) A K := zx_aload_n z290 dJ22_init_0 rfl rfl
theorem s290_1 : zX d 290 1 ls (zO (some a) :: []) A K = zX d 290 4 ls [] A K := zx_inI z290 zo290 dJ22_init_1 rfl rfl rfl (zin_1 (zwt_le (Nat.le_of_ble_eq_true rfl)))
theorem s290_4 : zX d 290 4 ls st A K = zX d 290 7 ls (sg A 2 :: st) A K := zx_gets z290 zo290 dJ22_init_4 rfl rfl
theorem s290_7 : zX d 290 7 ls (zI x :: st) A K = (if x = 0 then zX d 290 25 ls st A K else zX d 290 10 ls st A K) := zx_if_eq z290 dJ22_init_7 rfl rfl
theorem s290_10 : zX d 290 10 [zO o, v1] st A K = zX d 290 11 [zO o, v1] (zO o :: st) A K := zx_aload_n z290 dJ22_init_10 rfl rfl
theorem s290_11 : zX d 290 11 [v0, zI x] st A K = zX d 290 12 [v0, zI x] (zI x :: st) A K := zx_iload_n z290 dJ22_init_11 rfl rfl
theorem s290_12 (h : 0 ≤ x) (h2 : x ≤ 1000000) : zX d 290 12 ls (zI x :: st) A K = zX d 290 14 ls (zO (some (nx A)) :: st) (nA A 21 (List.replicate x.toNat 0)) K := zx_new_byte z290 dJ22_init_12 rfl h h2
theorem s290_14 (h : tg A a = 16) : zX d 290 14 ls (zO o :: zO (some a) :: st) A K = zX d 290 17 ls st (pF A a 0 (zO o)) K := zx_putf (q := 3) z290 zo290 dJ22_init_14 F29_15 rfl rfl rfl h rfl
theorem s290_17 : zX d 290 17 [zO o, v1] st A K = zX d 290 18 [zO o, v1] (zO o :: st) A K := zx_aload_n z290 dJ22_init_17 rfl rfl
theorem s290_18 : zX d 290 18 ls st A K = zX d 290 19 ls (zI 0 :: st) A K := zx_const z290 dJ22_init_18 (by decide) rfl
theorem s290_19 (h : tg A a = 16) (h2 : -128 ≤ x) (h3 : x ≤ 127) : zX d 290 19 ls (zI x :: zO (some a) :: st) A K = zX d 290 22 ls st (pF A a 1 (zI x)) K := zx_putf (q := 2) z290 zo290 dJ22_init_19 F29_22 rfl rfl rfl h (by simp [zfit, zI, h2, h3])
theorem s290_22 : zX d 290 22 ls st A K = zX d 290 38 ls st A K := zx_goto z290 dJ22_init_22 rfl
theorem s290_25 : zX d 290 25 [zO o, v1] st A K = zX d 290 26 [zO o, v1] (zO o :: st) A K := zx_aload_n z290 dJ22_init_25 rfl rfl
theorem s290_26 : zX d 290 26 [v0, zI x] st A K = zX d 290 27 [v0, zI x] (zI x :: st) A K := zx_iload_n z290 dJ22_init_26 rfl rfl
theorem s290_30 (h : tg A a = 16) : zX d 290 30 ls (zO o :: zO (some a) :: st) A K = zX d 290 33 ls st (pF A a 0 (zO o)) K := zx_putf (q := 3) z290 zo290 dJ22_init_30 F29_15 rfl rfl rfl h rfl
theorem s290_33 : zX d 290 33 [zO o, v1] st A K = zX d 290 34 [zO o, v1] (zO o :: st) A K := zx_aload_n z290 dJ22_init_33 rfl rfl
theorem s290_34 : zX d 290 34 ls st A K = zX d 290 35 ls (zI 1 :: st) A K := zx_const z290 dJ22_init_34 (by decide) rfl
theorem s290_35 (h : tg A a = 16) (h2 : -128 ≤ x) (h3 : x ≤ 127) : zX d 290 35 ls (zI x :: zO (some a) :: st) A K = zX d 290 38 ls st (pF A a 1 (zI x)) K := zx_putf (q := 2) z290 zo290 dJ22_init_35 F29_22 rfl rfl rfl h (by simp [zfit, zI, h2, h3])
theorem s290_38 : zX d 290 38 ls [] A K = K (Sum.inl none) A := zx_vret z290 dJ22_init_38 rfl
theorem s291_0 : zX d 291 0 [zO o, v1] st A K = zX d 291 1 [zO o, v1] (zO o :: st) A K := zx_aload_n z291 dJ22_append_0 rfl rfl
theorem s291_1 : zX d 291 1 [zO o, v1] st A K = zX d 291 2 [zO o, v1] (zO o :: st) A K := zx_aload_n z291 dJ22_append_1 rfl rfl
theorem s291_2 (h : tg A a = 16) : zX d 291 2 ls (zO (some a) :: st) A K = zX d 291 5 ls (fd A a 3 :: st) A K := zx_getf z291 zo291 dJ22_append_2 F29_79 rfl h
theorem s291_5 : zX d 291 5 ls st A K = zX d 291 6 ls (zI 1 :: st) A K := zx_const z291 dJ22_append_5 (by decide) rfl
theorem s291_6 : zX d 291 6 ls (zI y :: zI x :: st) A K = zX d 291 7 ls (zI (zw (x + y)) :: st) A K := zx_iadd z291 dJ22_append_6 rfl
theorem s291_7 (h : tg A a = 16)  : zX (d + 1) 291 7 ls (zI i0 :: zO (some a) :: []) A K = zX d 292 0 [zO (some a), zI i0, zU] [] A (zK (d + 1) 291 7 10 ls [] K) := zx_callV (t := 16) z291 zo291 dJ22_append_7 rfl C29_100 rfl rfl zm292 rfl rfl (zwt_le (Nat.le_of_ble_eq_true rfl)) rfl h
theorem s291_10 : zX d 291 10 [zO o, v1] st A K = zX d 291 11 [zO o, v1] (zO o :: st) A K := zx_aload_n z291 dJ22_append_10 rfl rfl
theorem s291_11 (h : tg A a = 16)  : zX (d + 1) 291 11 ls (zO (some a) :: []) A K = zX d 289 0 [zO (some a)] [] A (zK (d + 1) 291 11 14 ls [] K) := zx_callV (t := 16) z291 zo291 dJ22_append_11 rfl C29_83 rfl rfl zm289 rfl rfl (zwt_le (Nat.le_of_ble_eq_true rfl)) rfl h
theorem s291_14 : zX d 291 14 ls (zI x :: st) A K = (if x = 0 then zX d 291 45 ls st A K else zX d 291 17 ls st A K) := zx_if_eq z291 dJ22_append_14 rfl rfl
theorem s291_17 : zX d 291 17 [v0, zI x] st A K = zX d 291 18 [v0, zI x] (zI x :: st) A K := zx_iload_n z291 dJ22_append_17 rfl rfl
theorem s291_18 : zX (d + 1) 291 18 ls (zI i0 :: []) A K = zX d 275 0 [zI i0] [] A (zK (d + 1) 291 18 21 ls [] K) := zx_callS z291 zo291 dJ22_append_18 rfl C29_191 rfl rfl zm275 rfl rfl (zwt_le (Nat.le_of_ble_eq_true rfl)) rfl
theorem s291_21 : zX d 291 21 ls (zI x :: st) A K = (if x = 0 then zX d 291 45 ls st A K else zX d 291 24 ls st A K) := zx_if_eq z291 dJ22_append_21 rfl rfl
theorem s291_24 : zX d 291 24 [zO o, v1] st A K = zX d 291 25 [zO o, v1] (zO o :: st) A K := zx_aload_n z291 dJ22_append_24 rfl rfl
theorem s291_25 (h : tg A a = 16) : zX d 291 25 ls (zO (some a) :: st) A K = zX d 291 28 ls (fd A a 0 :: st) A K := zx_getf z291 zo291 dJ22_append_25 F29_15 rfl h
theorem s291_28 : zX d 291 28 [zO o, v1] st A K = zX d 291 29 [zO o, v1] (zO o :: st) A K := zx_aload_n z291 dJ22_append_28 rfl rfl
theorem s291_29 (h : zc v = true) : zX d 291 29 ls (v :: st) A K = zX d 291 30 ls (v :: v :: st) A K := zx_dup z291 dJ22_append_29 rfl h
theorem s291_30 (h : tg A a = 16) : zX d 291 30 ls (zO (some a) :: st) A K = zX d 291 33 ls (fd A a 3 :: st) A K := zx_getf z291 zo291 dJ22_append_30 F29_79 rfl h
theorem s291_33 (h : zc v = true) (h2 : zc u = true) : zX d 291 33 ls (v :: u :: st) A K = zX d 291 34 ls (v :: u :: v :: st) A K := zx_dup_x1 z291 dJ22_append_33 rfl h h2
theorem s291_34 : zX d 291 34 ls st A K = zX d 291 35 ls (zI 1 :: st) A K := zx_const z291 dJ22_append_34 (by decide) rfl
theorem s291_35 : zX d 291 35 ls (zI y :: zI x :: st) A K = zX d 291 36 ls (zI (zw (x + y)) :: st) A K := zx_iadd z291 dJ22_append_35 rfl
theorem s291_36 (h : tg A a = 16) : zX d 291 36 ls (zI x :: zO (some a) :: st) A K = zX d 291 39 ls st (pF A a 3 (zI x)) K := zx_putf (q := 0) z291 zo291 dJ22_append_36 F29_79 rfl rfl rfl h rfl
theorem s291_39 : zX d 291 39 [v0, zI x] st A K = zX d 291 40 [v0, zI x] (zI x :: st) A K := zx_iload_n z291 dJ22_append_39 rfl rfl
theorem s291_40 : zX d 291 40 ls (zI x :: st) A K = zX d 291 41 ls (zI (zhb x) :: st) A K := zx_i2b z291 dJ22_append_40 rfl
theorem s291_41 (h : tg A a = 21) (h0 : 0 ≤ x) (h1 : x.toNat < (ia A a).length) : zX d 291 41 ls (zI y :: zI x :: zO (some a) :: st) A K = zX d 291 42 ls st (pI A a ((ia A a).set x.toNat (zhb y))) K := zx_bast z291 dJ22_append_41 rfl h h0 h1
theorem s291_41z (h : tg A a = 22) (h2 : y = 0 ∨ y = 1) (h0 : 0 ≤ x) (h1 : x.toNat < (ia A a).length) : zX d 291 41 ls (zI y :: zI x :: zO (some a) :: st) A K = zX d 291 42 ls st (pI A a ((ia A a).set x.toNat y)) K := zx_zast z291 dJ22_append_41 rfl h h2 h0 h1
theorem s291_42 : zX d 291 42 ls st A K = zX d 291 75 ls st A K := zx_goto z291 dJ22_append_42 rfl
theorem s291_45 : zX d 291 45 [zO o, v1] st A K = zX d 291 46 [zO o, v1] (zO o :: st) A K := zx_aload_n z291 dJ22_append_45 rfl rfl
theorem s291_46 (h : tg A a = 16)  : zX (d + 1) 291 46 ls (zO (some a) :: []) A K = zX d 289 0 [zO (some a)] [] A (zK (d + 1) 291 46 49 ls [] K) := zx_callV (t := 16) z291 zo291 dJ22_append_46 rfl C29_83 rfl rfl zm289 rfl rfl (zwt_le (Nat.le_of_ble_eq_true rfl)) rfl h
theorem s291_49 : zX d 291 49 ls (zI x :: st) A K = (if x = 0 then zX d 291 56 ls st A K else zX d 291 52 ls st A K) := zx_if_eq z291 dJ22_append_49 rfl rfl
theorem s291_52 : zX d 291 52 [zO o, v1] st A K = zX d 291 53 [zO o, v1] (zO o :: st) A K := zx_aload_n z291 dJ22_append_52 rfl rfl
theorem s291_56 : zX d 291 56 [zO o, v1] st A K = zX d 291 57 [zO o, v1] (zO o :: st) A K := zx_aload_n z291 dJ22_append_56 rfl rfl
theorem s291_57 (h : tg A a = 16) : zX d 291 57 ls (zO (some a) :: st) A K = zX d 291 60 ls (fd A a 0 :: st) A K := zx_getf z291 zo291 dJ22_append_57 F29_15 rfl h
theorem s291_60 : zX d 291 60 [zO o, v1] st A K = zX d 291 61 [zO o, v1] (zO o :: st) A K := zx_aload_n z291 dJ22_append_60 rfl rfl
theorem s291_61 (h : zc v = true) : zX d 291 61 ls (v :: st) A K = zX d 291 62 ls (v :: v :: st) A K := zx_dup z291 dJ22_append_61 rfl h
theorem s291_62 (h : tg A a = 16) : zX d 291 62 ls (zO (some a) :: st) A K = zX d 291 65 ls (fd A a 3 :: st) A K := zx_getf z291 zo291 dJ22_append_62 F29_79 rfl h
theorem s291_65 (h : zc v = true) (h2 : zc u = true) : zX d 291 65 ls (v :: u :: st) A K = zX d 291 66 ls (v :: u :: v :: st) A K := zx_dup_x1 z291 dJ22_append_65 rfl h h2
theorem s291_66 : zX d 291 66 ls st A K = zX d 291 67 ls (zI 1 :: st) A K := zx_const z291 dJ22_append_66 (by decide) rfl
theorem s291_67 : zX d 291 67 ls (zI y :: zI x :: st) A K = zX d 291 68 ls (zI (zw (x + y)) :: st) A K := zx_iadd z291 dJ22_append_67 rfl
theorem s291_68 (h : tg A a = 16) : zX d 291 68 ls (zI x :: zO (some a) :: st) A K = zX d 291 71 ls st (pF A a 3 (zI x)) K := zx_putf (q := 0) z291 zo291 dJ22_append_68 F29_79 rfl rfl rfl h rfl
theorem s291_71 : zX d 291 71 [v0, zI x] st A K = zX d 291 72 [v0, zI x] (zI x :: st) A K := zx_iload_n z291 dJ22_append_71 rfl rfl
theorem s291_75 : zX d 291 75 [zO o, v1] st A K = zX d 291 76 [zO o, v1] (zO o :: st) A K := zx_aload_n z291 dJ22_append_75 rfl rfl
theorem s291_76 : zX d 291 76 ls [zO o] A K = K (Sum.inl (some (zO o))) A := zx_aret z291 dJ22_append_76 rfl
theorem s292_0 : zX d 292 0 [zO o, v1, v2] st A K = zX d 292 1 [zO o, v1, v2] (zO o :: st) A K := zx_aload_n z292 dJ22_ensureCapacityInternal_0 rfl rfl
theorem s292_1 (h : tg A a = 16) : zX d 292 1 ls (zO (some a) :: st) A K = zX d 292 4 ls (fd A a 0 :: st) A K := zx_getf z292 zo292 dJ22_ensureCapacityInternal_1 F29_15 rfl h
theorem s292_4 (h : zarr (tg A a) ≠ 0) : zX d 292 4 ls (zO (some a) :: st) A K = zX d 292 5 ls (zI (zlen A a : Nat) :: st) A K := zx_alen z292 dJ22_ensureCapacityInternal_4 rfl h
theorem s292_5 : zX d 292 5 [zO o, v1, v2] st A K = zX d 292 6 [zO o, v1, v2] (zO o :: st) A K := zx_aload_n z292 dJ22_ensureCapacityInternal_5 rfl rfl
theorem s292_6 (h : tg A a = 16) : zX d 292 6 ls (zO (some a) :: st) A K = zX d 292 9 ls (fd A a 1 :: st) A K := zx_getf z292 zo292 dJ22_ensureCapacityInternal_6 F29_22 rfl h
theorem s292_9 : zX d 292 9 ls (zI y :: zI x :: st) A K = zX d 292 10 ls (zI ((Int32.ofInt x >>> (Int32.ofInt y &&& 31)).toInt) :: st) A K := zx_ishr z292 dJ22_ensureCapacityInternal_9 rfl
theorem s292_10 : zX d 292 10 [v0, v1, v2] (zI x :: st) A K = zX d 292 11 [v0, v1, zI x] st A K := zx_istore_n z292 dJ22_ensureCapacityInternal_10 (Nat.le_of_ble_eq_true rfl) rfl rfl
theorem s292_11 : zX d 292 11 [v0, zI x, v2] st A K = zX d 292 12 [v0, zI x, v2] (zI x :: st) A K := zx_iload_n z292 dJ22_ensureCapacityInternal_11 rfl rfl
theorem s292_12 : zX d 292 12 [v0, v1, zI x] st A K = zX d 292 13 [v0, v1, zI x] (zI x :: st) A K := zx_iload_n z292 dJ22_ensureCapacityInternal_12 rfl rfl
theorem s292_13 : zX d 292 13 ls (zI y :: zI x :: st) A K = zX d 292 14 ls (zI (zw (x - y)) :: st) A K := zx_isub z292 dJ22_ensureCapacityInternal_13 rfl
theorem s292_14 : zX d 292 14 ls (zI x :: st) A K = (if x ≤ 0 then zX d 292 38 ls st A K else zX d 292 17 ls st A K) := zx_if_le z292 dJ22_ensureCapacityInternal_14 rfl rfl
theorem s292_17 : zX d 292 17 [zO o, v1, v2] st A K = zX d 292 18 [zO o, v1, v2] (zO o :: st) A K := zx_aload_n z292 dJ22_ensureCapacityInternal_17 rfl rfl
theorem s292_18 : zX d 292 18 [zO o, v1, v2] st A K = zX d 292 19 [zO o, v1, v2] (zO o :: st) A K := zx_aload_n z292 dJ22_ensureCapacityInternal_18 rfl rfl
theorem s292_19 (h : tg A a = 16) : zX d 292 19 ls (zO (some a) :: st) A K = zX d 292 22 ls (fd A a 0 :: st) A K := zx_getf z292 zo292 dJ22_ensureCapacityInternal_19 F29_15 rfl h
theorem s292_22 : zX d 292 22 [zO o, v1, v2] st A K = zX d 292 23 [zO o, v1, v2] (zO o :: st) A K := zx_aload_n z292 dJ22_ensureCapacityInternal_22 rfl rfl
theorem s292_23 : zX d 292 23 [v0, zI x, v2] st A K = zX d 292 24 [v0, zI x, v2] (zI x :: st) A K := zx_iload_n z292 dJ22_ensureCapacityInternal_23 rfl rfl
theorem s292_24 (h : tg A a = 16)  : zX (d + 1) 292 24 ls (zI i0 :: zO (some a) :: [w0, w1]) A K = zX d 293 0 [zO (some a), zI i0, zU, zU, zU, zU] [] A (zK (d + 1) 292 24 27 ls [w0, w1] K) := zx_callV (t := 16) z292 zo292 dJ22_ensureCapacityInternal_24 rfl C29_104 rfl rfl zm293 rfl rfl (zwt_le (Nat.le_of_ble_eq_true rfl)) rfl h
theorem s292_27 : zX d 292 27 [zO o, v1, v2] st A K = zX d 292 28 [zO o, v1, v2] (zO o :: st) A K := zx_aload_n z292 dJ22_ensureCapacityInternal_27 rfl rfl
theorem s292_28 (h : tg A a = 16) : zX d 292 28 ls (zO (some a) :: st) A K = zX d 292 31 ls (fd A a 1 :: st) A K := zx_getf z292 zo292 dJ22_ensureCapacityInternal_28 F29_22 rfl h
theorem s292_31 : zX d 292 31 ls (zI y :: zI x :: st) A K = zX d 292 32 ls (zI ((Int32.ofInt x <<< (Int32.ofInt y &&& 31)).toInt) :: st) A K := zx_ishl z292 dJ22_ensureCapacityInternal_31 rfl
theorem s292_32 : zX (d + 1) 292 32 ls (zI i1 :: zO o0 :: [w0]) A K = zX d 300 0 [zO o0, zI i1, zU] [] A (zK (d + 1) 292 32 35 ls [w0] K) := zx_callS z292 zo292 dJ22_ensureCapacityInternal_32 rfl C29_108 rfl rfl zm300 rfl rfl (zwt_le (Nat.le_of_ble_eq_true rfl)) rfl
theorem s292_35 (h : tg A a = 16) : zX d 292 35 ls (zO o :: zO (some a) :: st) A K = zX d 292 38 ls st (pF A a 0 (zO o)) K := zx_putf (q := 3) z292 zo292 dJ22_ensureCapacityInternal_35 F29_15 rfl rfl rfl h rfl
theorem s292_38 : zX d 292 38 ls [] A K = K (Sum.inl none) A := zx_vret z292 dJ22_ensureCapacityInternal_38 rfl
theorem s293_0 : zX d 293 0 [zO o, v1, v2, v3, v4, v5] st A K = zX d 293 1 [zO o, v1, v2, v3, v4, v5] (zO o :: st) A K := zx_aload_n z293 dJ22_newCapacity_0 rfl rfl
theorem s293_1 (h : tg A a = 16) : zX d 293 1 ls (zO (some a) :: st) A K = zX d 293 4 ls (fd A a 0 :: st) A K := zx_getf z293 zo293 dJ22_newCapacity_1 F29_15 rfl h
theorem s293_4 (h : zarr (tg A a) ≠ 0) : zX d 293 4 ls (zO (some a) :: st) A K = zX d 293 5 ls (zI (zlen A a : Nat) :: st) A K := zx_alen z293 dJ22_newCapacity_4 rfl h
theorem s293_5 : zX d 293 5 [v0, v1, v2, v3, v4, v5] (zI x :: st) A K = zX d 293 6 [v0, v1, zI x, v3, v4, v5] st A K := zx_istore_n z293 dJ22_newCapacity_5 (Nat.le_of_ble_eq_true rfl) rfl rfl
theorem s293_6 : zX d 293 6 [v0, zI x, v2, v3, v4, v5] st A K = zX d 293 7 [v0, zI x, v2, v3, v4, v5] (zI x :: st) A K := zx_iload_n z293 dJ22_newCapacity_6 rfl rfl
theorem s293_7 : zX d 293 7 [zO o, v1, v2, v3, v4, v5] st A K = zX d 293 8 [zO o, v1, v2, v3, v4, v5] (zO o :: st) A K := zx_aload_n z293 dJ22_newCapacity_7 rfl rfl
theorem s293_8 (h : tg A a = 16) : zX d 293 8 ls (zO (some a) :: st) A K = zX d 293 11 ls (fd A a 1 :: st) A K := zx_getf z293 zo293 dJ22_newCapacity_8 F29_22 rfl h
theorem s293_11 : zX d 293 11 ls (zI y :: zI x :: st) A K = zX d 293 12 ls (zI ((Int32.ofInt x <<< (Int32.ofInt y &&& 31)).toInt) :: st) A K := zx_ishl z293 dJ22_newCapacity_11 rfl
theorem s293_12 : zX d 293 12 [v0, v1, v2, v3, v4, v5] (zI x :: st) A K = zX d 293 13 [v0, v1, v2, zI x, v4, v5] st A K := zx_istore_n z293 dJ22_newCapacity_12 (Nat.le_of_ble_eq_true rfl) rfl rfl
theorem s293_13 : zX d 293 13 [v0, v1, v2, zI x, v4, v5] st A K = zX d 293 14 [v0, v1, v2, zI x, v4, v5] (zI x :: st) A K := zx_iload_n z293 dJ22_newCapacity_13 rfl rfl
theorem s293_14 : zX d 293 14 [v0, v1, zI x, v3, v4, v5] st A K = zX d 293 15 [v0, v1, zI x, v3, v4, v5] (zI x :: st) A K := zx_iload_n z293 dJ22_newCapacity_14 rfl rfl
theorem s293_15 : zX d 293 15 ls (zI y :: zI x :: st) A K = zX d 293 16 ls (zI (zw (x - y)) :: st) A K := zx_isub z293 dJ22_newCapacity_15 rfl
theorem s293_16 : zX d 293 16 [v0, v1, v2, v3, v4, v5] (zI x :: st) A K = zX d 293 18 [v0, v1, v2, v3, zI x, v5] st A K := zx_istore z293 dJ22_newCapacity_16 (Nat.le_of_ble_eq_true rfl) rfl rfl
theorem s293_18 : zX d 293 18 [v0, v1, zI x, v3, v4, v5] st A K = zX d 293 19 [v0, v1, zI x, v3, v4, v5] (zI x :: st) A K := zx_iload_n z293 dJ22_newCapacity_18 rfl rfl
theorem s293_19 : zX d 293 19 [v0, v1, v2, v3, zI x, v5] st A K = zX d 293 21 [v0, v1, v2, v3, zI x, v5] (zI x :: st) A K := zx_iload z293 dJ22_newCapacity_19 rfl rfl
theorem s293_21 : zX d 293 21 [v0, v1, zI x, v3, v4, v5] st A K = zX d 293 22 [v0, v1, zI x, v3, v4, v5] (zI x :: st) A K := zx_iload_n z293 dJ22_newCapacity_21 rfl rfl
theorem s293_22 : zX d 293 22 ls st A K = zX d 293 23 ls (zI 2 :: st) A K := zx_const z293 dJ22_newCapacity_22 (by decide) rfl
theorem s293_23 : zX d 293 23 [zO o, v1, v2, v3, v4, v5] st A K = zX d 293 24 [zO o, v1, v2, v3, v4, v5] (zO o :: st) A K := zx_aload_n z293 dJ22_newCapacity_23 rfl rfl
theorem s293_24 (h : tg A a = 16) : zX d 293 24 ls (zO (some a) :: st) A K = zX d 293 27 ls (fd A a 1 :: st) A K := zx_getf z293 zo293 dJ22_newCapacity_24 F29_22 rfl h
theorem s293_27 : zX d 293 27 ls (zI y :: zI x :: st) A K = zX d 293 28 ls (zI ((Int32.ofInt x <<< (Int32.ofInt y &&& 31)).toInt) :: st) A K := zx_ishl z293 dJ22_newCapacity_27 rfl
theorem s293_28 : zX d 293 28 ls (zI y :: zI x :: st) A K = zX d 293 29 ls (zI (zw (x + y)) :: st) A K := zx_iadd z293 dJ22_newCapacity_28 rfl
theorem s293_29 : zX (d + 1) 293 29 ls (zI i2 :: zI i1 :: zI i0 :: []) A K = zX d 278 0 [zI i0, zI i1, zI i2, zU] [] A (zK (d + 1) 293 29 32 ls [] K) := zx_callS z293 zo293 dJ22_newCapacity_29 rfl C29_114 rfl rfl zm278 rfl rfl (zwt_le (Nat.le_of_ble_eq_true rfl)) rfl
theorem s293_32 : zX d 293 32 [v0, v1, v2, v3, v4, v5] (zI x :: st) A K = zX d 293 34 [v0, v1, v2, v3, v4, zI x] st A K := zx_istore z293 dJ22_newCapacity_32 (Nat.le_of_ble_eq_true rfl) rfl rfl
theorem s293_34 : zX d 293 34 [v0, v1, v2, v3, v4, zI x] st A K = zX d 293 36 [v0, v1, v2, v3, v4, zI x] (zI x :: st) A K := zx_iload z293 dJ22_newCapacity_34 rfl rfl
theorem s293_36 : zX d 293 36 ls st A K = zX d 293 38 ls (zI (2147483647) :: st) A K := zx_ldc z293 zo293 dJ22_newCapacity_36 rfl rfl
theorem s293_38 : zX d 293 38 ls (zI y :: zI x :: st) A K = (if x ≠ y then zX d 293 51 ls st A K else zX d 293 41 ls st A K) := zx_ic_ne z293 dJ22_newCapacity_38 rfl rfl
theorem s293_44 (h : zc v = true) : zX d 293 44 ls (v :: st) A K = zX d 293 45 ls (v :: v :: st) A K := zx_dup z293 dJ22_newCapacity_44 rfl h
theorem s293_51 : zX d 293 51 [v0, v1, v2, v3, v4, zI x] st A K = zX d 293 53 [v0, v1, v2, v3, v4, zI x] (zI x :: st) A K := zx_iload z293 dJ22_newCapacity_51 rfl rfl
theorem s293_53 : zX d 293 53 [zO o, v1, v2, v3, v4, v5] st A K = zX d 293 54 [zO o, v1, v2, v3, v4, v5] (zO o :: st) A K := zx_aload_n z293 dJ22_newCapacity_53 rfl rfl
theorem s293_54 (h : tg A a = 16) : zX d 293 54 ls (zO (some a) :: st) A K = zX d 293 57 ls (fd A a 1 :: st) A K := zx_getf z293 zo293 dJ22_newCapacity_54 F29_22 rfl h
theorem s293_57 : zX d 293 57 ls (zI y :: zI x :: st) A K = zX d 293 58 ls (zI ((Int32.ofInt x >>> (Int32.ofInt y &&& 31)).toInt) :: st) A K := zx_ishr z293 dJ22_newCapacity_57 rfl
theorem s293_58 : zX d 293 58 ls [zI x] A K = K (Sum.inl (some (zI x))) A := zx_iret z293 dJ22_newCapacity_58 zk293 rfl
theorem s294_0 : zX d 294 0 [zO o] st A K = zX d 294 1 [zO o] (zO o :: st) A K := zx_aload_n z294 dJ22_length_0 rfl rfl
theorem s294_1 (h : tg A a = 16) : zX d 294 1 ls (zO (some a) :: st) A K = zX d 294 4 ls (fd A a 3 :: st) A K := zx_getf z294 zo294 dJ22_length_1 F29_79 rfl h
theorem s294_4 : zX d 294 4 ls [zI x] A K = K (Sum.inl (some (zI x))) A := zx_iret z294 dJ22_length_4 zk294 rfl
theorem s295_0 : zX d 295 0 [zO o, v1, v2, v3, v4] st A K = zX d 295 1 [zO o, v1, v2, v3, v4] (zO o :: st) A K := zx_aload_n z295 dJ22_charAt_0 rfl rfl
theorem s295_1 (h : tg A a = 16) : zX d 295 1 ls (zO (some a) :: st) A K = zX d 295 4 ls (fd A a 1 :: st) A K := zx_getf z295 zo295 dJ22_charAt_1 F29_22 rfl h
theorem s295_4 : zX d 295 4 [v0, v1, v2, v3, v4] (zI x :: st) A K = zX d 295 5 [v0, v1, zI x, v3, v4] st A K := zx_istore_n z295 dJ22_charAt_4 (Nat.le_of_ble_eq_true rfl) rfl rfl
theorem s295_5 : zX d 295 5 [zO o, v1, v2, v3, v4] st A K = zX d 295 6 [zO o, v1, v2, v3, v4] (zO o :: st) A K := zx_aload_n z295 dJ22_charAt_5 rfl rfl
theorem s295_6 (h : tg A a = 16) : zX d 295 6 ls (zO (some a) :: st) A K = zX d 295 9 ls (fd A a 0 :: st) A K := zx_getf z295 zo295 dJ22_charAt_6 F29_15 rfl h
theorem s295_9 : zX d 295 9 [v0, v1, v2, v3, v4] (zO o :: st) A K = zX d 295 10 [v0, v1, v2, zO o, v4] st A K := zx_astore_n z295 dJ22_charAt_9 (Nat.le_of_ble_eq_true rfl) rfl rfl
theorem s295_10 : zX d 295 10 [zO o, v1, v2, v3, v4] st A K = zX d 295 11 [zO o, v1, v2, v3, v4] (zO o :: st) A K := zx_aload_n z295 dJ22_charAt_10 rfl rfl
theorem s295_11 (h : tg A a = 16) : zX d 295 11 ls (zO (some a) :: st) A K = zX d 295 14 ls (fd A a 3 :: st) A K := zx_getf z295 zo295 dJ22_charAt_11 F29_79 rfl h
theorem s295_14 : zX d 295 14 [v0, v1, v2, zO o, v4] st A K = zX d 295 15 [v0, v1, v2, zO o, v4] (zO o :: st) A K := zx_aload_n z295 dJ22_charAt_14 rfl rfl
theorem s295_15 (h : zarr (tg A a) ≠ 0) : zX d 295 15 ls (zO (some a) :: st) A K = zX d 295 16 ls (zI (zlen A a : Nat) :: st) A K := zx_alen z295 dJ22_charAt_15 rfl h
theorem s295_16 : zX d 295 16 [v0, v1, zI x, v3, v4] st A K = zX d 295 17 [v0, v1, zI x, v3, v4] (zI x :: st) A K := zx_iload_n z295 dJ22_charAt_16 rfl rfl
theorem s295_17 : zX d 295 17 ls (zI y :: zI x :: st) A K = zX d 295 18 ls (zI ((Int32.ofInt x >>> (Int32.ofInt y &&& 31)).toInt) :: st) A K := zx_ishr z295 dJ22_charAt_17 rfl
theorem s295_18 : zX (d + 1) 295 18 ls (zI i1 :: zI i0 :: []) A K = zX d 276 0 [zI i0, zI i1] [] A (zK (d + 1) 295 18 21 ls [] K) := zx_callS z295 zo295 dJ22_charAt_18 rfl C29_138 rfl rfl zm276 rfl rfl (zwt_le (Nat.le_of_ble_eq_true rfl)) rfl
theorem s295_21 : zX d 295 21 [v0, v1, v2, v3, v4] (zI x :: st) A K = zX d 295 23 [v0, v1, v2, v3, zI x] st A K := zx_istore z295 dJ22_charAt_21 (Nat.le_of_ble_eq_true rfl) rfl rfl
theorem s295_23 : zX d 295 23 [v0, zI x, v2, v3, v4] st A K = zX d 295 24 [v0, zI x, v2, v3, v4] (zI x :: st) A K := zx_iload_n z295 dJ22_charAt_23 rfl rfl
theorem s295_24 : zX d 295 24 [v0, v1, v2, v3, zI x] st A K = zX d 295 26 [v0, v1, v2, v3, zI x] (zI x :: st) A K := zx_iload z295 dJ22_charAt_24 rfl rfl
theorem s295_26 : zX (d + 1) 295 26 ls (zI i1 :: zI i0 :: []) A K = zX d 274 0 [zI i0, zI i1] [] A (zK (d + 1) 295 26 29 ls [] K) := zx_callS z295 zo295 dJ22_charAt_26 rfl C29_144 rfl rfl zm274 rfl rfl (zwt_le (Nat.le_of_ble_eq_true rfl)) rfl
theorem s295_29 : zX d 295 29 [v0, v1, zI x, v3, v4] st A K = zX d 295 30 [v0, v1, zI x, v3, v4] (zI x :: st) A K := zx_iload_n z295 dJ22_charAt_29 rfl rfl
theorem s295_30 : zX d 295 30 ls (zI x :: st) A K = (if x ≠ 0 then zX d 295 42 ls st A K else zX d 295 33 ls st A K) := zx_if_ne z295 dJ22_charAt_30 rfl rfl
theorem s295_33 : zX d 295 33 [v0, v1, v2, zO o, v4] st A K = zX d 295 34 [v0, v1, v2, zO o, v4] (zO o :: st) A K := zx_aload_n z295 dJ22_charAt_33 rfl rfl
theorem s295_34 : zX d 295 34 [v0, zI x, v2, v3, v4] st A K = zX d 295 35 [v0, zI x, v2, v3, v4] (zI x :: st) A K := zx_iload_n z295 dJ22_charAt_34 rfl rfl
theorem s295_35 (h : tg A a = 21) (h0 : 0 ≤ x) (h1 : x.toNat < (ia A a).length) : zX d 295 35 ls (zI x :: zO (some a) :: st) A K = zX d 295 36 ls (zI ((ia A a).getD x.toNat 0) :: st) A K := zx_bald z295 dJ22_charAt_35 rfl h h0 h1
theorem s295_35z (h : tg A a = 22) (h0 : 0 ≤ x) (h1 : x.toNat < (ia A a).length) : zX d 295 35 ls (zI x :: zO (some a) :: st) A K = zX d 295 36 ls (zI ((ia A a).getD x.toNat 0) :: st) A K := zx_zald z295 dJ22_charAt_35 rfl h h0 h1
theorem s295_36 : zX d 295 36 ls st A K = zX d 295 39 ls (zI (255) :: st) A K := zx_sipush z295 dJ22_charAt_36 (by decide) rfl
theorem s295_39 : zX d 295 39 ls (zI y :: zI x :: st) A K = zX d 295 40 ls (zI ((Int32.ofInt x &&& Int32.ofInt y).toInt) :: st) A K := zx_iand z295 dJ22_charAt_39 rfl
theorem s295_40 : zX d 295 40 ls (zI x :: st) A K = zX d 295 41 ls (zI ((Int32.ofInt x).toUInt32 % 65536).toInt32.toInt :: st) A K := zx_i2c z295 dJ22_charAt_40 rfl
theorem s295_41 (h : 0 ≤ x) (h2 : x ≤ 65535) : zX d 295 41 ls [zI x] A K = K (Sum.inl (some (zI x))) A := zx_iret z295 dJ22_charAt_41 zk295 (show zrfit 2 x = true by simp [zrfit, h, h2])
theorem s295_42 : zX d 295 42 [v0, v1, v2, zO o, v4] st A K = zX d 295 43 [v0, v1, v2, zO o, v4] (zO o :: st) A K := zx_aload_n z295 dJ22_charAt_42 rfl rfl
theorem s295_43 : zX d 295 43 [v0, zI x, v2, v3, v4] st A K = zX d 295 44 [v0, zI x, v2, v3, v4] (zI x :: st) A K := zx_iload_n z295 dJ22_charAt_43 rfl rfl
theorem s295_47 (h : 0 ≤ x) (h2 : x ≤ 65535) : zX d 295 47 ls [zI x] A K = K (Sum.inl (some (zI x))) A := zx_iret z295 dJ22_charAt_47 zk295 (show zrfit 2 x = true by simp [zrfit, h, h2])
theorem s296_0 : zX d 296 0 [zO o] st A K = zX d 296 1 [zO o] (zO o :: st) A K := zx_aload_n z296 dJ23_init_0 rfl rfl
theorem s296_1 : zX d 296 1 ls st A K = zX d 296 3 ls (zI (16) :: st) A K := zx_bipush z296 dJ23_init_1 (by decide) rfl
theorem s296_3 : zX (d + 1) 296 3 ls (zI i0 :: zO (some a) :: []) A K = zX d 290 0 [zO (some a), zI i0] [] A (zK (d + 1) 296 3 6 ls [] K) := zx_callI z296 zo296 dJ23_init_3 rfl C30_1 rfl rfl zm290 rfl rfl (zwt_le (Nat.le_of_ble_eq_true rfl)) rfl
theorem s296_6 : zX d 296 6 ls [] A K = K (Sum.inl none) A := zx_vret z296 dJ23_init_6 rfl
theorem s297_0 : zX d 297 0 [zO o, v1] st A K = zX d 297 1 [zO o, v1] (zO o :: st) A K := zx_aload_n z297 dJ23_append_0 rfl rfl
theorem s297_1 : zX d 297 1 [v0, zI x] st A K = zX d 297 2 [v0, zI x] (zI x :: st) A K := zx_iload_n z297 dJ23_append_1 rfl rfl
theorem s297_2 (h : tg A a = 16)  : zX (d + 1) 297 2 ls (zI i0 :: zO (some a) :: []) A K = zX d 291 0 [zO (some a), zI i0] [] A (zK (d + 1) 297 2 5 ls [] K) := zx_callU (t := 16) z297 zo297 dJ23_append_2 rfl C30_50 rfl rfl rfl zm291 rfl rfl (zwt_le (Nat.le_of_ble_eq_true rfl)) rfl h
theorem s297_5 (h : zc v = true) : zX d 297 5 ls (v :: st) A K = zX d 297 6 ls st A K := zx_pop z297 dJ23_append_5 rfl h
theorem s297_6 : zX d 297 6 [zO o, v1] st A K = zX d 297 7 [zO o, v1] (zO o :: st) A K := zx_aload_n z297 dJ23_append_6 rfl rfl
theorem s297_7 : zX d 297 7 ls [zO o] A K = K (Sum.inl (some (zO o))) A := zx_aret z297 dJ23_append_7 rfl
theorem s298_0 : zX d 298 0 [zO o] st A K = zX d 298 1 [zO o] (zO o :: st) A K := zx_aload_n z298 dJ23_length_0 rfl rfl
theorem s298_1 (h : tg A a = 16)  : zX (d + 1) 298 1 ls (zO (some a) :: []) A K = zX d 294 0 [zO (some a)] [] A (zK (d + 1) 298 1 4 ls [] K) := zx_callU (t := 16) z298 zo298 dJ23_length_1 rfl C30_343 rfl rfl rfl zm294 rfl rfl (zwt_le (Nat.le_of_ble_eq_true rfl)) rfl h
theorem s298_4 : zX d 298 4 ls [zI x] A K = K (Sum.inl (some (zI x))) A := zx_iret z298 dJ23_length_4 zk298 rfl
theorem s299_0 : zX d 299 0 [zO o, v1] st A K = zX d 299 1 [zO o, v1] (zO o :: st) A K := zx_aload_n z299 dJ23_charAt_0 rfl rfl
theorem s299_1 : zX d 299 1 [v0, zI x] st A K = zX d 299 2 [v0, zI x] (zI x :: st) A K := zx_iload_n z299 dJ23_charAt_1 rfl rfl
theorem s299_2 (h : tg A a = 16)  : zX (d + 1) 299 2 ls (zI i0 :: zO (some a) :: []) A K = zX d 295 0 [zO (some a), zI i0, zU, zU, zU] [] A (zK (d + 1) 299 2 5 ls [] K) := zx_callU (t := 16) z299 zo299 dJ23_charAt_2 rfl C30_329 rfl rfl rfl zm295 rfl rfl (zwt_le (Nat.le_of_ble_eq_true rfl)) rfl h
theorem s299_5 (h : 0 ≤ x) (h2 : x ≤ 65535) : zX d 299 5 ls [zI x] A K = K (Sum.inl (some (zI x))) A := zx_iret z299 dJ23_charAt_5 zk299 (show zrfit 2 x = true by simp [zrfit, h, h2])
theorem s300_0 : zX d 300 0 [v0, zI x, v2] st A K = zX d 300 1 [v0, zI x, v2] (zI x :: st) A K := zx_iload_n z300 dJ24_copyOf_0 rfl rfl
theorem s300_1 : zX d 300 1 [zO o, v1, v2] st A K = zX d 300 2 [zO o, v1, v2] (zO o :: st) A K := zx_aload_n z300 dJ24_copyOf_1 rfl rfl
theorem s300_2 (h : zarr (tg A a) ≠ 0) : zX d 300 2 ls (zO (some a) :: st) A K = zX d 300 3 ls (zI (zlen A a : Nat) :: st) A K := zx_alen z300 dJ24_copyOf_2 rfl h
theorem s300_3 : zX d 300 3 ls (zI y :: zI x :: st) A K = (if x ≠ y then zX d 300 14 ls st A K else zX d 300 6 ls st A K) := zx_ic_ne z300 dJ24_copyOf_3 rfl rfl
theorem s300_6 : zX d 300 6 [zO o, v1, v2] st A K = zX d 300 7 [zO o, v1, v2] (zO o :: st) A K := zx_aload_n z300 dJ24_copyOf_6 rfl rfl
theorem s300_10 (h : ([21] : List Nat).contains (tg A a) = true) : zX d 300 10 ls (zO (some a) :: st) A K = zX d 300 13 ls (zO (some a) :: st) A K := zx_cast z300 zo300 dJ24_copyOf_10 rfl rfl h
theorem s300_10n : zX d 300 10 ls (zO none :: st) A K = zX d 300 13 ls (zO none :: st) A K := zx_castN z300 zo300 dJ24_copyOf_10 rfl rfl
theorem s300_13 : zX d 300 13 ls [zO o] A K = K (Sum.inl (some (zO o))) A := zx_aret z300 dJ24_copyOf_13 rfl
theorem s300_14 : zX d 300 14 [v0, zI x, v2] st A K = zX d 300 15 [v0, zI x, v2] (zI x :: st) A K := zx_iload_n z300 dJ24_copyOf_14 rfl rfl
theorem s300_15 (h : 0 ≤ x) (h2 : x ≤ 1000000) : zX d 300 15 ls (zI x :: st) A K = zX d 300 17 ls (zO (some (nx A)) :: st) (nA A 21 (List.replicate x.toNat 0)) K := zx_new_byte z300 dJ24_copyOf_15 rfl h h2
theorem s300_17 : zX d 300 17 [v0, v1, v2] (zO o :: st) A K = zX d 300 18 [v0, v1, zO o] st A K := zx_astore_n z300 dJ24_copyOf_17 (Nat.le_of_ble_eq_true rfl) rfl rfl
theorem s300_18 : zX d 300 18 [zO o, v1, v2] st A K = zX d 300 19 [zO o, v1, v2] (zO o :: st) A K := zx_aload_n z300 dJ24_copyOf_18 rfl rfl
theorem s300_19 : zX d 300 19 ls st A K = zX d 300 20 ls (zI 0 :: st) A K := zx_const z300 dJ24_copyOf_19 (by decide) rfl
theorem s300_20 : zX d 300 20 [v0, v1, zO o] st A K = zX d 300 21 [v0, v1, zO o] (zO o :: st) A K := zx_aload_n z300 dJ24_copyOf_20 rfl rfl
theorem s300_21 : zX d 300 21 ls st A K = zX d 300 22 ls (zI 0 :: st) A K := zx_const z300 dJ24_copyOf_21 (by decide) rfl
theorem s300_22 : zX d 300 22 [zO o, v1, v2] st A K = zX d 300 23 [zO o, v1, v2] (zO o :: st) A K := zx_aload_n z300 dJ24_copyOf_22 rfl rfl
theorem s300_23 (h : zarr (tg A a) ≠ 0) : zX d 300 23 ls (zO (some a) :: st) A K = zX d 300 24 ls (zI (zlen A a : Nat) :: st) A K := zx_alen z300 dJ24_copyOf_23 rfl h
theorem s300_24 : zX d 300 24 [v0, zI x, v2] st A K = zX d 300 25 [v0, zI x, v2] (zI x :: st) A K := zx_iload_n z300 dJ24_copyOf_24 rfl rfl
theorem s300_25 : zX (d + 1) 300 25 ls (zI i1 :: zI i0 :: [w0, w1, w2, w3]) A K = zX d 276 0 [zI i0, zI i1] [] A (zK (d + 1) 300 25 28 ls [w0, w1, w2, w3] K) := zx_callS z300 zo300 dJ24_copyOf_25 rfl C31_304 rfl rfl zm276 rfl rfl (zwt_le (Nat.le_of_ble_eq_true rfl)) rfl
theorem s300_28i (h0 : 0 ≤ w) (h1 : 0 ≤ y) (h2 : 0 ≤ x) (h : tg A a = tg A b) (h6 : tg A b = 20 ∨ tg A b = 21) (h3 : x.toNat + w.toNat ≤ (ia A a).length) (h4 : y.toNat + w.toNat ≤ (ia A b).length) : zX d 300 28 ls (zI w :: zI y :: zO (some b) :: zI x :: zO (some a) :: []) A K = zX d 300 31 ls [] (pI A b (zcpy (ia A a) (ia A b) x.toNat y.toNat w.toNat)) K := zx_inS z300 zo300 dJ24_copyOf_28 rfl rfl rfl (zin_3i (zwt_le (Nat.le_of_ble_eq_true rfl)) h0 h1 h2 h h6 h3 h4)
theorem s300_28r (h0 : 0 ≤ w) (h1 : 0 ≤ y) (h2 : 0 ≤ x) (h : tg A a = tg A b) (h6 : tg A b = 24 ∨ tg A b = 25 ∨ tg A b = 28) (h3 : x.toNat + w.toNat ≤ (ra A a).length) (h4 : y.toNat + w.toNat ≤ (ra A b).length) : zX d 300 28 ls (zI w :: zI y :: zO (some b) :: zI x :: zO (some a) :: []) A K = zX d 300 31 ls [] (pR A b (zcpy (ra A a) (ra A b) x.toNat y.toNat w.toNat)) K := zx_inS z300 zo300 dJ24_copyOf_28 rfl rfl rfl (zin_3r (zwt_le (Nat.le_of_ble_eq_true rfl)) h0 h1 h2 h h6 h3 h4)
theorem s300_31 : zX d 300 31 [v0, v1, zO o] st A K = zX d 300 32 [v0, v1, zO o] (zO o :: st) A K := zx_aload_n z300 dJ24_copyOf_31 rfl rfl
theorem s300_32 : zX d 300 32 ls [zO o] A K = K (Sum.inl (some (zO o))) A := zx_aret z300 dJ24_copyOf_32 rfl
theorem s301_0 : zX d 301 0 [zO o, v1] st A K = zX d 301 1 [zO o, v1] (zO o :: st) A K := zx_aload_n z301 dJ24_copyOf_2_0 rfl rfl
theorem s301_1 : zX d 301 1 [v0, zI x] st A K = zX d 301 2 [v0, zI x] (zI x :: st) A K := zx_iload_n z301 dJ24_copyOf_2_1 rfl rfl
theorem s301_2 : zX d 301 2 [zO o, v1] st A K = zX d 301 3 [zO o, v1] (zO o :: st) A K := zx_aload_n z301 dJ24_copyOf_2_2 rfl rfl
theorem s301_3 (h : tg A a = 28) : zX d 301 3 ls (zO (some a) :: [w0, w1]) A K = zX d 301 6 ls (zO (some 34) :: [w0, w1]) A K := zx_inV z301 zo301 dJ24_copyOf_2_3 rfl rfl rfl (zin_5 (zwt_le (Nat.le_of_ble_eq_true rfl)) h)
theorem s301_6 : zX (d + 1) 301 6 ls (zO o2 :: zI i1 :: zO o0 :: []) A K = zX d 302 0 [zO o0, zI i1, zO o2, zU] [] A (zK (d + 1) 301 6 9 ls [] K) := zx_callS z301 zo301 dJ24_copyOf_2_6 rfl C31_300 rfl rfl zm302 rfl rfl (zwt_le (Nat.le_of_ble_eq_true rfl)) rfl
theorem s301_9 : zX d 301 9 ls [zO o] A K = K (Sum.inl (some (zO o))) A := zx_aret z301 dJ24_copyOf_2_9 rfl
theorem s302_0 : zX d 302 0 [v0, v1, zO o, v3] st A K = zX d 302 1 [v0, v1, zO o, v3] (zO o :: st) A K := zx_aload_n z302 dJ24_copyOf_3_0 rfl rfl
theorem s302_1 : zX d 302 1 ls st A K = zX d 302 3 ls (zO (some 34) :: st) A K := zx_ldcM z302 zo302 dJ24_copyOf_3_1 rfl rfl
theorem s302_3 (h : o = o2 ∨ (zfr o = true ∧ zfr o2 = true)) : zX d 302 3 ls (zO o2 :: zO o :: st) A K = (if o ≠ o2 then zX d 302 13 ls st A K else zX d 302 6 ls st A K) := zx_ac_ne z302 dJ24_copyOf_3_3 rfl rfl h
theorem s302_6 : zX d 302 6 [v0, zI x, v2, v3] st A K = zX d 302 7 [v0, zI x, v2, v3] (zI x :: st) A K := zx_iload_n z302 dJ24_copyOf_3_6 rfl rfl
theorem s302_7 (h : 0 ≤ x) (h2 : x ≤ 1000000) : zX d 302 7 ls (zI x :: st) A K = zX d 302 10 ls (zO (some (nx A)) :: st) (nR A 28 (List.replicate x.toNat none)) K := zx_anew z302 zo302 dJ24_copyOf_3_7 rfl (by decide) rfl h h2
theorem s302_10 : zX d 302 10 ls st A K = zX d 302 24 ls st A K := zx_goto z302 dJ24_copyOf_3_10 rfl
theorem s302_13 : zX d 302 13 [v0, v1, zO o, v3] st A K = zX d 302 14 [v0, v1, zO o, v3] (zO o :: st) A K := zx_aload_n z302 dJ24_copyOf_3_13 rfl rfl
theorem s302_17 : zX d 302 17 [v0, zI x, v2, v3] st A K = zX d 302 18 [v0, zI x, v2, v3] (zI x :: st) A K := zx_iload_n z302 dJ24_copyOf_3_17 rfl rfl
theorem s302_21 (h : ([28] : List Nat).contains (tg A a) = true) : zX d 302 21 ls (zO (some a) :: st) A K = zX d 302 24 ls (zO (some a) :: st) A K := zx_cast z302 zo302 dJ24_copyOf_3_21 rfl rfl h
theorem s302_21n : zX d 302 21 ls (zO none :: st) A K = zX d 302 24 ls (zO none :: st) A K := zx_castN z302 zo302 dJ24_copyOf_3_21 rfl rfl
theorem s302_24 : zX d 302 24 [v0, v1, v2, v3] (zO o :: st) A K = zX d 302 25 [v0, v1, v2, zO o] st A K := zx_astore_n z302 dJ24_copyOf_3_24 (Nat.le_of_ble_eq_true rfl) rfl rfl
theorem s302_25 : zX d 302 25 [zO o, v1, v2, v3] st A K = zX d 302 26 [zO o, v1, v2, v3] (zO o :: st) A K := zx_aload_n z302 dJ24_copyOf_3_25 rfl rfl
theorem s302_26 : zX d 302 26 ls st A K = zX d 302 27 ls (zI 0 :: st) A K := zx_const z302 dJ24_copyOf_3_26 (by decide) rfl
theorem s302_27 : zX d 302 27 [v0, v1, v2, zO o] st A K = zX d 302 28 [v0, v1, v2, zO o] (zO o :: st) A K := zx_aload_n z302 dJ24_copyOf_3_27 rfl rfl
theorem s302_28 : zX d 302 28 ls st A K = zX d 302 29 ls (zI 0 :: st) A K := zx_const z302 dJ24_copyOf_3_28 (by decide) rfl
theorem s302_29 : zX d 302 29 [zO o, v1, v2, v3] st A K = zX d 302 30 [zO o, v1, v2, v3] (zO o :: st) A K := zx_aload_n z302 dJ24_copyOf_3_29 rfl rfl
theorem s302_30 (h : zarr (tg A a) ≠ 0) : zX d 302 30 ls (zO (some a) :: st) A K = zX d 302 31 ls (zI (zlen A a : Nat) :: st) A K := zx_alen z302 dJ24_copyOf_3_30 rfl h
theorem s302_31 : zX d 302 31 [v0, zI x, v2, v3] st A K = zX d 302 32 [v0, zI x, v2, v3] (zI x :: st) A K := zx_iload_n z302 dJ24_copyOf_3_31 rfl rfl
theorem s302_32 : zX (d + 1) 302 32 ls (zI i1 :: zI i0 :: [w0, w1, w2, w3]) A K = zX d 276 0 [zI i0, zI i1] [] A (zK (d + 1) 302 32 35 ls [w0, w1, w2, w3] K) := zx_callS z302 zo302 dJ24_copyOf_3_32 rfl C31_304 rfl rfl zm276 rfl rfl (zwt_le (Nat.le_of_ble_eq_true rfl)) rfl
theorem s302_35i (h0 : 0 ≤ w) (h1 : 0 ≤ y) (h2 : 0 ≤ x) (h : tg A a = tg A b) (h6 : tg A b = 20 ∨ tg A b = 21) (h3 : x.toNat + w.toNat ≤ (ia A a).length) (h4 : y.toNat + w.toNat ≤ (ia A b).length) : zX d 302 35 ls (zI w :: zI y :: zO (some b) :: zI x :: zO (some a) :: []) A K = zX d 302 38 ls [] (pI A b (zcpy (ia A a) (ia A b) x.toNat y.toNat w.toNat)) K := zx_inS z302 zo302 dJ24_copyOf_3_35 rfl rfl rfl (zin_3i (zwt_le (Nat.le_of_ble_eq_true rfl)) h0 h1 h2 h h6 h3 h4)
theorem s302_35r (h0 : 0 ≤ w) (h1 : 0 ≤ y) (h2 : 0 ≤ x) (h : tg A a = tg A b) (h6 : tg A b = 24 ∨ tg A b = 25 ∨ tg A b = 28) (h3 : x.toNat + w.toNat ≤ (ra A a).length) (h4 : y.toNat + w.toNat ≤ (ra A b).length) : zX d 302 35 ls (zI w :: zI y :: zO (some b) :: zI x :: zO (some a) :: []) A K = zX d 302 38 ls [] (pR A b (zcpy (ra A a) (ra A b) x.toNat y.toNat w.toNat)) K := zx_inS z302 zo302 dJ24_copyOf_3_35 rfl rfl rfl (zin_3r (zwt_le (Nat.le_of_ble_eq_true rfl)) h0 h1 h2 h h6 h3 h4)
theorem s302_38 : zX d 302 38 [v0, v1, v2, zO o] st A K = zX d 302 39 [v0, v1, v2, zO o] (zO o :: st) A K := zx_aload_n z302 dJ24_copyOf_3_38 rfl rfl
theorem s302_39 : zX d 302 39 ls [zO o] A K = K (Sum.inl (some (zO o))) A := zx_aret z302 dJ24_copyOf_3_39 rfl
theorem s303_0 : zX d 303 0 [zO o] st A K = zX d 303 1 [zO o] (zO o :: st) A K := zx_aload_n z303 dJ25_init_0 rfl rfl
theorem s303_1 : zX (d + 1) 303 1 ls (zO (some a) :: []) A K = zX d 256 0 [zO (some a)] [] A (zK (d + 1) 303 1 4 ls [] K) := zx_callI z303 zo303 dJ25_init_1 rfl C32_1 rfl rfl zm256 rfl rfl (zwt_le (Nat.le_of_ble_eq_true rfl)) rfl
theorem s303_4 : zX d 303 4 ls [] A K = K (Sum.inl none) A := zx_vret z303 dJ25_init_4 rfl
theorem s304_0 : zX d 304 0 [zO o, v1, v2] st A K = zX d 304 1 [zO o, v1, v2] (zO o :: st) A K := zx_aload_n z304 dJ26_init_0 rfl rfl
theorem s304_1 : zX (d + 1) 304 1 ls (zO (some a) :: []) A K = zX d 303 0 [zO (some a)] [] A (zK (d + 1) 304 1 4 ls [] K) := zx_callI z304 zo304 dJ26_init_1 rfl C33_7 rfl rfl zm303 rfl rfl (zwt_le (Nat.le_of_ble_eq_true rfl)) rfl
theorem s304_4 : zX d 304 4 [v0, zI x, v2] st A K = zX d 304 5 [v0, zI x, v2] (zI x :: st) A K := zx_iload_n z304 dJ26_init_4 rfl rfl
theorem s304_5 : zX d 304 5 ls st A K = zX d 304 6 ls (zI 1 :: st) A K := zx_const z304 dJ26_init_5 (by decide) rfl
theorem s304_6 : zX d 304 6 ls (zI y :: zI x :: st) A K = (if y ≤ x then zX d 304 17 ls st A K else zX d 304 9 ls st A K) := zx_ic_ge z304 dJ26_init_6 rfl rfl
theorem s304_12 (h : zc v = true) : zX d 304 12 ls (v :: st) A K = zX d 304 13 ls (v :: v :: st) A K := zx_dup z304 dJ26_init_12 rfl h
theorem s304_17 : zX d 304 17 [zO o, v1, v2] st A K = zX d 304 18 [zO o, v1, v2] (zO o :: st) A K := zx_aload_n z304 dJ26_init_17 rfl rfl
theorem s304_18 : zX d 304 18 [v0, zI x, v2] st A K = zX d 304 19 [v0, zI x, v2] (zI x :: st) A K := zx_iload_n z304 dJ26_init_18 rfl rfl
theorem s304_19 (h : 0 ≤ x) (h2 : x ≤ 1000000) : zX d 304 19 ls (zI x :: st) A K = zX d 304 22 ls (zO (some (nx A)) :: st) (nR A 28 (List.replicate x.toNat none)) K := zx_anew z304 zo304 dJ26_init_19 rfl (by decide) rfl h h2
theorem s304_22 (h : tg A a = 15) : zX d 304 22 ls (zO o :: zO (some a) :: st) A K = zX d 304 25 ls st (pF A a 0 (zO o)) K := zx_putf (q := 3) z304 zo304 dJ26_init_22 F33_17 rfl rfl rfl h rfl
theorem s304_25 : zX d 304 25 [zO o, v1, v2] st A K = zX d 304 26 [zO o, v1, v2] (zO o :: st) A K := zx_aload_n z304 dJ26_init_25 rfl rfl
theorem s304_26 : zX d 304 26 [v0, v1, zO o] st A K = zX d 304 27 [v0, v1, zO o] (zO o :: st) A K := zx_aload_n z304 dJ26_init_26 rfl rfl
theorem s304_27 (h : tg A a = 15) : zX d 304 27 ls (zO o :: zO (some a) :: st) A K = zX d 304 30 ls st (pF A a 2 (zO o)) K := zx_putf (q := 3) z304 zo304 dJ26_init_27 F33_21 rfl rfl rfl h rfl
theorem s304_30 : zX d 304 30 ls [] A K = K (Sum.inl none) A := zx_vret z304 dJ26_init_30 rfl
theorem s305_0 : zX d 305 0 [zO o, v1] st A K = zX d 305 1 [zO o, v1] (zO o :: st) A K := zx_aload_n z305 dJ26_add_0 rfl rfl
theorem s305_1 : zX d 305 1 [v0, zO o] st A K = zX d 305 2 [v0, zO o] (zO o :: st) A K := zx_aload_n z305 dJ26_add_1 rfl rfl
theorem s305_2 (h : tg A a = 15)  : zX (d + 1) 305 2 ls (zO o0 :: zO (some a) :: []) A K = zX d 306 0 [zO (some a), zO o0, zU] [] A (zK (d + 1) 305 2 5 ls [] K) := zx_callV (t := 15) z305 zo305 dJ26_add_2 rfl C33_89 rfl rfl zm306 rfl rfl (zwt_le (Nat.le_of_ble_eq_true rfl)) rfl h
theorem s305_5 (h : x = 0 ∨ x = 1) : zX d 305 5 ls [zI x] A K = K (Sum.inl (some (zI x))) A := zx_iret z305 dJ26_add_5 zk305 (by rcases h with q | q <;> subst q <;> rfl)
theorem s306_0 : zX d 306 0 [v0, zO o, v2] st A K = zX d 306 1 [v0, zO o, v2] (zO o :: st) A K := zx_aload_n z306 dJ26_offer_0 rfl rfl
theorem s306_1 : zX d 306 1 ls (zO o :: st) A K = (if o ≠ none then zX d 306 12 ls st A K else zX d 306 4 ls st A K) := zx_ifnonnull z306 dJ26_offer_1 rfl rfl
theorem s306_7 (h : zc v = true) : zX d 306 7 ls (v :: st) A K = zX d 306 8 ls (v :: v :: st) A K := zx_dup z306 dJ26_offer_7 rfl h
theorem s306_12 : zX d 306 12 [zO o, v1, v2] st A K = zX d 306 13 [zO o, v1, v2] (zO o :: st) A K := zx_aload_n z306 dJ26_offer_12 rfl rfl
theorem s306_13 (h : zc v = true) : zX d 306 13 ls (v :: st) A K = zX d 306 14 ls (v :: v :: st) A K := zx_dup z306 dJ26_offer_13 rfl h
theorem s306_14 (h : tg A a = 15) : zX d 306 14 ls (zO (some a) :: st) A K = zX d 306 17 ls (fd A a 3 :: st) A K := zx_getf z306 zo306 dJ26_offer_14 F33_93 rfl h
theorem s306_17 : zX d 306 17 ls st A K = zX d 306 18 ls (zI 1 :: st) A K := zx_const z306 dJ26_offer_17 (by decide) rfl
theorem s306_18 : zX d 306 18 ls (zI y :: zI x :: st) A K = zX d 306 19 ls (zI (zw (x + y)) :: st) A K := zx_iadd z306 dJ26_offer_18 rfl
theorem s306_19 (h : tg A a = 15) : zX d 306 19 ls (zI x :: zO (some a) :: st) A K = zX d 306 22 ls st (pF A a 3 (zI x)) K := zx_putf (q := 0) z306 zo306 dJ26_offer_19 F33_93 rfl rfl rfl h rfl
theorem s306_22 : zX d 306 22 [zO o, v1, v2] st A K = zX d 306 23 [zO o, v1, v2] (zO o :: st) A K := zx_aload_n z306 dJ26_offer_22 rfl rfl
theorem s306_23 (h : tg A a = 15) : zX d 306 23 ls (zO (some a) :: st) A K = zX d 306 26 ls (fd A a 1 :: st) A K := zx_getf z306 zo306 dJ26_offer_23 F33_58 rfl h
theorem s306_26 : zX d 306 26 [v0, v1, v2] (zI x :: st) A K = zX d 306 27 [v0, v1, zI x] st A K := zx_istore_n z306 dJ26_offer_26 (Nat.le_of_ble_eq_true rfl) rfl rfl
theorem s306_27 : zX d 306 27 [v0, v1, zI x] st A K = zX d 306 28 [v0, v1, zI x] (zI x :: st) A K := zx_iload_n z306 dJ26_offer_27 rfl rfl
theorem s306_28 : zX d 306 28 [zO o, v1, v2] st A K = zX d 306 29 [zO o, v1, v2] (zO o :: st) A K := zx_aload_n z306 dJ26_offer_28 rfl rfl
theorem s306_29 (h : tg A a = 15) : zX d 306 29 ls (zO (some a) :: st) A K = zX d 306 32 ls (fd A a 0 :: st) A K := zx_getf z306 zo306 dJ26_offer_29 F33_17 rfl h
theorem s306_32 (h : zarr (tg A a) ≠ 0) : zX d 306 32 ls (zO (some a) :: st) A K = zX d 306 33 ls (zI (zlen A a : Nat) :: st) A K := zx_alen z306 dJ26_offer_32 rfl h
theorem s306_33 : zX d 306 33 ls (zI y :: zI x :: st) A K = (if x < y then zX d 306 43 ls st A K else zX d 306 36 ls st A K) := zx_ic_lt z306 dJ26_offer_33 rfl rfl
theorem s306_36 : zX d 306 36 [zO o, v1, v2] st A K = zX d 306 37 [zO o, v1, v2] (zO o :: st) A K := zx_aload_n z306 dJ26_offer_36 rfl rfl
theorem s306_37 : zX d 306 37 [v0, v1, zI x] st A K = zX d 306 38 [v0, v1, zI x] (zI x :: st) A K := zx_iload_n z306 dJ26_offer_37 rfl rfl
theorem s306_38 : zX d 306 38 ls st A K = zX d 306 39 ls (zI 1 :: st) A K := zx_const z306 dJ26_offer_38 (by decide) rfl
theorem s306_39 : zX d 306 39 ls (zI y :: zI x :: st) A K = zX d 306 40 ls (zI (zw (x + y)) :: st) A K := zx_iadd z306 dJ26_offer_39 rfl
theorem s306_40 (h : tg A a = 15)  : zX (d + 1) 306 40 ls (zI i0 :: zO (some a) :: []) A K = zX d 307 0 [zO (some a), zI i0, zU, zU] [] A (zK (d + 1) 306 40 43 ls [] K) := zx_callV (t := 15) z306 zo306 dJ26_offer_40 rfl C33_96 rfl rfl zm307 rfl rfl (zwt_le (Nat.le_of_ble_eq_true rfl)) rfl h
theorem s306_43 : zX d 306 43 [zO o, v1, v2] st A K = zX d 306 44 [zO o, v1, v2] (zO o :: st) A K := zx_aload_n z306 dJ26_offer_43 rfl rfl
theorem s306_44 : zX d 306 44 [v0, v1, zI x] st A K = zX d 306 45 [v0, v1, zI x] (zI x :: st) A K := zx_iload_n z306 dJ26_offer_44 rfl rfl
theorem s306_45 : zX d 306 45 [v0, zO o, v2] st A K = zX d 306 46 [v0, zO o, v2] (zO o :: st) A K := zx_aload_n z306 dJ26_offer_45 rfl rfl
theorem s306_46 (h : tg A a = 15)  : zX (d + 1) 306 46 ls (zO o1 :: zI i0 :: zO (some a) :: []) A K = zX d 308 0 [zO (some a), zI i0, zO o1] [] A (zK (d + 1) 306 46 49 ls [] K) := zx_callV (t := 15) z306 zo306 dJ26_offer_46 rfl C33_100 rfl rfl zm308 rfl rfl (zwt_le (Nat.le_of_ble_eq_true rfl)) rfl h
theorem s306_49 : zX d 306 49 [zO o, v1, v2] st A K = zX d 306 50 [zO o, v1, v2] (zO o :: st) A K := zx_aload_n z306 dJ26_offer_49 rfl rfl
theorem s306_50 : zX d 306 50 [v0, v1, zI x] st A K = zX d 306 51 [v0, v1, zI x] (zI x :: st) A K := zx_iload_n z306 dJ26_offer_50 rfl rfl
theorem s306_51 : zX d 306 51 ls st A K = zX d 306 52 ls (zI 1 :: st) A K := zx_const z306 dJ26_offer_51 (by decide) rfl
theorem s306_52 : zX d 306 52 ls (zI y :: zI x :: st) A K = zX d 306 53 ls (zI (zw (x + y)) :: st) A K := zx_iadd z306 dJ26_offer_52 rfl
theorem s306_53 (h : tg A a = 15) : zX d 306 53 ls (zI x :: zO (some a) :: st) A K = zX d 306 56 ls st (pF A a 1 (zI x)) K := zx_putf (q := 0) z306 zo306 dJ26_offer_53 F33_58 rfl rfl rfl h rfl
theorem s306_56 : zX d 306 56 ls st A K = zX d 306 57 ls (zI 1 :: st) A K := zx_const z306 dJ26_offer_56 (by decide) rfl
theorem s306_57 (h : x = 0 ∨ x = 1) : zX d 306 57 ls [zI x] A K = K (Sum.inl (some (zI x))) A := zx_iret z306 dJ26_offer_57 zk306 (by rcases h with q | q <;> subst q <;> rfl)
theorem s307_0 : zX d 307 0 [zO o, v1, v2, v3] st A K = zX d 307 1 [zO o, v1, v2, v3] (zO o :: st) A K := zx_aload_n z307 dJ26_grow_0 rfl rfl
theorem s307_1 (h : tg A a = 15) : zX d 307 1 ls (zO (some a) :: st) A K = zX d 307 4 ls (fd A a 0 :: st) A K := zx_getf z307 zo307 dJ26_grow_1 F33_17 rfl h
theorem s307_4 (h : zarr (tg A a) ≠ 0) : zX d 307 4 ls (zO (some a) :: st) A K = zX d 307 5 ls (zI (zlen A a : Nat) :: st) A K := zx_alen z307 dJ26_grow_4 rfl h
theorem s307_5 : zX d 307 5 [v0, v1, v2, v3] (zI x :: st) A K = zX d 307 6 [v0, v1, zI x, v3] st A K := zx_istore_n z307 dJ26_grow_5 (Nat.le_of_ble_eq_true rfl) rfl rfl
theorem s307_6 : zX d 307 6 [v0, v1, zI x, v3] st A K = zX d 307 7 [v0, v1, zI x, v3] (zI x :: st) A K := zx_iload_n z307 dJ26_grow_6 rfl rfl
theorem s307_7 : zX d 307 7 [v0, zI x, v2, v3] st A K = zX d 307 8 [v0, zI x, v2, v3] (zI x :: st) A K := zx_iload_n z307 dJ26_grow_7 rfl rfl
theorem s307_8 : zX d 307 8 [v0, v1, zI x, v3] st A K = zX d 307 9 [v0, v1, zI x, v3] (zI x :: st) A K := zx_iload_n z307 dJ26_grow_8 rfl rfl
theorem s307_9 : zX d 307 9 ls (zI y :: zI x :: st) A K = zX d 307 10 ls (zI (zw (x - y)) :: st) A K := zx_isub z307 dJ26_grow_9 rfl
theorem s307_10 : zX d 307 10 [v0, v1, zI x, v3] st A K = zX d 307 11 [v0, v1, zI x, v3] (zI x :: st) A K := zx_iload_n z307 dJ26_grow_10 rfl rfl
theorem s307_11 : zX d 307 11 ls st A K = zX d 307 13 ls (zI (64) :: st) A K := zx_bipush z307 dJ26_grow_11 (by decide) rfl
theorem s307_13 : zX d 307 13 ls (zI y :: zI x :: st) A K = (if y ≤ x then zX d 307 22 ls st A K else zX d 307 16 ls st A K) := zx_ic_ge z307 dJ26_grow_13 rfl rfl
theorem s307_16 : zX d 307 16 [v0, v1, zI x, v3] st A K = zX d 307 17 [v0, v1, zI x, v3] (zI x :: st) A K := zx_iload_n z307 dJ26_grow_16 rfl rfl
theorem s307_17 : zX d 307 17 ls st A K = zX d 307 18 ls (zI 2 :: st) A K := zx_const z307 dJ26_grow_17 (by decide) rfl
theorem s307_18 : zX d 307 18 ls (zI y :: zI x :: st) A K = zX d 307 19 ls (zI (zw (x + y)) :: st) A K := zx_iadd z307 dJ26_grow_18 rfl
theorem s307_19 : zX d 307 19 ls st A K = zX d 307 25 ls st A K := zx_goto z307 dJ26_grow_19 rfl
theorem s307_22 : zX d 307 22 [v0, v1, zI x, v3] st A K = zX d 307 23 [v0, v1, zI x, v3] (zI x :: st) A K := zx_iload_n z307 dJ26_grow_22 rfl rfl
theorem s307_23 : zX d 307 23 ls st A K = zX d 307 24 ls (zI 1 :: st) A K := zx_const z307 dJ26_grow_23 (by decide) rfl
theorem s307_24 : zX d 307 24 ls (zI y :: zI x :: st) A K = zX d 307 25 ls (zI ((Int32.ofInt x >>> (Int32.ofInt y &&& 31)).toInt) :: st) A K := zx_ishr z307 dJ26_grow_24 rfl
theorem s307_25 : zX (d + 1) 307 25 ls (zI i2 :: zI i1 :: zI i0 :: []) A K = zX d 278 0 [zI i0, zI i1, zI i2, zU] [] A (zK (d + 1) 307 25 28 ls [] K) := zx_callS z307 zo307 dJ26_grow_25 rfl C33_80 rfl rfl zm278 rfl rfl (zwt_le (Nat.le_of_ble_eq_true rfl)) rfl
theorem s307_28 : zX d 307 28 [v0, v1, v2, v3] (zI x :: st) A K = zX d 307 29 [v0, v1, v2, zI x] st A K := zx_istore_n z307 dJ26_grow_28 (Nat.le_of_ble_eq_true rfl) rfl rfl
theorem s307_29 : zX d 307 29 [zO o, v1, v2, v3] st A K = zX d 307 30 [zO o, v1, v2, v3] (zO o :: st) A K := zx_aload_n z307 dJ26_grow_29 rfl rfl
theorem s307_30 : zX d 307 30 [zO o, v1, v2, v3] st A K = zX d 307 31 [zO o, v1, v2, v3] (zO o :: st) A K := zx_aload_n z307 dJ26_grow_30 rfl rfl
theorem s307_31 (h : tg A a = 15) : zX d 307 31 ls (zO (some a) :: st) A K = zX d 307 34 ls (fd A a 0 :: st) A K := zx_getf z307 zo307 dJ26_grow_31 F33_17 rfl h
theorem s307_34 : zX d 307 34 [v0, v1, v2, zI x] st A K = zX d 307 35 [v0, v1, v2, zI x] (zI x :: st) A K := zx_iload_n z307 dJ26_grow_34 rfl rfl
theorem s307_35 : zX (d + 1) 307 35 ls (zI i1 :: zO o0 :: [w0]) A K = zX d 301 0 [zO o0, zI i1] [] A (zK (d + 1) 307 35 38 ls [w0] K) := zx_callS z307 zo307 dJ26_grow_35 rfl C33_86 rfl rfl zm301 rfl rfl (zwt_le (Nat.le_of_ble_eq_true rfl)) rfl
theorem s307_38 (h : tg A a = 15) : zX d 307 38 ls (zO o :: zO (some a) :: st) A K = zX d 307 41 ls st (pF A a 0 (zO o)) K := zx_putf (q := 3) z307 zo307 dJ26_grow_38 F33_17 rfl rfl rfl h rfl
theorem s307_41 : zX d 307 41 ls [] A K = K (Sum.inl none) A := zx_vret z307 dJ26_grow_41 rfl
theorem s308_0 : zX d 308 0 [zO o, v1, v2] st A K = zX d 308 1 [zO o, v1, v2] (zO o :: st) A K := zx_aload_n z308 dJ26_siftUp_0 rfl rfl
theorem s308_1 (h : tg A a = 15) : zX d 308 1 ls (zO (some a) :: st) A K = zX d 308 4 ls (fd A a 2 :: st) A K := zx_getf z308 zo308 dJ26_siftUp_1 F33_21 rfl h
theorem s308_4 : zX d 308 4 ls (zO o :: st) A K = (if o = none then zX d 308 23 ls st A K else zX d 308 7 ls st A K) := zx_ifnull z308 dJ26_siftUp_4 rfl rfl
theorem s308_7 : zX d 308 7 [v0, zI x, v2] st A K = zX d 308 8 [v0, zI x, v2] (zI x :: st) A K := zx_iload_n z308 dJ26_siftUp_7 rfl rfl
theorem s308_8 : zX d 308 8 [v0, v1, zO o] st A K = zX d 308 9 [v0, v1, zO o] (zO o :: st) A K := zx_aload_n z308 dJ26_siftUp_8 rfl rfl
theorem s308_9 : zX d 308 9 [zO o, v1, v2] st A K = zX d 308 10 [zO o, v1, v2] (zO o :: st) A K := zx_aload_n z308 dJ26_siftUp_9 rfl rfl
theorem s308_10 (h : tg A a = 15) : zX d 308 10 ls (zO (some a) :: st) A K = zX d 308 13 ls (fd A a 0 :: st) A K := zx_getf z308 zo308 dJ26_siftUp_10 F33_17 rfl h
theorem s308_13 : zX d 308 13 [zO o, v1, v2] st A K = zX d 308 14 [zO o, v1, v2] (zO o :: st) A K := zx_aload_n z308 dJ26_siftUp_13 rfl rfl
theorem s308_14 (h : tg A a = 15) : zX d 308 14 ls (zO (some a) :: st) A K = zX d 308 17 ls (fd A a 2 :: st) A K := zx_getf z308 zo308 dJ26_siftUp_14 F33_21 rfl h
theorem s308_17 : zX (d + 1) 308 17 ls (zO o3 :: zO o2 :: zO o1 :: zI i0 :: []) A K = zX d 309 0 [zI i0, zO o1, zO o2, zO o3, zU, zU] [] A (zK (d + 1) 308 17 20 ls [] K) := zx_callS z308 zo308 dJ26_siftUp_17 rfl C33_136 rfl rfl zm309 rfl rfl (zwt_le (Nat.le_of_ble_eq_true rfl)) rfl
theorem s308_20 : zX d 308 20 ls st A K = zX d 308 32 ls st A K := zx_goto z308 dJ26_siftUp_20 rfl
theorem s308_23 : zX d 308 23 [v0, zI x, v2] st A K = zX d 308 24 [v0, zI x, v2] (zI x :: st) A K := zx_iload_n z308 dJ26_siftUp_23 rfl rfl
theorem s308_24 : zX d 308 24 [v0, v1, zO o] st A K = zX d 308 25 [v0, v1, zO o] (zO o :: st) A K := zx_aload_n z308 dJ26_siftUp_24 rfl rfl
theorem s308_25 : zX d 308 25 [zO o, v1, v2] st A K = zX d 308 26 [zO o, v1, v2] (zO o :: st) A K := zx_aload_n z308 dJ26_siftUp_25 rfl rfl
theorem s308_26 (h : tg A a = 15) : zX d 308 26 ls (zO (some a) :: st) A K = zX d 308 29 ls (fd A a 0 :: st) A K := zx_getf z308 zo308 dJ26_siftUp_26 F33_17 rfl h
theorem s308_32 : zX d 308 32 ls [] A K = K (Sum.inl none) A := zx_vret z308 dJ26_siftUp_32 rfl
theorem s309_0 : zX d 309 0 [zI x, v1, v2, v3, v4, v5] st A K = zX d 309 1 [zI x, v1, v2, v3, v4, v5] (zI x :: st) A K := zx_iload_n z309 dJ26_siftUpUsingComparator_0 rfl rfl
theorem s309_1 : zX d 309 1 ls (zI x :: st) A K = (if x ≤ 0 then zX d 309 43 ls st A K else zX d 309 4 ls st A K) := zx_if_le z309 dJ26_siftUpUsingComparator_1 rfl rfl
theorem s309_4 : zX d 309 4 [zI x, v1, v2, v3, v4, v5] st A K = zX d 309 5 [zI x, v1, v2, v3, v4, v5] (zI x :: st) A K := zx_iload_n z309 dJ26_siftUpUsingComparator_4 rfl rfl
theorem s309_5 : zX d 309 5 ls st A K = zX d 309 6 ls (zI 1 :: st) A K := zx_const z309 dJ26_siftUpUsingComparator_5 (by decide) rfl
theorem s309_6 : zX d 309 6 ls (zI y :: zI x :: st) A K = zX d 309 7 ls (zI (zw (x - y)) :: st) A K := zx_isub z309 dJ26_siftUpUsingComparator_6 rfl
theorem s309_7 : zX d 309 7 ls st A K = zX d 309 8 ls (zI 1 :: st) A K := zx_const z309 dJ26_siftUpUsingComparator_7 (by decide) rfl
theorem s309_8 : zX d 309 8 ls (zI y :: zI x :: st) A K = zX d 309 9 ls (zI (((Int32.ofInt x).toUInt32 >>> ((Int32.ofInt y).toUInt32 &&& Int32.toUInt32 31)).toInt32.toInt) :: st) A K := zx_iushr z309 dJ26_siftUpUsingComparator_8 rfl
theorem s309_9 : zX d 309 9 [v0, v1, v2, v3, v4, v5] (zI x :: st) A K = zX d 309 11 [v0, v1, v2, v3, zI x, v5] st A K := zx_istore z309 dJ26_siftUpUsingComparator_9 (Nat.le_of_ble_eq_true rfl) rfl rfl
theorem s309_11 : zX d 309 11 [v0, v1, zO o, v3, v4, v5] st A K = zX d 309 12 [v0, v1, zO o, v3, v4, v5] (zO o :: st) A K := zx_aload_n z309 dJ26_siftUpUsingComparator_11 rfl rfl
theorem s309_12 : zX d 309 12 [v0, v1, v2, v3, zI x, v5] st A K = zX d 309 14 [v0, v1, v2, v3, zI x, v5] (zI x :: st) A K := zx_iload z309 dJ26_siftUpUsingComparator_12 rfl rfl
theorem s309_14 (h : zarr (tg A a) = 3) (h0 : 0 ≤ x) (h1 : x.toNat < (ra A a).length) : zX d 309 14 ls (zI x :: zO (some a) :: st) A K = zX d 309 15 ls (zO ((ra A a).getD x.toNat none) :: st) A K := zx_aald z309 dJ26_siftUpUsingComparator_14 rfl h h0 h1
theorem s309_15 : zX d 309 15 [v0, v1, v2, v3, v4, v5] (zO o :: st) A K = zX d 309 17 [v0, v1, v2, v3, v4, zO o] st A K := zx_astore z309 dJ26_siftUpUsingComparator_15 (Nat.le_of_ble_eq_true rfl) rfl rfl
theorem s309_17 : zX d 309 17 [v0, v1, v2, zO o, v4, v5] st A K = zX d 309 18 [v0, v1, v2, zO o, v4, v5] (zO o :: st) A K := zx_aload_n z309 dJ26_siftUpUsingComparator_17 rfl rfl
theorem s309_18 : zX d 309 18 [v0, zO o, v2, v3, v4, v5] st A K = zX d 309 19 [v0, zO o, v2, v3, v4, v5] (zO o :: st) A K := zx_aload_n z309 dJ26_siftUpUsingComparator_18 rfl rfl
theorem s309_19 : zX d 309 19 [v0, v1, v2, v3, v4, zO o] st A K = zX d 309 21 [v0, v1, v2, v3, v4, zO o] (zO o :: st) A K := zx_aload z309 dJ26_siftUpUsingComparator_19 rfl rfl
theorem s309_21 (h : tg A a = 8)  : zX (d + 1) 309 21 ls (zO o1 :: zO o0 :: zO (some a) :: []) A K = zX d 123 0 [zO (some a), zO o0, zO o1] [] A (zK (d + 1) 309 21 26 ls [] K) := zx_callF (t := 8) z309 zo309 dJ26_siftUpUsingComparator_21 rfl C33_149 rfl rfl zm123 rfl rfl (zwt_le (Nat.le_of_ble_eq_true rfl)) rfl h
theorem s309_26 : zX d 309 26 ls (zI x :: st) A K = (if x < 0 then zX d 309 32 ls st A K else zX d 309 29 ls st A K) := zx_if_lt z309 dJ26_siftUpUsingComparator_26 rfl rfl
theorem s309_29 : zX d 309 29 ls st A K = zX d 309 43 ls st A K := zx_goto z309 dJ26_siftUpUsingComparator_29 rfl
theorem s309_32 : zX d 309 32 [v0, v1, zO o, v3, v4, v5] st A K = zX d 309 33 [v0, v1, zO o, v3, v4, v5] (zO o :: st) A K := zx_aload_n z309 dJ26_siftUpUsingComparator_32 rfl rfl
theorem s309_33 : zX d 309 33 [zI x, v1, v2, v3, v4, v5] st A K = zX d 309 34 [zI x, v1, v2, v3, v4, v5] (zI x :: st) A K := zx_iload_n z309 dJ26_siftUpUsingComparator_33 rfl rfl
theorem s309_34 : zX d 309 34 [v0, v1, v2, v3, v4, zO o] st A K = zX d 309 36 [v0, v1, v2, v3, v4, zO o] (zO o :: st) A K := zx_aload z309 dJ26_siftUpUsingComparator_34 rfl rfl
theorem s309_36 (h : 24 ≤ tg A a) (h4 : tg A a ≤ 28) (h0 : 0 ≤ x) (h1 : x.toNat < (ra A a).length) (h2 : ∀ b, o = some b → zel (tg A a) (tg A b) = true) : zX d 309 36 ls (zO o :: zI x :: zO (some a) :: st) A K = zX d 309 37 ls st (pR A a ((ra A a).set x.toNat o)) K := zx_aast z309 dJ26_siftUpUsingComparator_36 rfl h h4 h0 h1 h2
theorem s309_37 : zX d 309 37 [v0, v1, v2, v3, zI x, v5] st A K = zX d 309 39 [v0, v1, v2, v3, zI x, v5] (zI x :: st) A K := zx_iload z309 dJ26_siftUpUsingComparator_37 rfl rfl
theorem s309_39 : zX d 309 39 [v0, v1, v2, v3, v4, v5] (zI x :: st) A K = zX d 309 40 [zI x, v1, v2, v3, v4, v5] st A K := zx_istore_n z309 dJ26_siftUpUsingComparator_39 (Nat.le_of_ble_eq_true rfl) rfl rfl
theorem s309_40 : zX d 309 40 ls st A K = zX d 309 0 ls st A K := zx_goto z309 dJ26_siftUpUsingComparator_40 rfl
theorem s309_43 : zX d 309 43 [v0, v1, zO o, v3, v4, v5] st A K = zX d 309 44 [v0, v1, zO o, v3, v4, v5] (zO o :: st) A K := zx_aload_n z309 dJ26_siftUpUsingComparator_43 rfl rfl
theorem s309_44 : zX d 309 44 [zI x, v1, v2, v3, v4, v5] st A K = zX d 309 45 [zI x, v1, v2, v3, v4, v5] (zI x :: st) A K := zx_iload_n z309 dJ26_siftUpUsingComparator_44 rfl rfl
theorem s309_45 : zX d 309 45 [v0, zO o, v2, v3, v4, v5] st A K = zX d 309 46 [v0, zO o, v2, v3, v4, v5] (zO o :: st) A K := zx_aload_n z309 dJ26_siftUpUsingComparator_45 rfl rfl
theorem s309_46 (h : 24 ≤ tg A a) (h4 : tg A a ≤ 28) (h0 : 0 ≤ x) (h1 : x.toNat < (ra A a).length) (h2 : ∀ b, o = some b → zel (tg A a) (tg A b) = true) : zX d 309 46 ls (zO o :: zI x :: zO (some a) :: st) A K = zX d 309 47 ls st (pR A a ((ra A a).set x.toNat o)) K := zx_aast z309 dJ26_siftUpUsingComparator_46 rfl h h4 h0 h1 h2
theorem s309_47 : zX d 309 47 ls [] A K = K (Sum.inl none) A := zx_vret z309 dJ26_siftUpUsingComparator_47 rfl
theorem s310_0 : zX d 310 0 [zO o] st A K = zX d 310 1 [zO o] (zO o :: st) A K := zx_aload_n z310 dJ26_size_0 rfl rfl
theorem s310_1 (h : tg A a = 15) : zX d 310 1 ls (zO (some a) :: st) A K = zX d 310 4 ls (fd A a 1 :: st) A K := zx_getf z310 zo310 dJ26_size_1 F33_58 rfl h
theorem s310_4 : zX d 310 4 ls [zI x] A K = K (Sum.inl (some (zI x))) A := zx_iret z310 dJ26_size_4 zk310 rfl
theorem s311_0 : zX d 311 0 [zO o, v1, v2, v3, v4, v5] st A K = zX d 311 1 [zO o, v1, v2, v3, v4, v5] (zO o :: st) A K := zx_aload_n z311 dJ26_poll_0 rfl rfl
theorem s311_1 (h : tg A a = 15) : zX d 311 1 ls (zO (some a) :: st) A K = zX d 311 4 ls (fd A a 0 :: st) A K := zx_getf z311 zo311 dJ26_poll_1 F33_17 rfl h
theorem s311_4 (h : zc v = true) : zX d 311 4 ls (v :: st) A K = zX d 311 5 ls (v :: v :: st) A K := zx_dup z311 dJ26_poll_4 rfl h
theorem s311_5 : zX d 311 5 [v0, v1, v2, v3, v4, v5] (zO o :: st) A K = zX d 311 6 [v0, zO o, v2, v3, v4, v5] st A K := zx_astore_n z311 dJ26_poll_5 (Nat.le_of_ble_eq_true rfl) rfl rfl
theorem s311_6 : zX d 311 6 ls st A K = zX d 311 7 ls (zI 0 :: st) A K := zx_const z311 dJ26_poll_6 (by decide) rfl
theorem s311_7 (h : zarr (tg A a) = 3) (h0 : 0 ≤ x) (h1 : x.toNat < (ra A a).length) : zX d 311 7 ls (zI x :: zO (some a) :: st) A K = zX d 311 8 ls (zO ((ra A a).getD x.toNat none) :: st) A K := zx_aald z311 dJ26_poll_7 rfl h h0 h1
theorem s311_8 (h : zc v = true) : zX d 311 8 ls (v :: st) A K = zX d 311 9 ls (v :: v :: st) A K := zx_dup z311 dJ26_poll_8 rfl h
theorem s311_9 : zX d 311 9 [v0, v1, v2, v3, v4, v5] (zO o :: st) A K = zX d 311 10 [v0, v1, zO o, v3, v4, v5] st A K := zx_astore_n z311 dJ26_poll_9 (Nat.le_of_ble_eq_true rfl) rfl rfl
theorem s311_10 : zX d 311 10 ls (zO o :: st) A K = (if o = none then zX d 311 79 ls st A K else zX d 311 13 ls st A K) := zx_ifnull z311 dJ26_poll_10 rfl rfl
theorem s311_13 : zX d 311 13 [zO o, v1, v2, v3, v4, v5] st A K = zX d 311 14 [zO o, v1, v2, v3, v4, v5] (zO o :: st) A K := zx_aload_n z311 dJ26_poll_13 rfl rfl
theorem s311_14 (h : zc v = true) : zX d 311 14 ls (v :: st) A K = zX d 311 15 ls (v :: v :: st) A K := zx_dup z311 dJ26_poll_14 rfl h
theorem s311_15 (h : tg A a = 15) : zX d 311 15 ls (zO (some a) :: st) A K = zX d 311 18 ls (fd A a 3 :: st) A K := zx_getf z311 zo311 dJ26_poll_15 F33_93 rfl h
theorem s311_18 : zX d 311 18 ls st A K = zX d 311 19 ls (zI 1 :: st) A K := zx_const z311 dJ26_poll_18 (by decide) rfl
theorem s311_19 : zX d 311 19 ls (zI y :: zI x :: st) A K = zX d 311 20 ls (zI (zw (x + y)) :: st) A K := zx_iadd z311 dJ26_poll_19 rfl
theorem s311_20 (h : tg A a = 15) : zX d 311 20 ls (zI x :: zO (some a) :: st) A K = zX d 311 23 ls st (pF A a 3 (zI x)) K := zx_putf (q := 0) z311 zo311 dJ26_poll_20 F33_93 rfl rfl rfl h rfl
theorem s311_23 : zX d 311 23 [v0, zO o, v2, v3, v4, v5] st A K = zX d 311 24 [v0, zO o, v2, v3, v4, v5] (zO o :: st) A K := zx_aload_n z311 dJ26_poll_23 rfl rfl
theorem s311_24 : zX d 311 24 [zO o, v1, v2, v3, v4, v5] st A K = zX d 311 25 [zO o, v1, v2, v3, v4, v5] (zO o :: st) A K := zx_aload_n z311 dJ26_poll_24 rfl rfl
theorem s311_25 (h : zc v = true) : zX d 311 25 ls (v :: st) A K = zX d 311 26 ls (v :: v :: st) A K := zx_dup z311 dJ26_poll_25 rfl h
theorem s311_26 (h : tg A a = 15) : zX d 311 26 ls (zO (some a) :: st) A K = zX d 311 29 ls (fd A a 1 :: st) A K := zx_getf z311 zo311 dJ26_poll_26 F33_58 rfl h
theorem s311_29 : zX d 311 29 ls st A K = zX d 311 30 ls (zI 1 :: st) A K := zx_const z311 dJ26_poll_29 (by decide) rfl
theorem s311_30 : zX d 311 30 ls (zI y :: zI x :: st) A K = zX d 311 31 ls (zI (zw (x - y)) :: st) A K := zx_isub z311 dJ26_poll_30 rfl
theorem s311_31 (h : zc v = true) (h2 : zc u = true) : zX d 311 31 ls (v :: u :: st) A K = zX d 311 32 ls (v :: u :: v :: st) A K := zx_dup_x1 z311 dJ26_poll_31 rfl h h2
theorem s311_32 (h : tg A a = 15) : zX d 311 32 ls (zI x :: zO (some a) :: st) A K = zX d 311 35 ls st (pF A a 1 (zI x)) K := zx_putf (q := 0) z311 zo311 dJ26_poll_32 F33_58 rfl rfl rfl h rfl
theorem s311_35 (h : zc v = true) : zX d 311 35 ls (v :: st) A K = zX d 311 36 ls (v :: v :: st) A K := zx_dup z311 dJ26_poll_35 rfl h
theorem s311_36 : zX d 311 36 [v0, v1, v2, v3, v4, v5] (zI x :: st) A K = zX d 311 37 [v0, v1, v2, zI x, v4, v5] st A K := zx_istore_n z311 dJ26_poll_36 (Nat.le_of_ble_eq_true rfl) rfl rfl
theorem s311_37 (h : zarr (tg A a) = 3) (h0 : 0 ≤ x) (h1 : x.toNat < (ra A a).length) : zX d 311 37 ls (zI x :: zO (some a) :: st) A K = zX d 311 38 ls (zO ((ra A a).getD x.toNat none) :: st) A K := zx_aald z311 dJ26_poll_37 rfl h h0 h1
theorem s311_38 : zX d 311 38 [v0, v1, v2, v3, v4, v5] (zO o :: st) A K = zX d 311 40 [v0, v1, v2, v3, zO o, v5] st A K := zx_astore z311 dJ26_poll_38 (Nat.le_of_ble_eq_true rfl) rfl rfl
theorem s311_40 : zX d 311 40 [v0, zO o, v2, v3, v4, v5] st A K = zX d 311 41 [v0, zO o, v2, v3, v4, v5] (zO o :: st) A K := zx_aload_n z311 dJ26_poll_40 rfl rfl
theorem s311_41 : zX d 311 41 [v0, v1, v2, zI x, v4, v5] st A K = zX d 311 42 [v0, v1, v2, zI x, v4, v5] (zI x :: st) A K := zx_iload_n z311 dJ26_poll_41 rfl rfl
theorem s311_42 : zX d 311 42 ls st A K = zX d 311 43 ls (zO none :: st) A K := zx_null z311 dJ26_poll_42 rfl
theorem s311_43 (h : 24 ≤ tg A a) (h4 : tg A a ≤ 28) (h0 : 0 ≤ x) (h1 : x.toNat < (ra A a).length) (h2 : ∀ b, o = some b → zel (tg A a) (tg A b) = true) : zX d 311 43 ls (zO o :: zI x :: zO (some a) :: st) A K = zX d 311 44 ls st (pR A a ((ra A a).set x.toNat o)) K := zx_aast z311 dJ26_poll_43 rfl h h4 h0 h1 h2
theorem s311_44 : zX d 311 44 [v0, v1, v2, zI x, v4, v5] st A K = zX d 311 45 [v0, v1, v2, zI x, v4, v5] (zI x :: st) A K := zx_iload_n z311 dJ26_poll_44 rfl rfl
theorem s311_45 : zX d 311 45 ls (zI x :: st) A K = (if x ≤ 0 then zX d 311 79 ls st A K else zX d 311 48 ls st A K) := zx_if_le z311 dJ26_poll_45 rfl rfl
theorem s311_48 : zX d 311 48 [zO o, v1, v2, v3, v4, v5] st A K = zX d 311 49 [zO o, v1, v2, v3, v4, v5] (zO o :: st) A K := zx_aload_n z311 dJ26_poll_48 rfl rfl
theorem s311_49 (h : tg A a = 15) : zX d 311 49 ls (zO (some a) :: st) A K = zX d 311 52 ls (fd A a 2 :: st) A K := zx_getf z311 zo311 dJ26_poll_49 F33_21 rfl h
theorem s311_52 (h : zc v = true) : zX d 311 52 ls (v :: st) A K = zX d 311 53 ls (v :: v :: st) A K := zx_dup z311 dJ26_poll_52 rfl h
theorem s311_53 : zX d 311 53 [v0, v1, v2, v3, v4, v5] (zO o :: st) A K = zX d 311 55 [v0, v1, v2, v3, v4, zO o] st A K := zx_astore z311 dJ26_poll_53 (Nat.le_of_ble_eq_true rfl) rfl rfl
theorem s311_55 : zX d 311 55 ls (zO o :: st) A K = (if o ≠ none then zX d 311 69 ls st A K else zX d 311 58 ls st A K) := zx_ifnonnull z311 dJ26_poll_55 rfl rfl
theorem s311_58 : zX d 311 58 ls st A K = zX d 311 59 ls (zI 0 :: st) A K := zx_const z311 dJ26_poll_58 (by decide) rfl
theorem s311_59 : zX d 311 59 [v0, v1, v2, v3, zO o, v5] st A K = zX d 311 61 [v0, v1, v2, v3, zO o, v5] (zO o :: st) A K := zx_aload z311 dJ26_poll_59 rfl rfl
theorem s311_61 : zX d 311 61 [v0, zO o, v2, v3, v4, v5] st A K = zX d 311 62 [v0, zO o, v2, v3, v4, v5] (zO o :: st) A K := zx_aload_n z311 dJ26_poll_61 rfl rfl
theorem s311_62 : zX d 311 62 [v0, v1, v2, zI x, v4, v5] st A K = zX d 311 63 [v0, v1, v2, zI x, v4, v5] (zI x :: st) A K := zx_iload_n z311 dJ26_poll_62 rfl rfl
theorem s311_66 : zX d 311 66 ls st A K = zX d 311 79 ls st A K := zx_goto z311 dJ26_poll_66 rfl
theorem s311_69 : zX d 311 69 ls st A K = zX d 311 70 ls (zI 0 :: st) A K := zx_const z311 dJ26_poll_69 (by decide) rfl
theorem s311_70 : zX d 311 70 [v0, v1, v2, v3, zO o, v5] st A K = zX d 311 72 [v0, v1, v2, v3, zO o, v5] (zO o :: st) A K := zx_aload z311 dJ26_poll_70 rfl rfl
theorem s311_72 : zX d 311 72 [v0, zO o, v2, v3, v4, v5] st A K = zX d 311 73 [v0, zO o, v2, v3, v4, v5] (zO o :: st) A K := zx_aload_n z311 dJ26_poll_72 rfl rfl
theorem s311_73 : zX d 311 73 [v0, v1, v2, zI x, v4, v5] st A K = zX d 311 74 [v0, v1, v2, zI x, v4, v5] (zI x :: st) A K := zx_iload_n z311 dJ26_poll_73 rfl rfl
theorem s311_74 : zX d 311 74 [v0, v1, v2, v3, v4, zO o] st A K = zX d 311 76 [v0, v1, v2, v3, v4, zO o] (zO o :: st) A K := zx_aload z311 dJ26_poll_74 rfl rfl
theorem s311_76 : zX (d + 1) 311 76 ls (zO o4 :: zI i3 :: zO o2 :: zO o1 :: zI i0 :: []) A K = zX d 312 0 [zI i0, zO o1, zO o2, zI i3, zO o4, zU, zU, zU, zU] [] A (zK (d + 1) 311 76 79 ls [] K) := zx_callS z311 zo311 dJ26_poll_76 rfl C33_129 rfl rfl zm312 rfl rfl (zwt_le (Nat.le_of_ble_eq_true rfl)) rfl
theorem s311_79 : zX d 311 79 [v0, v1, zO o, v3, v4, v5] st A K = zX d 311 80 [v0, v1, zO o, v3, v4, v5] (zO o :: st) A K := zx_aload_n z311 dJ26_poll_79 rfl rfl
theorem s311_80 : zX d 311 80 ls [zO o] A K = K (Sum.inl (some (zO o))) A := zx_aret z311 dJ26_poll_80 rfl
theorem s312_0 : zX d 312 0 [v0, v1, v2, zI x, v4, v5, v6, v7, v8] st A K = zX d 312 1 [v0, v1, v2, zI x, v4, v5, v6, v7, v8] (zI x :: st) A K := zx_iload_n z312 dJ26_siftDownUsingComparator_0 rfl rfl
theorem s312_1 : zX d 312 1 ls st A K = zX d 312 2 ls (zI 1 :: st) A K := zx_const z312 dJ26_siftDownUsingComparator_1 (by decide) rfl
theorem s312_2 : zX d 312 2 ls (zI y :: zI x :: st) A K = zX d 312 3 ls (zI (((Int32.ofInt x).toUInt32 >>> ((Int32.ofInt y).toUInt32 &&& Int32.toUInt32 31)).toInt32.toInt) :: st) A K := zx_iushr z312 dJ26_siftDownUsingComparator_2 rfl
theorem s312_3 : zX d 312 3 [v0, v1, v2, v3, v4, v5, v6, v7, v8] (zI x :: st) A K = zX d 312 5 [v0, v1, v2, v3, v4, zI x, v6, v7, v8] st A K := zx_istore z312 dJ26_siftDownUsingComparator_3 (Nat.le_of_ble_eq_true rfl) rfl rfl
theorem s312_5 : zX d 312 5 [zI x, v1, v2, v3, v4, v5, v6, v7, v8] st A K = zX d 312 6 [zI x, v1, v2, v3, v4, v5, v6, v7, v8] (zI x :: st) A K := zx_iload_n z312 dJ26_siftDownUsingComparator_5 rfl rfl
theorem s312_6 : zX d 312 6 [v0, v1, v2, v3, v4, zI x, v6, v7, v8] st A K = zX d 312 8 [v0, v1, v2, v3, v4, zI x, v6, v7, v8] (zI x :: st) A K := zx_iload z312 dJ26_siftDownUsingComparator_6 rfl rfl
theorem s312_8 : zX d 312 8 ls (zI y :: zI x :: st) A K = (if y ≤ x then zX d 312 88 ls st A K else zX d 312 11 ls st A K) := zx_ic_ge z312 dJ26_siftDownUsingComparator_8 rfl rfl
theorem s312_11 : zX d 312 11 [zI x, v1, v2, v3, v4, v5, v6, v7, v8] st A K = zX d 312 12 [zI x, v1, v2, v3, v4, v5, v6, v7, v8] (zI x :: st) A K := zx_iload_n z312 dJ26_siftDownUsingComparator_11 rfl rfl
theorem s312_12 : zX d 312 12 ls st A K = zX d 312 13 ls (zI 1 :: st) A K := zx_const z312 dJ26_siftDownUsingComparator_12 (by decide) rfl
theorem s312_13 : zX d 312 13 ls (zI y :: zI x :: st) A K = zX d 312 14 ls (zI ((Int32.ofInt x <<< (Int32.ofInt y &&& 31)).toInt) :: st) A K := zx_ishl z312 dJ26_siftDownUsingComparator_13 rfl
theorem s312_14 : zX d 312 14 ls st A K = zX d 312 15 ls (zI 1 :: st) A K := zx_const z312 dJ26_siftDownUsingComparator_14 (by decide) rfl
theorem s312_15 : zX d 312 15 ls (zI y :: zI x :: st) A K = zX d 312 16 ls (zI (zw (x + y)) :: st) A K := zx_iadd z312 dJ26_siftDownUsingComparator_15 rfl
theorem s312_16 : zX d 312 16 [v0, v1, v2, v3, v4, v5, v6, v7, v8] (zI x :: st) A K = zX d 312 18 [v0, v1, v2, v3, v4, v5, zI x, v7, v8] st A K := zx_istore z312 dJ26_siftDownUsingComparator_16 (Nat.le_of_ble_eq_true rfl) rfl rfl
theorem s312_18 : zX d 312 18 [v0, v1, zO o, v3, v4, v5, v6, v7, v8] st A K = zX d 312 19 [v0, v1, zO o, v3, v4, v5, v6, v7, v8] (zO o :: st) A K := zx_aload_n z312 dJ26_siftDownUsingComparator_18 rfl rfl
theorem s312_19 : zX d 312 19 [v0, v1, v2, v3, v4, v5, zI x, v7, v8] st A K = zX d 312 21 [v0, v1, v2, v3, v4, v5, zI x, v7, v8] (zI x :: st) A K := zx_iload z312 dJ26_siftDownUsingComparator_19 rfl rfl
theorem s312_21 (h : zarr (tg A a) = 3) (h0 : 0 ≤ x) (h1 : x.toNat < (ra A a).length) : zX d 312 21 ls (zI x :: zO (some a) :: st) A K = zX d 312 22 ls (zO ((ra A a).getD x.toNat none) :: st) A K := zx_aald z312 dJ26_siftDownUsingComparator_21 rfl h h0 h1
theorem s312_22 : zX d 312 22 [v0, v1, v2, v3, v4, v5, v6, v7, v8] (zO o :: st) A K = zX d 312 24 [v0, v1, v2, v3, v4, v5, v6, zO o, v8] st A K := zx_astore z312 dJ26_siftDownUsingComparator_22 (Nat.le_of_ble_eq_true rfl) rfl rfl
theorem s312_24 : zX d 312 24 [v0, v1, v2, v3, v4, v5, zI x, v7, v8] st A K = zX d 312 26 [v0, v1, v2, v3, v4, v5, zI x, v7, v8] (zI x :: st) A K := zx_iload z312 dJ26_siftDownUsingComparator_24 rfl rfl
theorem s312_26 : zX d 312 26 ls st A K = zX d 312 27 ls (zI 1 :: st) A K := zx_const z312 dJ26_siftDownUsingComparator_26 (by decide) rfl
theorem s312_27 : zX d 312 27 ls (zI y :: zI x :: st) A K = zX d 312 28 ls (zI (zw (x + y)) :: st) A K := zx_iadd z312 dJ26_siftDownUsingComparator_27 rfl
theorem s312_28 : zX d 312 28 [v0, v1, v2, v3, v4, v5, v6, v7, v8] (zI x :: st) A K = zX d 312 30 [v0, v1, v2, v3, v4, v5, v6, v7, zI x] st A K := zx_istore z312 dJ26_siftDownUsingComparator_28 (Nat.le_of_ble_eq_true rfl) rfl rfl
theorem s312_30 : zX d 312 30 [v0, v1, v2, v3, v4, v5, v6, v7, zI x] st A K = zX d 312 32 [v0, v1, v2, v3, v4, v5, v6, v7, zI x] (zI x :: st) A K := zx_iload z312 dJ26_siftDownUsingComparator_30 rfl rfl
theorem s312_32 : zX d 312 32 [v0, v1, v2, zI x, v4, v5, v6, v7, v8] st A K = zX d 312 33 [v0, v1, v2, zI x, v4, v5, v6, v7, v8] (zI x :: st) A K := zx_iload_n z312 dJ26_siftDownUsingComparator_32 rfl rfl
theorem s312_33 : zX d 312 33 ls (zI y :: zI x :: st) A K = (if y ≤ x then zX d 312 61 ls st A K else zX d 312 36 ls st A K) := zx_ic_ge z312 dJ26_siftDownUsingComparator_33 rfl rfl
theorem s312_36 : zX d 312 36 [v0, v1, v2, v3, zO o, v5, v6, v7, v8] st A K = zX d 312 38 [v0, v1, v2, v3, zO o, v5, v6, v7, v8] (zO o :: st) A K := zx_aload z312 dJ26_siftDownUsingComparator_36 rfl rfl
theorem s312_38 : zX d 312 38 [v0, v1, v2, v3, v4, v5, v6, zO o, v8] st A K = zX d 312 40 [v0, v1, v2, v3, v4, v5, v6, zO o, v8] (zO o :: st) A K := zx_aload z312 dJ26_siftDownUsingComparator_38 rfl rfl
theorem s312_40 : zX d 312 40 [v0, v1, zO o, v3, v4, v5, v6, v7, v8] st A K = zX d 312 41 [v0, v1, zO o, v3, v4, v5, v6, v7, v8] (zO o :: st) A K := zx_aload_n z312 dJ26_siftDownUsingComparator_40 rfl rfl
theorem s312_41 : zX d 312 41 [v0, v1, v2, v3, v4, v5, v6, v7, zI x] st A K = zX d 312 43 [v0, v1, v2, v3, v4, v5, v6, v7, zI x] (zI x :: st) A K := zx_iload z312 dJ26_siftDownUsingComparator_41 rfl rfl
theorem s312_43 (h : zarr (tg A a) = 3) (h0 : 0 ≤ x) (h1 : x.toNat < (ra A a).length) : zX d 312 43 ls (zI x :: zO (some a) :: st) A K = zX d 312 44 ls (zO ((ra A a).getD x.toNat none) :: st) A K := zx_aald z312 dJ26_siftDownUsingComparator_43 rfl h h0 h1
theorem s312_44 (h : tg A a = 8)  : zX (d + 1) 312 44 ls (zO o1 :: zO o0 :: zO (some a) :: []) A K = zX d 123 0 [zO (some a), zO o0, zO o1] [] A (zK (d + 1) 312 44 49 ls [] K) := zx_callF (t := 8) z312 zo312 dJ26_siftDownUsingComparator_44 rfl C33_149 rfl rfl zm123 rfl rfl (zwt_le (Nat.le_of_ble_eq_true rfl)) rfl h
theorem s312_49 : zX d 312 49 ls (zI x :: st) A K = (if x ≤ 0 then zX d 312 61 ls st A K else zX d 312 52 ls st A K) := zx_if_le z312 dJ26_siftDownUsingComparator_49 rfl rfl
theorem s312_52 : zX d 312 52 [v0, v1, zO o, v3, v4, v5, v6, v7, v8] st A K = zX d 312 53 [v0, v1, zO o, v3, v4, v5, v6, v7, v8] (zO o :: st) A K := zx_aload_n z312 dJ26_siftDownUsingComparator_52 rfl rfl
theorem s312_53 : zX d 312 53 [v0, v1, v2, v3, v4, v5, v6, v7, zI x] st A K = zX d 312 55 [v0, v1, v2, v3, v4, v5, v6, v7, zI x] (zI x :: st) A K := zx_iload z312 dJ26_siftDownUsingComparator_53 rfl rfl
theorem s312_55 (h : zc v = true) : zX d 312 55 ls (v :: st) A K = zX d 312 56 ls (v :: v :: st) A K := zx_dup z312 dJ26_siftDownUsingComparator_55 rfl h
theorem s312_56 : zX d 312 56 [v0, v1, v2, v3, v4, v5, v6, v7, v8] (zI x :: st) A K = zX d 312 58 [v0, v1, v2, v3, v4, v5, zI x, v7, v8] st A K := zx_istore z312 dJ26_siftDownUsingComparator_56 (Nat.le_of_ble_eq_true rfl) rfl rfl
theorem s312_58 (h : zarr (tg A a) = 3) (h0 : 0 ≤ x) (h1 : x.toNat < (ra A a).length) : zX d 312 58 ls (zI x :: zO (some a) :: st) A K = zX d 312 59 ls (zO ((ra A a).getD x.toNat none) :: st) A K := zx_aald z312 dJ26_siftDownUsingComparator_58 rfl h h0 h1
theorem s312_59 : zX d 312 59 [v0, v1, v2, v3, v4, v5, v6, v7, v8] (zO o :: st) A K = zX d 312 61 [v0, v1, v2, v3, v4, v5, v6, zO o, v8] st A K := zx_astore z312 dJ26_siftDownUsingComparator_59 (Nat.le_of_ble_eq_true rfl) rfl rfl
theorem s312_61 : zX d 312 61 [v0, v1, v2, v3, zO o, v5, v6, v7, v8] st A K = zX d 312 63 [v0, v1, v2, v3, zO o, v5, v6, v7, v8] (zO o :: st) A K := zx_aload z312 dJ26_siftDownUsingComparator_61 rfl rfl
theorem s312_63 : zX d 312 63 [v0, zO o, v2, v3, v4, v5, v6, v7, v8] st A K = zX d 312 64 [v0, zO o, v2, v3, v4, v5, v6, v7, v8] (zO o :: st) A K := zx_aload_n z312 dJ26_siftDownUsingComparator_63 rfl rfl
theorem s312_64 : zX d 312 64 [v0, v1, v2, v3, v4, v5, v6, zO o, v8] st A K = zX d 312 66 [v0, v1, v2, v3, v4, v5, v6, zO o, v8] (zO o :: st) A K := zx_aload z312 dJ26_siftDownUsingComparator_64 rfl rfl
theorem s312_66 (h : tg A a = 8)  : zX (d + 1) 312 66 ls (zO o1 :: zO o0 :: zO (some a) :: []) A K = zX d 123 0 [zO (some a), zO o0, zO o1] [] A (zK (d + 1) 312 66 71 ls [] K) := zx_callF (t := 8) z312 zo312 dJ26_siftDownUsingComparator_66 rfl C33_149 rfl rfl zm123 rfl rfl (zwt_le (Nat.le_of_ble_eq_true rfl)) rfl h
theorem s312_71 : zX d 312 71 ls (zI x :: st) A K = (if 0 < x then zX d 312 77 ls st A K else zX d 312 74 ls st A K) := zx_if_gt z312 dJ26_siftDownUsingComparator_71 rfl rfl
theorem s312_74 : zX d 312 74 ls st A K = zX d 312 88 ls st A K := zx_goto z312 dJ26_siftDownUsingComparator_74 rfl
theorem s312_77 : zX d 312 77 [v0, v1, zO o, v3, v4, v5, v6, v7, v8] st A K = zX d 312 78 [v0, v1, zO o, v3, v4, v5, v6, v7, v8] (zO o :: st) A K := zx_aload_n z312 dJ26_siftDownUsingComparator_77 rfl rfl
theorem s312_78 : zX d 312 78 [zI x, v1, v2, v3, v4, v5, v6, v7, v8] st A K = zX d 312 79 [zI x, v1, v2, v3, v4, v5, v6, v7, v8] (zI x :: st) A K := zx_iload_n z312 dJ26_siftDownUsingComparator_78 rfl rfl
theorem s312_79 : zX d 312 79 [v0, v1, v2, v3, v4, v5, v6, zO o, v8] st A K = zX d 312 81 [v0, v1, v2, v3, v4, v5, v6, zO o, v8] (zO o :: st) A K := zx_aload z312 dJ26_siftDownUsingComparator_79 rfl rfl
theorem s312_81 (h : 24 ≤ tg A a) (h4 : tg A a ≤ 28) (h0 : 0 ≤ x) (h1 : x.toNat < (ra A a).length) (h2 : ∀ b, o = some b → zel (tg A a) (tg A b) = true) : zX d 312 81 ls (zO o :: zI x :: zO (some a) :: st) A K = zX d 312 82 ls st (pR A a ((ra A a).set x.toNat o)) K := zx_aast z312 dJ26_siftDownUsingComparator_81 rfl h h4 h0 h1 h2
theorem s312_82 : zX d 312 82 [v0, v1, v2, v3, v4, v5, zI x, v7, v8] st A K = zX d 312 84 [v0, v1, v2, v3, v4, v5, zI x, v7, v8] (zI x :: st) A K := zx_iload z312 dJ26_siftDownUsingComparator_82 rfl rfl
theorem s312_84 : zX d 312 84 [v0, v1, v2, v3, v4, v5, v6, v7, v8] (zI x :: st) A K = zX d 312 85 [zI x, v1, v2, v3, v4, v5, v6, v7, v8] st A K := zx_istore_n z312 dJ26_siftDownUsingComparator_84 (Nat.le_of_ble_eq_true rfl) rfl rfl
theorem s312_85 : zX d 312 85 ls st A K = zX d 312 5 ls st A K := zx_goto z312 dJ26_siftDownUsingComparator_85 rfl
theorem s312_88 : zX d 312 88 [v0, v1, zO o, v3, v4, v5, v6, v7, v8] st A K = zX d 312 89 [v0, v1, zO o, v3, v4, v5, v6, v7, v8] (zO o :: st) A K := zx_aload_n z312 dJ26_siftDownUsingComparator_88 rfl rfl
theorem s312_89 : zX d 312 89 [zI x, v1, v2, v3, v4, v5, v6, v7, v8] st A K = zX d 312 90 [zI x, v1, v2, v3, v4, v5, v6, v7, v8] (zI x :: st) A K := zx_iload_n z312 dJ26_siftDownUsingComparator_89 rfl rfl
theorem s312_90 : zX d 312 90 [v0, zO o, v2, v3, v4, v5, v6, v7, v8] st A K = zX d 312 91 [v0, zO o, v2, v3, v4, v5, v6, v7, v8] (zO o :: st) A K := zx_aload_n z312 dJ26_siftDownUsingComparator_90 rfl rfl
theorem s312_91 (h : 24 ≤ tg A a) (h4 : tg A a ≤ 28) (h0 : 0 ≤ x) (h1 : x.toNat < (ra A a).length) (h2 : ∀ b, o = some b → zel (tg A a) (tg A b) = true) : zX d 312 91 ls (zO o :: zI x :: zO (some a) :: st) A K = zX d 312 92 ls st (pR A a ((ra A a).set x.toNat o)) K := zx_aast z312 dJ26_siftDownUsingComparator_91 rfl h h4 h0 h1 h2
theorem s312_92 : zX d 312 92 ls [] A K = K (Sum.inl none) A := zx_vret z312 dJ26_siftDownUsingComparator_92 rfl
end SS
