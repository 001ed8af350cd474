set_option maxRecDepth 100000
set_option linter.unusedVariables false
section SS
variable {d : Nat} {st ls : List ZV} {A : AH} {K : ZR → AH → Prop} {v u v0 v1 v2 v3 v4 v5 v6 v7 v8 v9 v10 v11 v12 v13 v14 u0 u1 u2 u3 u4 u5 w0 w1 w2 w3 w4 w5 w6 w7 : ZV} {x y w i0 i1 i2 i3 i4 i5 : Int} {a b : Nat} {o0 o1 o2 o3 o4 o5 : Option Nat} {o : Option Nat}
theorem s1_0 : zX d 1 0 [zO o, v1] st A K = zX d 1 1 [zO o, v1] (zO o :: st) A K := zx_aload_n z1 dX0_init_0 rfl rfl
theorem s1_1 : zX d 1 1 ls (zO (some a) :: []) A K = zX d 1 4 ls [] A K := zx_inI z1 zo1 dX0_init_1 rfl rfl rfl (zin_1 (zwt_le (Nat.le_of_ble_eq_true rfl)))
theorem s1_4 : zX d 1 4 [zO o, v1] st A K = zX d 1 5 [zO o, v1] (zO o :: st) A K := zx_aload_n z1 dX0_init_4 rfl rfl
theorem s1_5 : zX d 1 5 ls st A K = zX d 1 6 ls (zI 3 :: st) A K := zx_const z1 dX0_init_5 (by decide) rfl
theorem s1_6 (h : 0 ≤ x) (h2 : x ≤ 1000000) : zX d 1 6 ls (zI x :: st) A K = zX d 1 8 ls (zO (some (nx A)) :: st) (nA A 20 (List.replicate x.toNat 0)) K := zx_new_int z1 dX0_init_6 rfl h h2
theorem s1_8 (h : zc v = true) : zX d 1 8 ls (v :: st) A K = zX d 1 9 ls (v :: v :: st) A K := zx_dup z1 dX0_init_8 rfl h
theorem s1_9 : zX d 1 9 ls st A K = zX d 1 10 ls (zI 0 :: st) A K := zx_const z1 dX0_init_9 (by decide) rfl
theorem s1_10 : zX d 1 10 ls st A K = zX d 1 11 ls (zI 2 :: st) A K := zx_const z1 dX0_init_10 (by decide) rfl
theorem s1_11 (h : tg A a = 20) (h0 : 0 ≤ x) (h1 : x.toNat < (ia A a).length) : zX d 1 11 ls (zI y :: zI x :: zO (some a) :: st) A K = zX d 1 12 ls st (pI A a ((ia A a).set x.toNat y)) K := zx_iast z1 dX0_init_11 rfl h h0 h1
theorem s1_12 (h : zc v = true) : zX d 1 12 ls (v :: st) A K = zX d 1 13 ls (v :: v :: st) A K := zx_dup z1 dX0_init_12 rfl h
theorem s1_13 : zX d 1 13 ls st A K = zX d 1 14 ls (zI 1 :: st) A K := zx_const z1 dX0_init_13 (by decide) rfl
theorem s1_14 : zX d 1 14 ls st A K = zX d 1 15 ls (zI 2 :: st) A K := zx_const z1 dX0_init_14 (by decide) rfl
theorem s1_15 (h : tg A a = 20) (h0 : 0 ≤ x) (h1 : x.toNat < (ia A a).length) : zX d 1 15 ls (zI y :: zI x :: zO (some a) :: st) A K = zX d 1 16 ls st (pI A a ((ia A a).set x.toNat y)) K := zx_iast z1 dX0_init_15 rfl h h0 h1
theorem s1_16 (h : zc v = true) : zX d 1 16 ls (v :: st) A K = zX d 1 17 ls (v :: v :: st) A K := zx_dup z1 dX0_init_16 rfl h
theorem s1_17 : zX d 1 17 ls st A K = zX d 1 18 ls (zI 2 :: st) A K := zx_const z1 dX0_init_17 (by decide) rfl
theorem s1_18 : zX d 1 18 ls st A K = zX d 1 19 ls (zI 1 :: st) A K := zx_const z1 dX0_init_18 (by decide) rfl
theorem s1_19 (h : tg A a = 20) (h0 : 0 ≤ x) (h1 : x.toNat < (ia A a).length) : zX d 1 19 ls (zI y :: zI x :: zO (some a) :: st) A K = zX d 1 20 ls st (pI A a ((ia A a).set x.toNat y)) K := zx_iast z1 dX0_init_19 rfl h h0 h1
theorem s1_20 (h : tg A a = 1) : zX d 1 20 ls (zO o :: zO (some a) :: st) A K = zX d 1 23 ls st (pF A a 0 (zO o)) K := zx_putf (q := 3) z1 zo1 dX0_init_20 F2_7 rfl rfl rfl h rfl
theorem s1_23 : zX d 1 23 [zO o, v1] st A K = zX d 1 24 [zO o, v1] (zO o :: st) A K := zx_aload_n z1 dX0_init_23 rfl rfl
theorem s1_24 : zX d 1 24 ls st A K = zX d 1 26 ls (zI (6) :: st) A K := zx_bipush z1 dX0_init_24 (by decide) rfl
theorem s1_26 (h : 0 ≤ x) (h2 : x ≤ 1000000) : zX d 1 26 ls (zI x :: st) A K = zX d 1 29 ls (zO (some (nx A)) :: st) (nR A 24 (List.replicate x.toNat none)) K := zx_anew z1 zo1 dX0_init_26 rfl (by decide) rfl h h2
theorem s1_29 (h : tg A a = 1) : zX d 1 29 ls (zO o :: zO (some a) :: st) A K = zX d 1 32 ls st (pF A a 1 (zO o)) K := zx_putf (q := 3) z1 zo1 dX0_init_29 F2_15 rfl rfl rfl h rfl
theorem s1_32 : zX d 1 32 [zO o, v1] st A K = zX d 1 33 [zO o, v1] (zO o :: st) A K := zx_aload_n z1 dX0_init_32 rfl rfl
theorem s1_33 : zX d 1 33 ls st A K = zX d 1 34 ls (zI 4 :: st) A K := zx_const z1 dX0_init_33 (by decide) rfl
theorem s1_34 (h : 0 ≤ x) (h2 : x ≤ 1000000) : zX d 1 34 ls (zI x :: st) A K = zX d 1 37 ls (zO (some (nx A)) :: st) (nR A 25 (List.replicate x.toNat none)) K := zx_anew z1 zo1 dX0_init_34 rfl (by decide) rfl h h2
theorem s1_37 (h : tg A a = 1) : zX d 1 37 ls (zO o :: zO (some a) :: st) A K = zX d 1 40 ls st (pF A a 3 (zO o)) K := zx_putf (q := 3) z1 zo1 dX0_init_37 F2_21 rfl rfl rfl h rfl
theorem s1_40 : zX d 1 40 [zO o, v1] st A K = zX d 1 41 [zO o, v1] (zO o :: st) A K := zx_aload_n z1 dX0_init_40 rfl rfl
theorem s1_41 : zX d 1 41 ls st A K = zX d 1 43 ls (zI (80) :: st) A K := zx_bipush z1 dX0_init_41 (by decide) rfl
theorem s1_43 (h : 0 ≤ x) (h2 : x ≤ 1000000) : zX d 1 43 ls (zI x :: st) A K = zX d 1 45 ls (zO (some (nx A)) :: st) (nA A 21 (List.replicate x.toNat 0)) K := zx_new_byte z1 dX0_init_43 rfl h h2
theorem s1_45 (h : tg A a = 1) : zX d 1 45 ls (zO o :: zO (some a) :: st) A K = zX d 1 48 ls st (pF A a 4 (zO o)) K := zx_putf (q := 3) z1 zo1 dX0_init_45 F2_25 rfl rfl rfl h rfl
theorem s1_48 : zX d 1 48 [zO o, v1] st A K = zX d 1 49 [zO o, v1] (zO o :: st) A K := zx_aload_n z1 dX0_init_48 rfl rfl
theorem s1_49 : zX d 1 49 ls st A K = zX d 1 51 ls (zI (80) :: st) A K := zx_bipush z1 dX0_init_49 (by decide) rfl
theorem s1_51 (h : 0 ≤ x) (h2 : x ≤ 1000000) : zX d 1 51 ls (zI x :: st) A K = zX d 1 53 ls (zO (some (nx A)) :: st) (nA A 21 (List.replicate x.toNat 0)) K := zx_new_byte z1 dX0_init_51 rfl h h2
theorem s1_53 (h : tg A a = 1) : zX d 1 53 ls (zO o :: zO (some a) :: st) A K = zX d 1 56 ls st (pF A a 6 (zO o)) K := zx_putf (q := 3) z1 zo1 dX0_init_53 F2_29 rfl rfl rfl h rfl
theorem s1_56 : zX d 1 56 [zO o, v1] st A K = zX d 1 57 [zO o, v1] (zO o :: st) A K := zx_aload_n z1 dX0_init_56 rfl rfl
theorem s1_57 : zX d 1 57 ls st A K = zX d 1 60 ls (zO (some (nx A)) :: st) (nO A 2) K := zx_new z1 zo1 dX0_init_57 rfl rfl
theorem s1_60 (h : zc v = true) : zX d 1 60 ls (v :: st) A K = zX d 1 61 ls (v :: v :: st) A K := zx_dup z1 dX0_init_60 rfl h
theorem s1_61 : zX d 1 61 [zO o, v1] st A K = zX d 1 62 [zO o, v1] (zO o :: st) A K := zx_aload_n z1 dX0_init_61 rfl rfl
theorem s1_62 : zX (d + 1) 1 62 ls (zO o0 :: zO (some a) :: [w0, w1]) A K = zX d 90 0 [zO (some a), zO o0] [] A (zK (d + 1) 1 62 65 ls [w0, w1] K) := zx_callI z1 zo1 dX0_init_62 rfl C2_34 rfl rfl zm90 rfl rfl (zwt_le (Nat.le_of_ble_eq_true rfl)) rfl
theorem s1_65 (h : tg A a = 1) : zX d 1 65 ls (zO o :: zO (some a) :: st) A K = zX d 1 68 ls st (pF A a 8 (zO o)) K := zx_putf (q := 3) z1 zo1 dX0_init_65 F2_37 rfl rfl rfl h rfl
theorem s1_68 : zX d 1 68 [zO o, v1] st A K = zX d 1 69 [zO o, v1] (zO o :: st) A K := zx_aload_n z1 dX0_init_68 rfl rfl
theorem s1_69 : zX d 1 69 ls st A K = zX d 1 70 ls (zI 1 :: st) A K := zx_const z1 dX0_init_69 (by decide) rfl
theorem s1_70 (h : tg A a = 1) (h2 : x = 0 ∨ x = 1) : zX d 1 70 ls (zI x :: zO (some a) :: st) A K = zX d 1 73 ls st (pF A a 9 (zI x)) K := zx_putf (q := 1) z1 zo1 dX0_init_70 F2_41 rfl rfl rfl h (by rcases h2 with q | q <;> subst q <;> rfl)
theorem s1_73 : zX d 1 73 [zO o, v1] st A K = zX d 1 74 [zO o, v1] (zO o :: st) A K := zx_aload_n z1 dX0_init_73 rfl rfl
theorem s1_74 : zX d 1 74 ls st A K = zX d 1 77 ls (zI (160) :: st) A K := zx_sipush z1 dX0_init_74 (by decide) rfl
theorem s1_77 (h : 0 ≤ x) (h2 : x ≤ 1000000) : zX d 1 77 ls (zI x :: st) A K = zX d 1 80 ls (zO (some (nx A)) :: st) (nR A 26 (List.replicate x.toNat none)) K := zx_anew z1 zo1 dX0_init_77 rfl (by decide) rfl h h2
theorem s1_80 (h : tg A a = 1) : zX d 1 80 ls (zO o :: zO (some a) :: st) A K = zX d 1 83 ls st (pF A a 10 (zO o)) K := zx_putf (q := 3) z1 zo1 dX0_init_80 F2_47 rfl rfl rfl h rfl
theorem s1_83 : zX d 1 83 [zO o, v1] st A K = zX d 1 84 [zO o, v1] (zO o :: st) A K := zx_aload_n z1 dX0_init_83 rfl rfl
theorem s1_84 : zX d 1 84 ls st A K = zX d 1 87 ls (zI (160) :: st) A K := zx_sipush z1 dX0_init_84 (by decide) rfl
theorem s1_87 : zX d 1 87 ls st A K = zX d 1 90 ls (zI (160) :: st) A K := zx_sipush z1 dX0_init_87 (by decide) rfl
theorem s1_90 (h : 0 ≤ y) (h2 : y ≤ 1000) (h3 : 0 ≤ x) (h4 : x ≤ 1000) : zX d 1 90 ls (zI y :: zI x :: st) A K = zX d 1 94 ls (zO (some (nx A)) :: st) (nM A 29 22 x.toNat y.toNat) K := zx_mnew z1 zo1 dX0_init_90 rfl rfl h h2 h3 h4
theorem s1_94 (h : tg A a = 1) : zX d 1 94 ls (zO o :: zO (some a) :: st) A K = zX d 1 97 ls st (pF A a 12 (zO o)) K := zx_putf (q := 3) z1 zo1 dX0_init_94 F2_53 rfl rfl rfl h rfl
theorem s1_97 : zX d 1 97 [zO o, v1] st A K = zX d 1 98 [zO o, v1] (zO o :: st) A K := zx_aload_n z1 dX0_init_97 rfl rfl
theorem s1_98 : zX d 1 98 ls st A K = zX d 1 101 ls (zI (160) :: st) A K := zx_sipush z1 dX0_init_98 (by decide) rfl
theorem s1_101 (h : 0 ≤ x) (h2 : x ≤ 1000000) : zX d 1 101 ls (zI x :: st) A K = zX d 1 103 ls (zO (some (nx A)) :: st) (nA A 20 (List.replicate x.toNat 0)) K := zx_new_int z1 dX0_init_101 rfl h h2
theorem s1_103 (h : tg A a = 1) : zX d 1 103 ls (zO o :: zO (some a) :: st) A K = zX d 1 106 ls st (pF A a 13 (zO o)) K := zx_putf (q := 3) z1 zo1 dX0_init_103 F2_56 rfl rfl rfl h rfl
theorem s1_106 : zX d 1 106 [zO o, v1] st A K = zX d 1 107 [zO o, v1] (zO o :: st) A K := zx_aload_n z1 dX0_init_106 rfl rfl
theorem s1_107 : zX d 1 107 ls st A K = zX d 1 110 ls (zI (160) :: st) A K := zx_sipush z1 dX0_init_107 (by decide) rfl
theorem s1_110 (h : 0 ≤ x) (h2 : x ≤ 1000000) : zX d 1 110 ls (zI x :: st) A K = zX d 1 112 ls (zO (some (nx A)) :: st) (nA A 22 (List.replicate x.toNat 0)) K := zx_new_boolean z1 dX0_init_110 rfl h h2
theorem s1_112 (h : tg A a = 1) : zX d 1 112 ls (zO o :: zO (some a) :: st) A K = zX d 1 115 ls st (pF A a 15 (zO o)) K := zx_putf (q := 3) z1 zo1 dX0_init_112 F2_59 rfl rfl rfl h rfl
theorem s1_115 : zX d 1 115 [zO o, v1] st A K = zX d 1 116 [zO o, v1] (zO o :: st) A K := zx_aload_n z1 dX0_init_115 rfl rfl
theorem s1_116 : zX d 1 116 ls st A K = zX d 1 119 ls (zI (160) :: st) A K := zx_sipush z1 dX0_init_116 (by decide) rfl
theorem s1_119 : zX d 1 119 ls st A K = zX d 1 122 ls (zI (160) :: st) A K := zx_sipush z1 dX0_init_119 (by decide) rfl
theorem s1_122 (h : 0 ≤ y) (h2 : y ≤ 1000) (h3 : 0 ≤ x) (h4 : x ≤ 1000) : zX d 1 122 ls (zI y :: zI x :: st) A K = zX d 1 126 ls (zO (some (nx A)) :: st) (nM A 29 22 x.toNat y.toNat) K := zx_mnew z1 zo1 dX0_init_122 rfl rfl h h2 h3 h4
theorem s1_126 (h : tg A a = 1) : zX d 1 126 ls (zO o :: zO (some a) :: st) A K = zX d 1 129 ls st (pF A a 16 (zO o)) K := zx_putf (q := 3) z1 zo1 dX0_init_126 F2_63 rfl rfl rfl h rfl
theorem s1_129 : zX d 1 129 [zO o, v1] st A K = zX d 1 130 [zO o, v1] (zO o :: st) A K := zx_aload_n z1 dX0_init_129 rfl rfl
theorem s1_130 : zX d 1 130 ls st A K = zX d 1 133 ls (zO (some (nx A)) :: st) (nO A 10) K := zx_new z1 zo1 dX0_init_130 rfl rfl
theorem s1_133 (h : zc v = true) : zX d 1 133 ls (v :: st) A K = zX d 1 134 ls (v :: v :: st) A K := zx_dup z1 dX0_init_133 rfl h
theorem s1_134 : zX (d + 1) 1 134 ls (zO (some a) :: [w0, w1]) A K = zX d 233 0 [zO (some a)] [] A (zK (d + 1) 1 134 137 ls [w0, w1] K) := zx_callI z1 zo1 dX0_init_134 rfl C2_68 rfl rfl zm233 rfl rfl (zwt_le (Nat.le_of_ble_eq_true rfl)) rfl
theorem s1_137 (h : tg A a = 1) : zX d 1 137 ls (zO o :: zO (some a) :: st) A K = zX d 1 140 ls st (pF A a 17 (zO o)) K := zx_putf (q := 3) z1 zo1 dX0_init_137 F2_69 rfl rfl rfl h rfl
theorem s1_140 : zX d 1 140 [zO o, v1] st A K = zX d 1 141 [zO o, v1] (zO o :: st) A K := zx_aload_n z1 dX0_init_140 rfl rfl
theorem s1_141 : zX d 1 141 ls st A K = zX d 1 144 ls (zO (some (nx A)) :: st) (nO A 14) K := zx_new z1 zo1 dX0_init_141 rfl rfl
theorem s1_144 (h : zc v = true) : zX d 1 144 ls (v :: st) A K = zX d 1 145 ls (v :: v :: st) A K := zx_dup z1 dX0_init_144 rfl h
theorem s1_145 : zX (d + 1) 1 145 ls (zO (some a) :: [w0, w1]) A K = zX d 259 0 [zO (some a)] [] A (zK (d + 1) 1 145 148 ls [w0, w1] K) := zx_callI z1 zo1 dX0_init_145 rfl C2_75 rfl rfl zm259 rfl rfl (zwt_le (Nat.le_of_ble_eq_true rfl)) rfl
theorem s1_148 (h : tg A a = 1) : zX d 1 148 ls (zO o :: zO (some a) :: st) A K = zX d 1 151 ls st (pF A a 18 (zO o)) K := zx_putf (q := 3) z1 zo1 dX0_init_148 F2_76 rfl rfl rfl h rfl
theorem s1_151 : zX d 1 151 [zO o, v1] st A K = zX d 1 152 [zO o, v1] (zO o :: st) A K := zx_aload_n z1 dX0_init_151 rfl rfl
theorem s1_152 : zX d 1 152 ls st A K = zX d 1 155 ls (zI (401) :: st) A K := zx_sipush z1 dX0_init_152 (by decide) rfl
theorem s1_155 (h : 0 ≤ x) (h2 : x ≤ 1000000) : zX d 1 155 ls (zI x :: st) A K = zX d 1 158 ls (zO (some (nx A)) :: st) (nR A 27 (List.replicate x.toNat none)) K := zx_anew z1 zo1 dX0_init_155 rfl (by decide) rfl h h2
theorem s1_158 (h : tg A a = 1) : zX d 1 158 ls (zO o :: zO (some a) :: st) A K = zX d 1 161 ls st (pF A a 19 (zO o)) K := zx_putf (q := 3) z1 zo1 dX0_init_158 F2_82 rfl rfl rfl h rfl
theorem s1_161 : zX d 1 161 [zO o, v1] st A K = zX d 1 162 [zO o, v1] (zO o :: st) A K := zx_aload_n z1 dX0_init_161 rfl rfl
theorem s1_162 : zX d 1 162 ls st A K = zX d 1 165 ls (zO (some (nx A)) :: st) (nO A 3) K := zx_new z1 zo1 dX0_init_162 rfl rfl
theorem s1_165 (h : zc v = true) : zX d 1 165 ls (v :: st) A K = zX d 1 166 ls (v :: v :: st) A K := zx_dup z1 dX0_init_165 rfl h
theorem s1_166 : zX d 1 166 ls st A K = zX d 1 167 ls (zI 0 :: st) A K := zx_const z1 dX0_init_166 (by decide) rfl
theorem s1_167 : zX d 1 167 ls st A K = zX d 1 168 ls (zI 0 :: st) A K := zx_const z1 dX0_init_167 (by decide) rfl
theorem s1_168 : zX d 1 168 ls st A K = zX d 1 170 ls (zI (9) :: st) A K := zx_bipush z1 dX0_init_168 (by decide) rfl
theorem s1_170 (h : 0 ≤ x) (h2 : x ≤ 1000000) : zX d 1 170 ls (zI x :: st) A K = zX d 1 172 ls (zO (some (nx A)) :: st) (nA A 20 (List.replicate x.toNat 0)) K := zx_new_int z1 dX0_init_170 rfl h h2
theorem s1_172 : zX (d + 1) 1 172 ls (zO o2 :: zI i1 :: zI i0 :: zO (some a) :: [w0, w1]) A K = zX d 98 0 [zO (some a), zI i0, zI i1, zO o2] [] A (zK (d + 1) 1 172 175 ls [w0, w1] K) := zx_callI z1 zo1 dX0_init_172 rfl C2_86 rfl rfl zm98 rfl rfl (zwt_le (Nat.le_of_ble_eq_true rfl)) rfl
theorem s1_175 (h : tg A a = 1) : zX d 1 175 ls (zO o :: zO (some a) :: st) A K = zX d 1 178 ls st (pF A a 20 (zO o)) K := zx_putf (q := 3) z1 zo1 dX0_init_175 F2_89 rfl rfl rfl h rfl
theorem s1_178 : zX d 1 178 [zO o, v1] st A K = zX d 1 179 [zO o, v1] (zO o :: st) A K := zx_aload_n z1 dX0_init_178 rfl rfl
theorem s1_179 : zX d 1 179 ls st A K = zX d 1 180 ls (zI 3 :: st) A K := zx_const z1 dX0_init_179 (by decide) rfl
theorem s1_180 (h : 0 ≤ x) (h2 : x ≤ 1000000) : zX d 1 180 ls (zI x :: st) A K = zX d 1 182 ls (zO (some (nx A)) :: st) (nA A 20 (List.replicate x.toNat 0)) K := zx_new_int z1 dX0_init_180 rfl h h2
theorem s1_182 (h : tg A a = 1) : zX d 1 182 ls (zO o :: zO (some a) :: st) A K = zX d 1 185 ls st (pF A a 23 (zO o)) K := zx_putf (q := 3) z1 zo1 dX0_init_182 F2_93 rfl rfl rfl h rfl
theorem s1_185 : zX d 1 185 [zO o, v1] st A K = zX d 1 186 [zO o, v1] (zO o :: st) A K := zx_aload_n z1 dX0_init_185 rfl rfl
theorem s1_186 : zX d 1 186 ls st A K = zX d 1 189 ls (zI (160) :: st) A K := zx_sipush z1 dX0_init_186 (by decide) rfl
theorem s1_189 (h : 0 ≤ x) (h2 : x ≤ 1000000) : zX d 1 189 ls (zI x :: st) A K = zX d 1 191 ls (zO (some (nx A)) :: st) (nA A 20 (List.replicate x.toNat 0)) K := zx_new_int z1 dX0_init_189 rfl h h2
theorem s1_191 (h : tg A a = 1) : zX d 1 191 ls (zO o :: zO (some a) :: st) A K = zX d 1 194 ls st (pF A a 24 (zO o)) K := zx_putf (q := 3) z1 zo1 dX0_init_191 F2_96 rfl rfl rfl h rfl
theorem s1_194 : zX d 1 194 [zO o, v1] st A K = zX d 1 195 [zO o, v1] (zO o :: st) A K := zx_aload_n z1 dX0_init_194 rfl rfl
theorem s1_195 : zX d 1 195 ls st A K = zX d 1 196 ls (zI 3 :: st) A K := zx_const z1 dX0_init_195 (by decide) rfl
theorem s1_196 (h : 0 ≤ x) (h2 : x ≤ 1000000) : zX d 1 196 ls (zI x :: st) A K = zX d 1 198 ls (zO (some (nx A)) :: st) (nA A 20 (List.replicate x.toNat 0)) K := zx_new_int z1 dX0_init_196 rfl h h2
theorem s1_198 (h : tg A a = 1) : zX d 1 198 ls (zO o :: zO (some a) :: st) A K = zX d 1 201 ls st (pF A a 25 (zO o)) K := zx_putf (q := 3) z1 zo1 dX0_init_198 F2_99 rfl rfl rfl h rfl
theorem s1_201 : zX d 1 201 [zO o, v1] st A K = zX d 1 202 [zO o, v1] (zO o :: st) A K := zx_aload_n z1 dX0_init_201 rfl rfl
theorem s1_202 : zX d 1 202 ls st A K = zX d 1 204 ls (zI (100) :: st) A K := zx_bipush z1 dX0_init_202 (by decide) rfl
theorem s1_204 (h : 0 ≤ x) (h2 : x ≤ 1000000) : zX d 1 204 ls (zI x :: st) A K = zX d 1 207 ls (zO (some (nx A)) :: st) (nR A 25 (List.replicate x.toNat none)) K := zx_anew z1 zo1 dX0_init_204 rfl (by decide) rfl h h2
theorem s1_207 (h : tg A a = 1) : zX d 1 207 ls (zO o :: zO (some a) :: st) A K = zX d 1 210 ls st (pF A a 26 (zO o)) K := zx_putf (q := 3) z1 zo1 dX0_init_207 F2_102 rfl rfl rfl h rfl
theorem s1_210 : zX d 1 210 [zO o, v1] st A K = zX d 1 211 [zO o, v1] (zO o :: st) A K := zx_aload_n z1 dX0_init_210 rfl rfl
theorem s1_211 : zX d 1 211 ls st A K = zX d 1 213 ls (zI (30) :: st) A K := zx_bipush z1 dX0_init_211 (by decide) rfl
theorem s1_213 (h : 0 ≤ x) (h2 : x ≤ 1000000) : zX d 1 213 ls (zI x :: st) A K = zX d 1 216 ls (zO (some (nx A)) :: st) (nR A 25 (List.replicate x.toNat none)) K := zx_anew z1 zo1 dX0_init_213 rfl (by decide) rfl h h2
theorem s1_216 (h : tg A a = 1) : zX d 1 216 ls (zO o :: zO (some a) :: st) A K = zX d 1 219 ls st (pF A a 27 (zO o)) K := zx_putf (q := 3) z1 zo1 dX0_init_216 F2_105 rfl rfl rfl h rfl
theorem s1_219 : zX d 1 219 [zO o, v1] st A K = zX d 1 220 [zO o, v1] (zO o :: st) A K := zx_aload_n z1 dX0_init_219 rfl rfl
theorem s1_220 : zX d 1 220 ls st A K = zX d 1 221 ls (zI 3 :: st) A K := zx_const z1 dX0_init_220 (by decide) rfl
theorem s1_221 (h : 0 ≤ x) (h2 : x ≤ 1000000) : zX d 1 221 ls (zI x :: st) A K = zX d 1 223 ls (zO (some (nx A)) :: st) (nA A 20 (List.replicate x.toNat 0)) K := zx_new_int z1 dX0_init_221 rfl h h2
theorem s1_223 (h : tg A a = 1) : zX d 1 223 ls (zO o :: zO (some a) :: st) A K = zX d 1 226 ls st (pF A a 29 (zO o)) K := zx_putf (q := 3) z1 zo1 dX0_init_223 F2_108 rfl rfl rfl h rfl
theorem s1_226 : zX d 1 226 [zO o, v1] st A K = zX d 1 227 [zO o, v1] (zO o :: st) A K := zx_aload_n z1 dX0_init_226 rfl rfl
theorem s1_227 : zX d 1 227 ls st A K = zX d 1 229 ls (zI (6) :: st) A K := zx_bipush z1 dX0_init_227 (by decide) rfl
theorem s1_229 (h : 0 ≤ x) (h2 : x ≤ 1000000) : zX d 1 229 ls (zI x :: st) A K = zX d 1 232 ls (zO (some (nx A)) :: st) (nR A 24 (List.replicate x.toNat none)) K := zx_anew z1 zo1 dX0_init_229 rfl (by decide) rfl h h2
theorem s1_232 (h : tg A a = 1) : zX d 1 232 ls (zO o :: zO (some a) :: st) A K = zX d 1 235 ls st (pF A a 30 (zO o)) K := zx_putf (q := 3) z1 zo1 dX0_init_232 F2_111 rfl rfl rfl h rfl
theorem s1_235 : zX d 1 235 [zO o, v1] st A K = zX d 1 236 [zO o, v1] (zO o :: st) A K := zx_aload_n z1 dX0_init_235 rfl rfl
theorem s1_236 : zX d 1 236 ls st A K = zX d 1 237 ls (zI 4 :: st) A K := zx_const z1 dX0_init_236 (by decide) rfl
theorem s1_237 (h : 0 ≤ x) (h2 : x ≤ 1000000) : zX d 1 237 ls (zI x :: st) A K = zX d 1 240 ls (zO (some (nx A)) :: st) (nR A 25 (List.replicate x.toNat none)) K := zx_anew z1 zo1 dX0_init_237 rfl (by decide) rfl h h2
theorem s1_240 (h : tg A a = 1) : zX d 1 240 ls (zO o :: zO (some a) :: st) A K = zX d 1 243 ls st (pF A a 32 (zO o)) K := zx_putf (q := 3) z1 zo1 dX0_init_240 F2_114 rfl rfl rfl h rfl
theorem s1_243 : zX d 1 243 ls st A K = zX d 1 244 ls (zI 0 :: st) A K := zx_const z1 dX0_init_243 (by decide) rfl
theorem s1_244 : zX d 1 244 [v0, v1] (zI x :: st) A K = zX d 1 245 [v0, zI x] st A K := zx_istore_n z1 dX0_init_244 (Nat.le_of_ble_eq_true rfl) rfl rfl
theorem s1_245 : zX d 1 245 [v0, zI x] st A K = zX d 1 246 [v0, zI x] (zI x :: st) A K := zx_iload_n z1 dX0_init_245 rfl rfl
theorem s1_246 : zX d 1 246 ls st A K = zX d 1 247 ls (zI 4 :: st) A K := zx_const z1 dX0_init_246 (by decide) rfl
theorem s1_247 : zX d 1 247 ls (zI y :: zI x :: st) A K = (if y ≤ x then zX d 1 266 ls st A K else zX d 1 250 ls st A K) := zx_ic_ge z1 dX0_init_247 rfl rfl
theorem s1_250 : zX d 1 250 [zO o, v1] st A K = zX d 1 251 [zO o, v1] (zO o :: st) A K := zx_aload_n z1 dX0_init_250 rfl rfl
theorem s1_251 (h : tg A a = 1) : zX d 1 251 ls (zO (some a) :: st) A K = zX d 1 254 ls (fd A a 3 :: st) A K := zx_getf z1 zo1 dX0_init_251 F2_21 rfl h
theorem s1_254 : zX d 1 254 [v0, zI x] st A K = zX d 1 255 [v0, zI x] (zI x :: st) A K := zx_iload_n z1 dX0_init_254 rfl rfl
theorem s1_255 : zX d 1 255 [zO o, v1] st A K = zX d 1 256 [zO o, v1] (zO o :: st) A K := zx_aload_n z1 dX0_init_255 rfl rfl
theorem s1_256 (h : tg A a = 1)  : zX (d + 1) 1 256 ls (zO (some a) :: [w0, w1]) A K = zX d 2 0 [zO (some a)] [] A (zK (d + 1) 1 256 259 ls [w0, w1] K) := zx_callV (t := 1) z1 zo1 dX0_init_256 rfl C2_117 rfl rfl zm2 rfl rfl (zwt_le (Nat.le_of_ble_eq_true rfl)) rfl h
theorem s1_259 (h : 24 ≤ tg A a) (h4 : tg A a ≤ 28) (h0 : 0 ≤ x) (h1 : x.toNat < (ra A a).length) (h2 : ∀ b, o = some b → zel (tg A a) (tg A b) = true) : zX d 1 259 ls (zO o :: zI x :: zO (some a) :: st) A K = zX d 1 260 ls st (pR A a ((ra A a).set x.toNat o)) K := zx_aast z1 dX0_init_259 rfl h h4 h0 h1 h2
theorem s1_260 : zX d 1 260 [v0, zI x] st A K = zX d 1 263 [v0, zI (zw (x + 1))] st A K := zx_iinc z1 dX0_init_260 rfl rfl rfl
theorem s1_263 : zX d 1 263 ls st A K = zX d 1 245 ls st A K := zx_goto z1 dX0_init_263 rfl
theorem s1_266 : zX d 1 266 ls [] A K = K (Sum.inl none) A := zx_vret z1 dX0_init_266 rfl
theorem s2_0 : zX d 2 0 [zO o] st A K = zX d 2 1 [zO o] (zO o :: st) A K := zx_aload_n z2 dX0_zero_0 rfl rfl
theorem s2_1 : zX d 2 1 ls st A K = zX d 2 2 ls (zI 0 :: st) A K := zx_const z2 dX0_zero_1 (by decide) rfl
theorem s2_2 (h : tg A a = 1) : zX d 2 2 ls (zI x :: zO (some a) :: st) A K = zX d 2 5 ls st (pF A a 5 (zI x)) K := zx_putf (q := 0) z2 zo2 dX0_zero_2 F2_121 rfl rfl rfl h rfl
theorem s2_5 : zX d 2 5 [zO o] st A K = zX d 2 6 [zO o] (zO o :: st) A K := zx_aload_n z2 dX0_zero_5 rfl rfl
theorem s2_6 : zX d 2 6 ls st A K = zX d 2 8 ls (zI (122) :: st) A K := zx_bipush z2 dX0_zero_6 (by decide) rfl
theorem s2_8 (h : tg A a = 1)  : zX (d + 1) 2 8 ls (zI i0 :: zO (some a) :: []) A K = zX d 3 0 [zO (some a), zI i0] [] A (zK (d + 1) 2 8 11 ls [] K) := zx_callV (t := 1) z2 zo2 dX0_zero_8 rfl C2_125 rfl rfl zm3 rfl rfl (zwt_le (Nat.le_of_ble_eq_true rfl)) rfl h
theorem s2_11 : zX d 2 11 ls st A K = zX d 2 14 ls (zO (some (nx A)) :: st) (nO A 4) K := zx_new z2 zo2 dX0_zero_11 rfl rfl
theorem s2_14 (h : zc v = true) : zX d 2 14 ls (v :: st) A K = zX d 2 15 ls (v :: v :: st) A K := zx_dup z2 dX0_zero_14 rfl h
theorem s2_15 : zX d 2 15 [zO o] st A K = zX d 2 16 [zO o] (zO o :: st) A K := zx_aload_n z2 dX0_zero_15 rfl rfl
theorem s2_16 (h : tg A a = 1) : zX d 2 16 ls (zO (some a) :: st) A K = zX d 2 19 ls (fd A a 4 :: st) A K := zx_getf z2 zo2 dX0_zero_16 F2_25 rfl h
theorem s2_19 : zX d 2 19 [zO o] st A K = zX d 2 20 [zO o] (zO o :: st) A K := zx_aload_n z2 dX0_zero_19 rfl rfl
theorem s2_20 (h : tg A a = 1) : zX d 2 20 ls (zO (some a) :: st) A K = zX d 2 23 ls (fd A a 5 :: st) A K := zx_getf z2 zo2 dX0_zero_20 F2_121 rfl h
theorem s2_23 : zX d 2 23 [zO o] st A K = zX d 2 24 [zO o] (zO o :: st) A K := zx_aload_n z2 dX0_zero_23 rfl rfl
theorem s2_24 (h : tg A a = 1) : zX d 2 24 ls (zO (some a) :: st) A K = zX d 2 27 ls (fd A a 0 :: st) A K := zx_getf z2 zo2 dX0_zero_24 F2_7 rfl h
theorem s2_27 : zX (d + 1) 2 27 ls (zO o2 :: zI i1 :: zO o0 :: zO (some a) :: [w0]) A K = zX d 104 0 [zO (some a), zO o0, zI i1, zO o2, zU, zU] [] A (zK (d + 1) 2 27 30 ls [w0] K) := zx_callI z2 zo2 dX0_zero_27 rfl C2_129 rfl rfl zm104 rfl rfl (zwt_le (Nat.le_of_ble_eq_true rfl)) rfl
theorem s2_30 : zX d 2 30 ls [zO o] A K = K (Sum.inl (some (zO o))) A := zx_aret z2 dX0_zero_30 rfl
theorem s3_0 : zX d 3 0 [zO o, v1] st A K = zX d 3 1 [zO o, v1] (zO o :: st) A K := zx_aload_n z3 dX0_build_0 rfl rfl
theorem s3_1 (h : tg A a = 1) : zX d 3 1 ls (zO (some a) :: st) A K = zX d 3 4 ls (fd A a 4 :: st) A K := zx_getf z3 zo3 dX0_build_1 F2_25 rfl h
theorem s3_4 : zX d 3 4 [zO o, v1] st A K = zX d 3 5 [zO o, v1] (zO o :: st) A K := zx_aload_n z3 dX0_build_4 rfl rfl
theorem s3_5 (h : tg A a = 1) : zX d 3 5 ls (zO (some a) :: st) A K = zX d 3 8 ls (fd A a 5 :: st) A K := zx_getf z3 zo3 dX0_build_5 F2_121 rfl h
theorem s3_8 : zX d 3 8 [v0, zI x] st A K = zX d 3 9 [v0, zI x] (zI x :: st) A K := zx_iload_n z3 dX0_build_8 rfl rfl
theorem s3_9 : zX d 3 9 ls (zI x :: st) A K = zX d 3 10 ls (zI (zhb x) :: st) A K := zx_i2b z3 dX0_build_9 rfl
theorem s3_10 (h : tg A a = 21) (h0 : 0 ≤ x) (h1 : x.toNat < (ia A a).length) : zX d 3 10 ls (zI y :: zI x :: zO (some a) :: st) A K = zX d 3 11 ls st (pI A a ((ia A a).set x.toNat (zhb y))) K := zx_bast z3 dX0_build_10 rfl h h0 h1
theorem s3_10z (h : tg A a = 22) (h2 : y = 0 ∨ y = 1) (h0 : 0 ≤ x) (h1 : x.toNat < (ia A a).length) : zX d 3 10 ls (zI y :: zI x :: zO (some a) :: st) A K = zX d 3 11 ls st (pI A a ((ia A a).set x.toNat y)) K := zx_zast z3 dX0_build_10 rfl h h2 h0 h1
theorem s3_11 : zX d 3 11 [zO o, v1] st A K = zX d 3 12 [zO o, v1] (zO o :: st) A K := zx_aload_n z3 dX0_build_11 rfl rfl
theorem s3_12 (h : zc v = true) : zX d 3 12 ls (v :: st) A K = zX d 3 13 ls (v :: v :: st) A K := zx_dup z3 dX0_build_12 rfl h
theorem s3_13 (h : tg A a = 1) : zX d 3 13 ls (zO (some a) :: st) A K = zX d 3 16 ls (fd A a 5 :: st) A K := zx_getf z3 zo3 dX0_build_13 F2_121 rfl h
theorem s3_16 : zX d 3 16 ls st A K = zX d 3 17 ls (zI 1 :: st) A K := zx_const z3 dX0_build_16 (by decide) rfl
theorem s3_17 : zX d 3 17 ls (zI y :: zI x :: st) A K = zX d 3 18 ls (zI (zw (x + y)) :: st) A K := zx_iadd z3 dX0_build_17 rfl
theorem s3_18 (h : tg A a = 1) : zX d 3 18 ls (zI x :: zO (some a) :: st) A K = zX d 3 21 ls st (pF A a 5 (zI x)) K := zx_putf (q := 0) z3 zo3 dX0_build_18 F2_121 rfl rfl rfl h rfl
theorem s3_21 : zX d 3 21 ls [] A K = K (Sum.inl none) A := zx_vret z3 dX0_build_21 rfl
theorem s4_0 : zX d 4 0 [v0, zI x, v2, v3, v4] st A K = zX d 4 1 [v0, zI x, v2, v3, v4] (zI x :: st) A K := zx_iload_n z4 dX0_setArity_0 rfl rfl
theorem s4_1 : zX (d + 1) 4 1 ls (zI i0 :: []) A K = zX d 5 0 [zI i0] [] A (zK (d + 1) 4 1 4 ls [] K) := zx_callS z4 zo4 dX0_setArity_1 rfl C2_143 rfl rfl zm5 rfl rfl (zwt_le (Nat.le_of_ble_eq_true rfl)) rfl
theorem s4_4 : zX d 4 4 ls (zI x :: st) A K = (if x ≠ 0 then zX d 4 9 ls st A K else zX d 4 7 ls st A K) := zx_if_ne z4 dX0_setArity_4 rfl rfl
theorem s4_7 : zX d 4 7 ls st A K = zX d 4 8 ls (zI (-1) :: st) A K := zx_const z4 dX0_setArity_7 (by decide) rfl
theorem s4_8 : zX d 4 8 ls [zI x] A K = K (Sum.inl (some (zI x))) A := zx_iret z4 dX0_setArity_8 zk4 rfl
theorem s4_9 : zX d 4 9 [v0, v1, zI x, v3, v4] st A K = zX d 4 10 [v0, v1, zI x, v3, v4] (zI x :: st) A K := zx_iload_n z4 dX0_setArity_9 rfl rfl
theorem s4_10 : zX d 4 10 ls (zI x :: st) A K = zX d 4 11 ls (zL x :: st) A K := zx_i2l z4 dX0_setArity_10 rfl
theorem s4_11 : zX d 4 11 ls st A K = zX d 4 12 ls (zL 1 :: st) A K := zx_lconst z4 dX0_setArity_11 rfl
theorem s4_12 : zX d 4 12 ls st A K = zX d 4 15 ls (zL (3) :: st) A K := zx_ldc2 z4 zo4 dX0_setArity_12 rfl rfl
theorem s4_15 : zX d 4 15 ls (zL y :: zL x :: zL w :: []) A K = zX d 4 18 ls (zI (zb (decide (x ≤ w ∧ w ≤ y))) :: []) A K := zx_inS z4 zo4 dX0_setArity_15 rfl rfl rfl (zin_2 (zwt_le (Nat.le_of_ble_eq_true rfl)))
theorem s4_18 : zX d 4 18 ls (zI x :: st) A K = (if x ≠ 0 then zX d 4 24 ls st A K else zX d 4 21 ls st A K) := zx_if_ne z4 dX0_setArity_18 rfl rfl
theorem s4_21 : zX d 4 21 ls st A K = zX d 4 23 ls (zI (-2) :: st) A K := zx_bipush z4 dX0_setArity_21 (by decide) rfl
theorem s4_23 : zX d 4 23 ls [zI x] A K = K (Sum.inl (some (zI x))) A := zx_iret z4 dX0_setArity_23 zk4 rfl
theorem s4_24 : zX d 4 24 [zO o, v1, v2, v3, v4] st A K = zX d 4 25 [zO o, v1, v2, v3, v4] (zO o :: st) A K := zx_aload_n z4 dX0_setArity_24 rfl rfl
theorem s4_25 (h : tg A a = 1) : zX d 4 25 ls (zO (some a) :: st) A K = zX d 4 28 ls (fd A a 2 :: st) A K := zx_getf z4 zo4 dX0_setArity_25 F2_138 rfl h
theorem s4_28 : zX d 4 28 ls (zI x :: st) A K = (if x ≤ 0 then zX d 4 34 ls st A K else zX d 4 31 ls st A K) := zx_if_le z4 dX0_setArity_28 rfl rfl
theorem s4_31 : zX d 4 31 ls st A K = zX d 4 33 ls (zI (-3) :: st) A K := zx_bipush z4 dX0_setArity_31 (by decide) rfl
theorem s4_33 : zX d 4 33 ls [zI x] A K = K (Sum.inl (some (zI x))) A := zx_iret z4 dX0_setArity_33 zk4 rfl
theorem s4_34 : zX d 4 34 [zO o, v1, v2, v3, v4] st A K = zX d 4 35 [zO o, v1, v2, v3, v4] (zO o :: st) A K := zx_aload_n z4 dX0_setArity_34 rfl rfl
theorem s4_35 (h : tg A a = 1) : zX d 4 35 ls (zO (some a) :: st) A K = zX d 4 38 ls (fd A a 0 :: st) A K := zx_getf z4 zo4 dX0_setArity_35 F2_7 rfl h
theorem s4_38 : zX d 4 38 [v0, zI x, v2, v3, v4] st A K = zX d 4 39 [v0, zI x, v2, v3, v4] (zI x :: st) A K := zx_iload_n z4 dX0_setArity_38 rfl rfl
theorem s4_39 (h : tg A a = 20) (h0 : 0 ≤ x) (h1 : x.toNat < (ia A a).length) : zX d 4 39 ls (zI x :: zO (some a) :: st) A K = zX d 4 40 ls (zI ((ia A a).getD x.toNat 0) :: st) A K := zx_iald z4 dX0_setArity_39 rfl h h0 h1
theorem s4_39s (h : tg A a = 30) (h0 : 0 ≤ x) (h1 : x.toNat < (ia A a).length) : zX d 4 39 ls (zI x :: zO (some a) :: st) A K = zX d 4 40 ls (zI ((ia A a).getD x.toNat 0) :: st) A K := zx_sald z4 dX0_setArity_39 rfl h h0 h1
theorem s4_40 : zX d 4 40 [v0, v1, v2, v3, v4] (zI x :: st) A K = zX d 4 41 [v0, v1, v2, zI x, v4] st A K := zx_istore_n z4 dX0_setArity_40 (Nat.le_of_ble_eq_true rfl) rfl rfl
theorem s4_41 : zX d 4 41 [zO o, v1, v2, v3, v4] st A K = zX d 4 42 [zO o, v1, v2, v3, v4] (zO o :: st) A K := zx_aload_n z4 dX0_setArity_41 rfl rfl
theorem s4_42 (h : tg A a = 1) : zX d 4 42 ls (zO (some a) :: st) A K = zX d 4 45 ls (fd A a 0 :: st) A K := zx_getf z4 zo4 dX0_setArity_42 F2_7 rfl h
theorem s4_45 : zX d 4 45 [v0, zI x, v2, v3, v4] st A K = zX d 4 46 [v0, zI x, v2, v3, v4] (zI x :: st) A K := zx_iload_n z4 dX0_setArity_45 rfl rfl
theorem s4_46 : zX d 4 46 [v0, v1, zI x, v3, v4] st A K = zX d 4 47 [v0, v1, zI x, v3, v4] (zI x :: st) A K := zx_iload_n z4 dX0_setArity_46 rfl rfl
theorem s4_47 (h : tg A a = 20) (h0 : 0 ≤ x) (h1 : x.toNat < (ia A a).length) : zX d 4 47 ls (zI y :: zI x :: zO (some a) :: st) A K = zX d 4 48 ls st (pI A a ((ia A a).set x.toNat y)) K := zx_iast z4 dX0_setArity_47 rfl h h0 h1
theorem s4_48 : zX d 4 48 ls st A K = zX d 4 49 ls (zI 0 :: st) A K := zx_const z4 dX0_setArity_48 (by decide) rfl
theorem s4_49 : zX d 4 49 [v0, v1, v2, v3, v4] (zI x :: st) A K = zX d 4 51 [v0, v1, v2, v3, zI x] st A K := zx_istore z4 dX0_setArity_49 (Nat.le_of_ble_eq_true rfl) rfl rfl
theorem s4_51 : zX d 4 51 [v0, v1, v2, v3, zI x] st A K = zX d 4 53 [v0, v1, v2, v3, zI x] (zI x :: st) A K := zx_iload z4 dX0_setArity_51 rfl rfl
theorem s4_53 : zX d 4 53 ls st A K = zX d 4 54 ls (zI 4 :: st) A K := zx_const z4 dX0_setArity_53 (by decide) rfl
theorem s4_54 : zX d 4 54 ls (zI y :: zI x :: st) A K = (if y ≤ x then zX d 4 98 ls st A K else zX d 4 57 ls st A K) := zx_ic_ge z4 dX0_setArity_54 rfl rfl
theorem s4_57 : zX d 4 57 [zO o, v1, v2, v3, v4] st A K = zX d 4 58 [zO o, v1, v2, v3, v4] (zO o :: st) A K := zx_aload_n z4 dX0_setArity_57 rfl rfl
theorem s4_58 (h : tg A a = 1) : zX d 4 58 ls (zO (some a) :: st) A K = zX d 4 61 ls (fd A a 3 :: st) A K := zx_getf z4 zo4 dX0_setArity_58 F2_21 rfl h
theorem s4_61 : zX d 4 61 [v0, v1, v2, v3, zI x] st A K = zX d 4 63 [v0, v1, v2, v3, zI x] (zI x :: st) A K := zx_iload z4 dX0_setArity_61 rfl rfl
theorem s4_63 : zX d 4 63 [zO o, v1, v2, v3, v4] st A K = zX d 4 64 [zO o, v1, v2, v3, v4] (zO o :: st) A K := zx_aload_n z4 dX0_setArity_63 rfl rfl
theorem s4_64 (h : tg A a = 1) : zX d 4 64 ls (zO (some a) :: st) A K = zX d 4 67 ls (fd A a 3 :: st) A K := zx_getf z4 zo4 dX0_setArity_64 F2_21 rfl h
theorem s4_67 : zX d 4 67 [v0, v1, v2, v3, zI x] st A K = zX d 4 69 [v0, v1, v2, v3, zI x] (zI x :: st) A K := zx_iload z4 dX0_setArity_67 rfl rfl
theorem s4_69 (h : zarr (tg A a) = 3) (h0 : 0 ≤ x) (h1 : x.toNat < (ra A a).length) : zX d 4 69 ls (zI x :: zO (some a) :: st) A K = zX d 4 70 ls (zO ((ra A a).getD x.toNat none) :: st) A K := zx_aald z4 dX0_setArity_69 rfl h h0 h1
theorem s4_70 : zX d 4 70 [v0, zI x, v2, v3, v4] st A K = zX d 4 71 [v0, zI x, v2, v3, v4] (zI x :: st) A K := zx_iload_n z4 dX0_setArity_70 rfl rfl
theorem s4_71 (h : tg A a = 4)  : zX (d + 1) 4 71 ls (zI i0 :: zO (some a) :: [w0, w1]) A K = zX d 107 0 [zO (some a), zI i0, zU, zU] [] A (zK (d + 1) 4 71 74 ls [w0, w1] K) := zx_callV (t := 4) z4 zo4 dX0_setArity_71 rfl C2_147 rfl rfl zm107 rfl rfl (zwt_le (Nat.le_of_ble_eq_true rfl)) rfl h
theorem s4_74 : zX d 4 74 ls (zI x :: st) A K = (if x = 0 then zX d 4 84 ls st A K else zX d 4 77 ls st A K) := zx_if_eq z4 dX0_setArity_74 rfl rfl
theorem s4_77 : zX d 4 77 [zO o, v1, v2, v3, v4] st A K = zX d 4 78 [zO o, v1, v2, v3, v4] (zO o :: st) A K := zx_aload_n z4 dX0_setArity_77 rfl rfl
theorem s4_78 (h : tg A a = 1)  : zX (d + 1) 4 78 ls (zO (some a) :: [w0, w1]) A K = zX d 2 0 [zO (some a)] [] A (zK (d + 1) 4 78 81 ls [w0, w1] K) := zx_callV (t := 1) z4 zo4 dX0_setArity_78 rfl C2_117 rfl rfl zm2 rfl rfl (zwt_le (Nat.le_of_ble_eq_true rfl)) rfl h
theorem s4_81 : zX d 4 81 ls st A K = zX d 4 91 ls st A K := zx_goto z4 dX0_setArity_81 rfl
theorem s4_84 : zX d 4 84 [zO o, v1, v2, v3, v4] st A K = zX d 4 85 [zO o, v1, v2, v3, v4] (zO o :: st) A K := zx_aload_n z4 dX0_setArity_84 rfl rfl
theorem s4_85 (h : tg A a = 1) : zX d 4 85 ls (zO (some a) :: st) A K = zX d 4 88 ls (fd A a 3 :: st) A K := zx_getf z4 zo4 dX0_setArity_85 F2_21 rfl h
theorem s4_88 : zX d 4 88 [v0, v1, v2, v3, zI x] st A K = zX d 4 90 [v0, v1, v2, v3, zI x] (zI x :: st) A K := zx_iload z4 dX0_setArity_88 rfl rfl
theorem s4_90 (h : zarr (tg A a) = 3) (h0 : 0 ≤ x) (h1 : x.toNat < (ra A a).length) : zX d 4 90 ls (zI x :: zO (some a) :: st) A K = zX d 4 91 ls (zO ((ra A a).getD x.toNat none) :: st) A K := zx_aald z4 dX0_setArity_90 rfl h h0 h1
theorem s4_91 (h : 24 ≤ tg A a) (h4 : tg A a ≤ 28) (h0 : 0 ≤ x) (h1 : x.toNat < (ra A a).length) (h2 : ∀ b, o = some b → zel (tg A a) (tg A b) = true) : zX d 4 91 ls (zO o :: zI x :: zO (some a) :: st) A K = zX d 4 92 ls st (pR A a ((ra A a).set x.toNat o)) K := zx_aast z4 dX0_setArity_91 rfl h h4 h0 h1 h2
theorem s4_92 : zX d 4 92 [v0, v1, v2, v3, zI x] st A K = zX d 4 95 [v0, v1, v2, v3, zI (zw (x + 1))] st A K := zx_iinc z4 dX0_setArity_92 rfl rfl rfl
theorem s4_95 : zX d 4 95 ls st A K = zX d 4 51 ls st A K := zx_goto z4 dX0_setArity_95 rfl
theorem s4_98 : zX d 4 98 [v0, v1, v2, zI x, v4] st A K = zX d 4 99 [v0, v1, v2, zI x, v4] (zI x :: st) A K := zx_iload_n z4 dX0_setArity_98 rfl rfl
theorem s4_99 : zX d 4 99 ls [zI x] A K = K (Sum.inl (some (zI x))) A := zx_iret z4 dX0_setArity_99 zk4 rfl
theorem s5_0 : zX d 5 0 [zI x] st A K = zX d 5 1 [zI x] (zI x :: st) A K := zx_iload_n z5 dX0_isFunction_0 rfl rfl
theorem s5_1 : zX d 5 1 ls (zI x :: st) A K = zX d 5 2 ls (zL x :: st) A K := zx_i2l z5 dX0_isFunction_1 rfl
theorem s5_2 : zX d 5 2 ls st A K = zX d 5 3 ls (zL 0 :: st) A K := zx_lconst z5 dX0_isFunction_2 rfl
theorem s5_3 : zX d 5 3 ls st A K = zX d 5 6 ls (zL (2) :: st) A K := zx_ldc2 z5 zo5 dX0_isFunction_3 rfl rfl
theorem s5_6 : zX d 5 6 ls (zL y :: zL x :: zL w :: []) A K = zX d 5 9 ls (zI (zb (decide (x ≤ w ∧ w ≤ y))) :: []) A K := zx_inS z5 zo5 dX0_isFunction_6 rfl rfl rfl (zin_2 (zwt_le (Nat.le_of_ble_eq_true rfl)))
theorem s5_9 (h : x = 0 ∨ x = 1) : zX d 5 9 ls [zI x] A K = K (Sum.inl (some (zI x))) A := zx_iret z5 dX0_isFunction_9 zk5 (by rcases h with q | q <;> subst q <;> rfl)
theorem s6_0 : zX d 6 0 [v0, zI x] st A K = zX d 6 1 [v0, zI x] (zI x :: st) A K := zx_iload_n z6 dX0_arity_0 rfl rfl
theorem s6_1 : zX (d + 1) 6 1 ls (zI i0 :: []) A K = zX d 5 0 [zI i0] [] A (zK (d + 1) 6 1 4 ls [] K) := zx_callS z6 zo6 dX0_arity_1 rfl C2_143 rfl rfl zm5 rfl rfl (zwt_le (Nat.le_of_ble_eq_true rfl)) rfl
theorem s6_4 : zX d 6 4 ls (zI x :: st) A K = (if x = 0 then zX d 6 16 ls st A K else zX d 6 7 ls st A K) := zx_if_eq z6 dX0_arity_4 rfl rfl
theorem s6_7 : zX d 6 7 [zO o, v1] st A K = zX d 6 8 [zO o, v1] (zO o :: st) A K := zx_aload_n z6 dX0_arity_7 rfl rfl
theorem s6_8 (h : tg A a = 1) : zX d 6 8 ls (zO (some a) :: st) A K = zX d 6 11 ls (fd A a 0 :: st) A K := zx_getf z6 zo6 dX0_arity_8 F2_7 rfl h
theorem s6_11 : zX d 6 11 [v0, zI x] st A K = zX d 6 12 [v0, zI x] (zI x :: st) A K := zx_iload_n z6 dX0_arity_11 rfl rfl
theorem s6_12 (h : tg A a = 20) (h0 : 0 ≤ x) (h1 : x.toNat < (ia A a).length) : zX d 6 12 ls (zI x :: zO (some a) :: st) A K = zX d 6 13 ls (zI ((ia A a).getD x.toNat 0) :: st) A K := zx_iald z6 dX0_arity_12 rfl h h0 h1
theorem s6_12s (h : tg A a = 30) (h0 : 0 ≤ x) (h1 : x.toNat < (ia A a).length) : zX d 6 12 ls (zI x :: zO (some a) :: st) A K = zX d 6 13 ls (zI ((ia A a).getD x.toNat 0) :: st) A K := zx_sald z6 dX0_arity_12 rfl h h0 h1
theorem s6_13 : zX d 6 13 ls st A K = zX d 6 17 ls st A K := zx_goto z6 dX0_arity_13 rfl
theorem s6_16 : zX d 6 16 ls st A K = zX d 6 17 ls (zI (-1) :: st) A K := zx_const z6 dX0_arity_16 (by decide) rfl
theorem s6_17 : zX d 6 17 ls [zI x] A K = K (Sum.inl (some (zI x))) A := zx_iret z6 dX0_arity_17 zk6 rfl
theorem s7_0 : zX d 7 0 [v0, zI x] st A K = zX d 7 1 [v0, zI x] (zI x :: st) A K := zx_iload_n z7 dX0_appendCharacter_0 rfl rfl
theorem s7_1 : zX d 7 1 ls (zI x :: st) A K = zX d 7 2 ls (zL x :: st) A K := zx_i2l z7 dX0_appendCharacter_1 rfl
theorem s7_2 : zX d 7 2 ls st A K = zX d 7 5 ls (zL (32) :: st) A K := zx_ldc2 z7 zo7 dX0_appendCharacter_2 rfl rfl
theorem s7_5 : zX d 7 5 ls st A K = zX d 7 8 ls (zL (126) :: st) A K := zx_ldc2 z7 zo7 dX0_appendCharacter_5 rfl rfl
theorem s7_8 : zX d 7 8 ls (zL y :: zL x :: zL w :: []) A K = zX d 7 11 ls (zI (zb (decide (x ≤ w ∧ w ≤ y))) :: []) A K := zx_inS z7 zo7 dX0_appendCharacter_8 rfl rfl rfl (zin_2 (zwt_le (Nat.le_of_ble_eq_true rfl)))
theorem s7_11 : zX d 7 11 ls (zI x :: st) A K = (if x ≠ 0 then zX d 7 17 ls st A K else zX d 7 14 ls st A K) := zx_if_ne z7 dX0_appendCharacter_11 rfl rfl
theorem s7_14 : zX d 7 14 ls st A K = zX d 7 16 ls (zI (-2) :: st) A K := zx_bipush z7 dX0_appendCharacter_14 (by decide) rfl
theorem s7_16 : zX d 7 16 ls [zI x] A K = K (Sum.inl (some (zI x))) A := zx_iret z7 dX0_appendCharacter_16 zk7 rfl
theorem s7_17 : zX d 7 17 [zO o, v1] st A K = zX d 7 18 [zO o, v1] (zO o :: st) A K := zx_aload_n z7 dX0_appendCharacter_17 rfl rfl
theorem s7_18 (h : tg A a = 1) : zX d 7 18 ls (zO (some a) :: st) A K = zX d 7 21 ls (fd A a 7 :: st) A K := zx_getf z7 zo7 dX0_appendCharacter_18 F2_154 rfl h
theorem s7_21 : zX d 7 21 ls st A K = zX d 7 23 ls (zI (80) :: st) A K := zx_bipush z7 dX0_appendCharacter_21 (by decide) rfl
theorem s7_23 : zX d 7 23 ls (zI y :: zI x :: st) A K = (if x ≠ y then zX d 7 29 ls st A K else zX d 7 26 ls st A K) := zx_ic_ne z7 dX0_appendCharacter_23 rfl rfl
theorem s7_26 : zX d 7 26 ls st A K = zX d 7 28 ls (zI (-4) :: st) A K := zx_bipush z7 dX0_appendCharacter_26 (by decide) rfl
theorem s7_28 : zX d 7 28 ls [zI x] A K = K (Sum.inl (some (zI x))) A := zx_iret z7 dX0_appendCharacter_28 zk7 rfl
theorem s7_29 : zX d 7 29 [zO o, v1] st A K = zX d 7 30 [zO o, v1] (zO o :: st) A K := zx_aload_n z7 dX0_appendCharacter_29 rfl rfl
theorem s7_30 (h : tg A a = 1) : zX d 7 30 ls (zO (some a) :: st) A K = zX d 7 33 ls (fd A a 6 :: st) A K := zx_getf z7 zo7 dX0_appendCharacter_30 F2_29 rfl h
theorem s7_33 : zX d 7 33 [zO o, v1] st A K = zX d 7 34 [zO o, v1] (zO o :: st) A K := zx_aload_n z7 dX0_appendCharacter_33 rfl rfl
theorem s7_34 (h : tg A a = 1) : zX d 7 34 ls (zO (some a) :: st) A K = zX d 7 37 ls (fd A a 7 :: st) A K := zx_getf z7 zo7 dX0_appendCharacter_34 F2_154 rfl h
theorem s7_37 : zX d 7 37 [v0, zI x] st A K = zX d 7 38 [v0, zI x] (zI x :: st) A K := zx_iload_n z7 dX0_appendCharacter_37 rfl rfl
theorem s7_38 : zX d 7 38 ls (zI x :: st) A K = zX d 7 39 ls (zI (zhb x) :: st) A K := zx_i2b z7 dX0_appendCharacter_38 rfl
theorem s7_39 (h : tg A a = 21) (h0 : 0 ≤ x) (h1 : x.toNat < (ia A a).length) : zX d 7 39 ls (zI y :: zI x :: zO (some a) :: st) A K = zX d 7 40 ls st (pI A a ((ia A a).set x.toNat (zhb y))) K := zx_bast z7 dX0_appendCharacter_39 rfl h h0 h1
theorem s7_39z (h : tg A a = 22) (h2 : y = 0 ∨ y = 1) (h0 : 0 ≤ x) (h1 : x.toNat < (ia A a).length) : zX d 7 39 ls (zI y :: zI x :: zO (some a) :: st) A K = zX d 7 40 ls st (pI A a ((ia A a).set x.toNat y)) K := zx_zast z7 dX0_appendCharacter_39 rfl h h2 h0 h1
theorem s7_40 : zX d 7 40 [zO o, v1] st A K = zX d 7 41 [zO o, v1] (zO o :: st) A K := zx_aload_n z7 dX0_appendCharacter_40 rfl rfl
theorem s7_41 (h : zc v = true) : zX d 7 41 ls (v :: st) A K = zX d 7 42 ls (v :: v :: st) A K := zx_dup z7 dX0_appendCharacter_41 rfl h
theorem s7_42 (h : tg A a = 1) : zX d 7 42 ls (zO (some a) :: st) A K = zX d 7 45 ls (fd A a 7 :: st) A K := zx_getf z7 zo7 dX0_appendCharacter_42 F2_154 rfl h
theorem s7_45 : zX d 7 45 ls st A K = zX d 7 46 ls (zI 1 :: st) A K := zx_const z7 dX0_appendCharacter_45 (by decide) rfl
theorem s7_46 : zX d 7 46 ls (zI y :: zI x :: st) A K = zX d 7 47 ls (zI (zw (x + y)) :: st) A K := zx_iadd z7 dX0_appendCharacter_46 rfl
theorem s7_47 (h : tg A a = 1) : zX d 7 47 ls (zI x :: zO (some a) :: st) A K = zX d 7 50 ls st (pF A a 7 (zI x)) K := zx_putf (q := 0) z7 zo7 dX0_appendCharacter_47 F2_154 rfl rfl rfl h rfl
theorem s7_50 : zX d 7 50 [zO o, v1] st A K = zX d 7 51 [zO o, v1] (zO o :: st) A K := zx_aload_n z7 dX0_appendCharacter_50 rfl rfl
theorem s7_51 (h : tg A a = 1) : zX d 7 51 ls (zO (some a) :: st) A K = zX d 7 54 ls (fd A a 7 :: st) A K := zx_getf z7 zo7 dX0_appendCharacter_51 F2_154 rfl h
theorem s7_54 : zX d 7 54 ls [zI x] A K = K (Sum.inl (some (zI x))) A := zx_iret z7 dX0_appendCharacter_54 zk7 rfl
theorem s8_0 : zX d 8 0 [zO o, v1] st A K = zX d 8 1 [zO o, v1] (zO o :: st) A K := zx_aload_n z8 dX0_clearText_0 rfl rfl
theorem s8_1 (h : tg A a = 1) : zX d 8 1 ls (zO (some a) :: st) A K = zX d 8 4 ls (fd A a 7 :: st) A K := zx_getf z8 zo8 dX0_clearText_1 F2_154 rfl h
theorem s8_4 : zX d 8 4 [v0, v1] (zI x :: st) A K = zX d 8 5 [v0, zI x] st A K := zx_istore_n z8 dX0_clearText_4 (Nat.le_of_ble_eq_true rfl) rfl rfl
theorem s8_5 : zX d 8 5 [zO o, v1] st A K = zX d 8 6 [zO o, v1] (zO o :: st) A K := zx_aload_n z8 dX0_clearText_5 rfl rfl
theorem s8_6 : zX d 8 6 ls st A K = zX d 8 7 ls (zI 0 :: st) A K := zx_const z8 dX0_clearText_6 (by decide) rfl
theorem s8_7 (h : tg A a = 1) : zX d 8 7 ls (zI x :: zO (some a) :: st) A K = zX d 8 10 ls st (pF A a 7 (zI x)) K := zx_putf (q := 0) z8 zo8 dX0_clearText_7 F2_154 rfl rfl rfl h rfl
theorem s8_10 : zX d 8 10 [v0, zI x] st A K = zX d 8 11 [v0, zI x] (zI x :: st) A K := zx_iload_n z8 dX0_clearText_10 rfl rfl
theorem s8_11 : zX d 8 11 ls [zI x] A K = K (Sum.inl (some (zI x))) A := zx_iret z8 dX0_clearText_11 zk8 rfl
theorem s9_0 : zX d 9 0 [zO o] st A K = zX d 9 1 [zO o] (zO o :: st) A K := zx_aload_n z9 dX0_textLength_0 rfl rfl
theorem s9_1 (h : tg A a = 1) : zX d 9 1 ls (zO (some a) :: st) A K = zX d 9 4 ls (fd A a 7 :: st) A K := zx_getf z9 zo9 dX0_textLength_1 F2_154 rfl h
theorem s9_4 : zX d 9 4 ls [zI x] A K = K (Sum.inl (some (zI x))) A := zx_iret z9 dX0_textLength_4 zk9 rfl
theorem s10_0 : zX d 10 0 [zO o, v1, v2, v3] st A K = zX d 10 1 [zO o, v1, v2, v3] (zO o :: st) A K := zx_aload_n z10 dX0_addRule_0 rfl rfl
theorem s10_1 (h : tg A a = 1) : zX d 10 1 ls (zO (some a) :: st) A K = zX d 10 4 ls (fd A a 2 :: st) A K := zx_getf z10 zo10 dX0_addRule_1 F2_138 rfl h
theorem s10_4 : zX d 10 4 ls st A K = zX d 10 6 ls (zI (6) :: st) A K := zx_bipush z10 dX0_addRule_4 (by decide) rfl
theorem s10_6 : zX d 10 6 ls (zI y :: zI x :: st) A K = (if x ≠ y then zX d 10 12 ls st A K else zX d 10 9 ls st A K) := zx_ic_ne z10 dX0_addRule_6 rfl rfl
theorem s10_9 : zX d 10 9 ls st A K = zX d 10 11 ls (zI (-4) :: st) A K := zx_bipush z10 dX0_addRule_9 (by decide) rfl
theorem s10_11 : zX d 10 11 ls [zI x] A K = K (Sum.inl (some (zI x))) A := zx_iret z10 dX0_addRule_11 zk10 rfl
theorem s10_12 : zX d 10 12 [zO o, v1, v2, v3] st A K = zX d 10 13 [zO o, v1, v2, v3] (zO o :: st) A K := zx_aload_n z10 dX0_addRule_12 rfl rfl
theorem s10_13 (h : tg A a = 1) : zX d 10 13 ls (zO (some a) :: st) A K = zX d 10 16 ls (fd A a 8 :: st) A K := zx_getf z10 zo10 dX0_addRule_13 F2_37 rfl h
theorem s10_16 (h : tg A a = 2)  : zX (d + 1) 10 16 ls (zO (some a) :: []) A K = zX d 91 0 [zO (some a), zU, zU] [] A (zK (d + 1) 10 16 19 ls [] K) := zx_callV (t := 2) z10 zo10 dX0_addRule_16 rfl C2_176 rfl rfl zm91 rfl rfl (zwt_le (Nat.le_of_ble_eq_true rfl)) rfl h
theorem s10_19 : zX d 10 19 [v0, v1, v2, v3] (zO o :: st) A K = zX d 10 20 [v0, zO o, v2, v3] st A K := zx_astore_n z10 dX0_addRule_19 (Nat.le_of_ble_eq_true rfl) rfl rfl
theorem s10_20 : zX d 10 20 [v0, zO o, v2, v3] st A K = zX d 10 21 [v0, zO o, v2, v3] (zO o :: st) A K := zx_aload_n z10 dX0_addRule_20 rfl rfl
theorem s10_21 : zX (d + 1) 10 21 ls (zO o0 :: []) A K = zX d 11 0 [zO o0, zU, zU, zU, zU] [] A (zK (d + 1) 10 21 24 ls [] K) := zx_callS z10 zo10 dX0_addRule_21 rfl C2_180 rfl rfl zm11 rfl rfl (zwt_le (Nat.le_of_ble_eq_true rfl)) rfl
theorem s10_24 : zX d 10 24 ls (zI x :: st) A K = (if x ≠ 0 then zX d 10 37 ls st A K else zX d 10 27 ls st A K) := zx_if_ne z10 dX0_addRule_24 rfl rfl
theorem s10_27 : zX d 10 27 ls st A K = zX d 10 29 ls (zI (-6) :: st) A K := zx_bipush z10 dX0_addRule_27 (by decide) rfl
theorem s10_29 : zX d 10 29 [v0, v1, v2, v3] (zI x :: st) A K = zX d 10 30 [v0, v1, zI x, v3] st A K := zx_istore_n z10 dX0_addRule_29 (Nat.le_of_ble_eq_true rfl) rfl rfl
theorem s10_30 : zX d 10 30 [zO o, v1, v2, v3] st A K = zX d 10 31 [zO o, v1, v2, v3] (zO o :: st) A K := zx_aload_n z10 dX0_addRule_30 rfl rfl
theorem s10_31 : zX d 10 31 ls st A K = zX d 10 32 ls (zI 0 :: st) A K := zx_const z10 dX0_addRule_31 (by decide) rfl
theorem s10_32 (h : tg A a = 1) : zX d 10 32 ls (zI x :: zO (some a) :: st) A K = zX d 10 35 ls st (pF A a 7 (zI x)) K := zx_putf (q := 0) z10 zo10 dX0_addRule_32 F2_154 rfl rfl rfl h rfl
theorem s10_35 : zX d 10 35 [v0, v1, zI x, v3] st A K = zX d 10 36 [v0, v1, zI x, v3] (zI x :: st) A K := zx_iload_n z10 dX0_addRule_35 rfl rfl
theorem s10_36 : zX d 10 36 ls [zI x] A K = K (Sum.inl (some (zI x))) A := zx_iret z10 dX0_addRule_36 zk10 rfl
theorem s10_37 : zX d 10 37 [zO o, v1, v2, v3] st A K = zX d 10 38 [zO o, v1, v2, v3] (zO o :: st) A K := zx_aload_n z10 dX0_addRule_37 rfl rfl
theorem s10_38 (h : tg A a = 1) : zX d 10 38 ls (zO (some a) :: st) A K = zX d 10 41 ls (fd A a 1 :: st) A K := zx_getf z10 zo10 dX0_addRule_38 F2_15 rfl h
theorem s10_41 : zX d 10 41 [zO o, v1, v2, v3] st A K = zX d 10 42 [zO o, v1, v2, v3] (zO o :: st) A K := zx_aload_n z10 dX0_addRule_41 rfl rfl
theorem s10_42 (h : tg A a = 1) : zX d 10 42 ls (zO (some a) :: st) A K = zX d 10 45 ls (fd A a 2 :: st) A K := zx_getf z10 zo10 dX0_addRule_42 F2_138 rfl h
theorem s10_45 : zX d 10 45 [v0, zO o, v2, v3] st A K = zX d 10 46 [v0, zO o, v2, v3] (zO o :: st) A K := zx_aload_n z10 dX0_addRule_45 rfl rfl
theorem s10_46 (h : 24 ≤ tg A a) (h4 : tg A a ≤ 28) (h0 : 0 ≤ x) (h1 : x.toNat < (ra A a).length) (h2 : ∀ b, o = some b → zel (tg A a) (tg A b) = true) : zX d 10 46 ls (zO o :: zI x :: zO (some a) :: st) A K = zX d 10 47 ls st (pR A a ((ra A a).set x.toNat o)) K := zx_aast z10 dX0_addRule_46 rfl h h4 h0 h1 h2
theorem s10_47 : zX d 10 47 [zO o, v1, v2, v3] st A K = zX d 10 48 [zO o, v1, v2, v3] (zO o :: st) A K := zx_aload_n z10 dX0_addRule_47 rfl rfl
theorem s10_48 (h : zc v = true) : zX d 10 48 ls (v :: st) A K = zX d 10 49 ls (v :: v :: st) A K := zx_dup z10 dX0_addRule_48 rfl h
theorem s10_49 (h : tg A a = 1) : zX d 10 49 ls (zO (some a) :: st) A K = zX d 10 52 ls (fd A a 2 :: st) A K := zx_getf z10 zo10 dX0_addRule_49 F2_138 rfl h
theorem s10_52 : zX d 10 52 ls st A K = zX d 10 53 ls (zI 1 :: st) A K := zx_const z10 dX0_addRule_52 (by decide) rfl
theorem s10_53 : zX d 10 53 ls (zI y :: zI x :: st) A K = zX d 10 54 ls (zI (zw (x + y)) :: st) A K := zx_iadd z10 dX0_addRule_53 rfl
theorem s10_54 (h : tg A a = 1) : zX d 10 54 ls (zI x :: zO (some a) :: st) A K = zX d 10 57 ls st (pF A a 2 (zI x)) K := zx_putf (q := 0) z10 zo10 dX0_addRule_54 F2_138 rfl rfl rfl h rfl
theorem s10_57 : zX d 10 57 [zO o, v1, v2, v3] st A K = zX d 10 58 [zO o, v1, v2, v3] (zO o :: st) A K := zx_aload_n z10 dX0_addRule_57 rfl rfl
theorem s10_58 (h : tg A a = 1)  : zX (d + 1) 10 58 ls (zO (some a) :: []) A K = zX d 12 0 [zO (some a)] [] A (zK (d + 1) 10 58 61 ls [] K) := zx_callV (t := 1) z10 zo10 dX0_addRule_58 rfl C2_184 rfl rfl zm12 rfl rfl (zwt_le (Nat.le_of_ble_eq_true rfl)) rfl h
theorem s10_61 : zX d 10 61 [zO o, v1, v2, v3] st A K = zX d 10 62 [zO o, v1, v2, v3] (zO o :: st) A K := zx_aload_n z10 dX0_addRule_61 rfl rfl
theorem s10_62 (h : tg A a = 1) : zX d 10 62 ls (zO (some a) :: st) A K = zX d 10 65 ls (fd A a 2 :: st) A K := zx_getf z10 zo10 dX0_addRule_62 F2_138 rfl h
theorem s10_65 : zX d 10 65 ls st A K = zX d 10 66 ls (zI 1 :: st) A K := zx_const z10 dX0_addRule_65 (by decide) rfl
theorem s10_66 : zX d 10 66 ls (zI y :: zI x :: st) A K = zX d 10 67 ls (zI (zw (x - y)) :: st) A K := zx_isub z10 dX0_addRule_66 rfl
theorem s10_67 : zX d 10 67 [v0, v1, v2, v3] (zI x :: st) A K = zX d 10 68 [v0, v1, zI x, v3] st A K := zx_istore_n z10 dX0_addRule_67 (Nat.le_of_ble_eq_true rfl) rfl rfl
theorem s10_68 : zX d 10 68 [zO o, v1, v2, v3] st A K = zX d 10 69 [zO o, v1, v2, v3] (zO o :: st) A K := zx_aload_n z10 dX0_addRule_68 rfl rfl
theorem s10_69 : zX d 10 69 ls st A K = zX d 10 70 ls (zI 0 :: st) A K := zx_const z10 dX0_addRule_69 (by decide) rfl
theorem s10_70 (h : tg A a = 1) : zX d 10 70 ls (zI x :: zO (some a) :: st) A K = zX d 10 73 ls st (pF A a 7 (zI x)) K := zx_putf (q := 0) z10 zo10 dX0_addRule_70 F2_154 rfl rfl rfl h rfl
theorem s10_73 : zX d 10 73 [v0, v1, zI x, v3] st A K = zX d 10 74 [v0, v1, zI x, v3] (zI x :: st) A K := zx_iload_n z10 dX0_addRule_73 rfl rfl
theorem s10_74 : zX d 10 74 ls [zI x] A K = K (Sum.inl (some (zI x))) A := zx_iret z10 dX0_addRule_74 zk10 rfl
theorem s10_75 : zX d 10 75 [v0, v1, v2, v3] (zO o :: st) A K = zX d 10 76 [v0, zO o, v2, v3] st A K := zx_astore_n z10 dX0_addRule_75 (Nat.le_of_ble_eq_true rfl) rfl rfl
theorem s10_76 : zX d 10 76 ls st A K = zX d 10 78 ls (zI (-100) :: st) A K := zx_bipush z10 dX0_addRule_76 (by decide) rfl
theorem s10_78 : zX d 10 78 [v0, zO o, v2, v3] st A K = zX d 10 79 [v0, zO o, v2, v3] (zO o :: st) A K := zx_aload_n z10 dX0_addRule_78 rfl rfl
theorem s10_79 (h : tg A a = 5) : zX d 10 79 ls (zO (some a) :: st) A K = zX d 10 82 ls (fd A a 6 :: st) A K := zx_getf z10 zo10 dX0_addRule_79 F2_189 rfl h
theorem s10_82 : zX d 10 82 ls (zI y :: zI x :: st) A K = zX d 10 83 ls (zI (zw (x - y)) :: st) A K := zx_isub z10 dX0_addRule_82 rfl
theorem s10_83 : zX d 10 83 [v0, v1, v2, v3] (zI x :: st) A K = zX d 10 84 [v0, v1, zI x, v3] st A K := zx_istore_n z10 dX0_addRule_83 (Nat.le_of_ble_eq_true rfl) rfl rfl
theorem s10_84 : zX d 10 84 [zO o, v1, v2, v3] st A K = zX d 10 85 [zO o, v1, v2, v3] (zO o :: st) A K := zx_aload_n z10 dX0_addRule_84 rfl rfl
theorem s10_85 : zX d 10 85 ls st A K = zX d 10 86 ls (zI 0 :: st) A K := zx_const z10 dX0_addRule_85 (by decide) rfl
theorem s10_86 (h : tg A a = 1) : zX d 10 86 ls (zI x :: zO (some a) :: st) A K = zX d 10 89 ls st (pF A a 7 (zI x)) K := zx_putf (q := 0) z10 zo10 dX0_addRule_86 F2_154 rfl rfl rfl h rfl
theorem s10_89 : zX d 10 89 [v0, v1, zI x, v3] st A K = zX d 10 90 [v0, v1, zI x, v3] (zI x :: st) A K := zx_iload_n z10 dX0_addRule_89 rfl rfl
theorem s10_90 : zX d 10 90 ls [zI x] A K = K (Sum.inl (some (zI x))) A := zx_iret z10 dX0_addRule_90 zk10 rfl
theorem s10_91 : zX d 10 91 [v0, v1, v2, v3] (zO o :: st) A K = zX d 10 92 [v0, v1, v2, zO o] st A K := zx_astore_n z10 dX0_addRule_91 (Nat.le_of_ble_eq_true rfl) rfl rfl
theorem s10_92 : zX d 10 92 [zO o, v1, v2, v3] st A K = zX d 10 93 [zO o, v1, v2, v3] (zO o :: st) A K := zx_aload_n z10 dX0_addRule_92 rfl rfl
theorem s10_93 : zX d 10 93 ls st A K = zX d 10 94 ls (zI 0 :: st) A K := zx_const z10 dX0_addRule_93 (by decide) rfl
theorem s10_94 (h : tg A a = 1) : zX d 10 94 ls (zI x :: zO (some a) :: st) A K = zX d 10 97 ls st (pF A a 7 (zI x)) K := zx_putf (q := 0) z10 zo10 dX0_addRule_94 F2_154 rfl rfl rfl h rfl
theorem s10_97 : zX d 10 97 [v0, v1, v2, zO o] st A K = zX d 10 98 [v0, v1, v2, zO o] (zO o :: st) A K := zx_aload_n z10 dX0_addRule_97 rfl rfl
theorem s11_0 : zX d 11 0 [zO o, v1, v2, v3, v4] st A K = zX d 11 1 [zO o, v1, v2, v3, v4] (zO o :: st) A K := zx_aload_n z11 dX0_isValid_0 rfl rfl
theorem s11_1 (h : tg A a = 6) : zX d 11 1 ls (zO (some a) :: st) A K = zX d 11 4 ls (fd A a 0 :: st) A K := zx_getf z11 zo11 dX0_isValid_1 F2_157 rfl h
theorem s11_4 : zX d 11 4 [v0, v1, v2, v3, v4] (zO o :: st) A K = zX d 11 5 [v0, zO o, v2, v3, v4] st A K := zx_astore_n z11 dX0_isValid_4 (Nat.le_of_ble_eq_true rfl) rfl rfl
theorem s11_5 : zX d 11 5 [zO o, v1, v2, v3, v4] st A K = zX d 11 6 [zO o, v1, v2, v3, v4] (zO o :: st) A K := zx_aload_n z11 dX0_isValid_5 rfl rfl
theorem s11_6 (h : tg A a = 6) : zX d 11 6 ls (zO (some a) :: st) A K = zX d 11 9 ls (fd A a 1 :: st) A K := zx_getf z11 zo11 dX0_isValid_6 F2_161 rfl h
theorem s11_9 : zX d 11 9 [v0, v1, v2, v3, v4] (zO o :: st) A K = zX d 11 10 [v0, v1, zO o, v3, v4] st A K := zx_astore_n z11 dX0_isValid_9 (Nat.le_of_ble_eq_true rfl) rfl rfl
theorem s11_10 : zX d 11 10 [v0, zO o, v2, v3, v4] st A K = zX d 11 11 [v0, zO o, v2, v3, v4] (zO o :: st) A K := zx_aload_n z11 dX0_isValid_10 rfl rfl
theorem s11_11 : zX d 11 11 ls st A K = zX d 11 12 ls (zI 0 :: st) A K := zx_const z11 dX0_isValid_11 (by decide) rfl
theorem s11_12 (h : tg A a = 4)  : zX (d + 1) 11 12 ls (zI i0 :: zO (some a) :: []) A K = zX d 109 0 [zO (some a), zI i0] [] A (zK (d + 1) 11 12 15 ls [] K) := zx_callV (t := 4) z11 zo11 dX0_isValid_12 rfl C2_164 rfl rfl zm109 rfl rfl (zwt_le (Nat.le_of_ble_eq_true rfl)) rfl h
theorem s11_15 : zX d 11 15 ls (zI x :: st) A K = (if x = 0 then zX d 11 40 ls st A K else zX d 11 18 ls st A K) := zx_if_eq z11 dX0_isValid_15 rfl rfl
theorem s11_18 : zX d 11 18 [v0, zO o, v2, v3, v4] st A K = zX d 11 19 [v0, zO o, v2, v3, v4] (zO o :: st) A K := zx_aload_n z11 dX0_isValid_18 rfl rfl
theorem s11_19 (h : tg A a = 4)  : zX (d + 1) 11 19 ls (zO (some a) :: []) A K = zX d 108 0 [zO (some a)] [] A (zK (d + 1) 11 19 22 ls [] K) := zx_callV (t := 4) z11 zo11 dX0_isValid_19 rfl C2_165 rfl rfl zm108 rfl rfl (zwt_le (Nat.le_of_ble_eq_true rfl)) rfl h
theorem s11_22 : zX d 11 22 ls st A K = zX d 11 24 ls (zI (40) :: st) A K := zx_bipush z11 dX0_isValid_22 (by decide) rfl
theorem s11_24 : zX d 11 24 ls (zI y :: zI x :: st) A K = (if y < x then zX d 11 40 ls st A K else zX d 11 27 ls st A K) := zx_ic_gt z11 dX0_isValid_24 rfl rfl
theorem s11_27 : zX d 11 27 [v0, v1, zO o, v3, v4] st A K = zX d 11 28 [v0, v1, zO o, v3, v4] (zO o :: st) A K := zx_aload_n z11 dX0_isValid_27 rfl rfl
theorem s11_28 (h : tg A a = 4)  : zX (d + 1) 11 28 ls (zO (some a) :: []) A K = zX d 108 0 [zO (some a)] [] A (zK (d + 1) 11 28 31 ls [] K) := zx_callV (t := 4) z11 zo11 dX0_isValid_28 rfl C2_165 rfl rfl zm108 rfl rfl (zwt_le (Nat.le_of_ble_eq_true rfl)) rfl h
theorem s11_31 : zX d 11 31 ls st A K = zX d 11 33 ls (zI (40) :: st) A K := zx_bipush z11 dX0_isValid_31 (by decide) rfl
theorem s11_33 : zX d 11 33 ls (zI y :: zI x :: st) A K = (if y < x then zX d 11 40 ls st A K else zX d 11 36 ls st A K) := zx_ic_gt z11 dX0_isValid_33 rfl rfl
theorem s11_36 : zX d 11 36 ls st A K = zX d 11 37 ls (zI 1 :: st) A K := zx_const z11 dX0_isValid_36 (by decide) rfl
theorem s11_37 : zX d 11 37 ls st A K = zX d 11 41 ls st A K := zx_goto z11 dX0_isValid_37 rfl
theorem s11_40 : zX d 11 40 ls st A K = zX d 11 41 ls (zI 0 :: st) A K := zx_const z11 dX0_isValid_40 (by decide) rfl
theorem s11_41 : zX d 11 41 [v0, v1, v2, v3, v4] (zI x :: st) A K = zX d 11 42 [v0, v1, v2, zI x, v4] st A K := zx_istore_n z11 dX0_isValid_41 (Nat.le_of_ble_eq_true rfl) rfl rfl
theorem s11_42 : zX d 11 42 ls st A K = zX d 11 43 ls (zI 1 :: st) A K := zx_const z11 dX0_isValid_42 (by decide) rfl
theorem s11_43 : zX d 11 43 [v0, v1, v2, v3, v4] (zI x :: st) A K = zX d 11 45 [v0, v1, v2, v3, zI x] st A K := zx_istore z11 dX0_isValid_43 (Nat.le_of_ble_eq_true rfl) rfl rfl
theorem s11_45 : zX d 11 45 [v0, v1, v2, v3, zI x] st A K = zX d 11 47 [v0, v1, v2, v3, zI x] (zI x :: st) A K := zx_iload z11 dX0_isValid_45 rfl rfl
theorem s11_47 : zX d 11 47 [v0, zO o, v2, v3, v4] st A K = zX d 11 48 [v0, zO o, v2, v3, v4] (zO o :: st) A K := zx_aload_n z11 dX0_isValid_47 rfl rfl
theorem s11_48 (h : tg A a = 4)  : zX (d + 1) 11 48 ls (zO (some a) :: [w0]) A K = zX d 108 0 [zO (some a)] [] A (zK (d + 1) 11 48 51 ls [w0] K) := zx_callV (t := 4) z11 zo11 dX0_isValid_48 rfl C2_165 rfl rfl zm108 rfl rfl (zwt_le (Nat.le_of_ble_eq_true rfl)) rfl h
theorem s11_51 : zX d 11 51 ls (zI y :: zI x :: st) A K = (if y ≤ x then zX d 11 79 ls st A K else zX d 11 54 ls st A K) := zx_ic_ge z11 dX0_isValid_51 rfl rfl
theorem s11_54 : zX d 11 54 [v0, v1, v2, zI x, v4] st A K = zX d 11 55 [v0, v1, v2, zI x, v4] (zI x :: st) A K := zx_iload_n z11 dX0_isValid_54 rfl rfl
theorem s11_55 : zX d 11 55 ls (zI x :: st) A K = (if x = 0 then zX d 11 79 ls st A K else zX d 11 58 ls st A K) := zx_if_eq z11 dX0_isValid_55 rfl rfl
theorem s11_58 : zX d 11 58 [v0, zO o, v2, v3, v4] st A K = zX d 11 59 [v0, zO o, v2, v3, v4] (zO o :: st) A K := zx_aload_n z11 dX0_isValid_58 rfl rfl
theorem s11_59 : zX d 11 59 [v0, v1, v2, v3, zI x] st A K = zX d 11 61 [v0, v1, v2, v3, zI x] (zI x :: st) A K := zx_iload z11 dX0_isValid_59 rfl rfl
theorem s11_61 (h : tg A a = 4)  : zX (d + 1) 11 61 ls (zI i0 :: zO (some a) :: []) A K = zX d 109 0 [zO (some a), zI i0] [] A (zK (d + 1) 11 61 64 ls [] K) := zx_callV (t := 4) z11 zo11 dX0_isValid_61 rfl C2_164 rfl rfl zm109 rfl rfl (zwt_le (Nat.le_of_ble_eq_true rfl)) rfl h
theorem s11_64 : zX d 11 64 ls (zI x :: st) A K = (if x ≠ 0 then zX d 11 71 ls st A K else zX d 11 67 ls st A K) := zx_if_ne z11 dX0_isValid_64 rfl rfl
theorem s11_67 : zX d 11 67 ls st A K = zX d 11 68 ls (zI 1 :: st) A K := zx_const z11 dX0_isValid_67 (by decide) rfl
theorem s11_68 : zX d 11 68 ls st A K = zX d 11 72 ls st A K := zx_goto z11 dX0_isValid_68 rfl
theorem s11_71 : zX d 11 71 ls st A K = zX d 11 72 ls (zI 0 :: st) A K := zx_const z11 dX0_isValid_71 (by decide) rfl
theorem s11_72 : zX d 11 72 [v0, v1, v2, v3, v4] (zI x :: st) A K = zX d 11 73 [v0, v1, v2, zI x, v4] st A K := zx_istore_n z11 dX0_isValid_72 (Nat.le_of_ble_eq_true rfl) rfl rfl
theorem s11_73 : zX d 11 73 [v0, v1, v2, v3, zI x] st A K = zX d 11 76 [v0, v1, v2, v3, zI (zw (x + 1))] st A K := zx_iinc z11 dX0_isValid_73 rfl rfl rfl
theorem s11_76 : zX d 11 76 ls st A K = zX d 11 45 ls st A K := zx_goto z11 dX0_isValid_76 rfl
theorem s11_79 : zX d 11 79 ls st A K = zX d 11 80 ls (zI 0 :: st) A K := zx_const z11 dX0_isValid_79 (by decide) rfl
theorem s11_80 : zX d 11 80 [v0, v1, v2, v3, v4] (zI x :: st) A K = zX d 11 82 [v0, v1, v2, v3, zI x] st A K := zx_istore z11 dX0_isValid_80 (Nat.le_of_ble_eq_true rfl) rfl rfl
theorem s11_82 : zX d 11 82 [v0, v1, v2, v3, zI x] st A K = zX d 11 84 [v0, v1, v2, v3, zI x] (zI x :: st) A K := zx_iload z11 dX0_isValid_82 rfl rfl
theorem s11_84 : zX d 11 84 [v0, v1, zO o, v3, v4] st A K = zX d 11 85 [v0, v1, zO o, v3, v4] (zO o :: st) A K := zx_aload_n z11 dX0_isValid_84 rfl rfl
theorem s11_85 (h : tg A a = 4)  : zX (d + 1) 11 85 ls (zO (some a) :: [w0]) A K = zX d 108 0 [zO (some a)] [] A (zK (d + 1) 11 85 88 ls [w0] K) := zx_callV (t := 4) z11 zo11 dX0_isValid_85 rfl C2_165 rfl rfl zm108 rfl rfl (zwt_le (Nat.le_of_ble_eq_true rfl)) rfl h
theorem s11_88 : zX d 11 88 ls (zI y :: zI x :: st) A K = (if y ≤ x then zX d 11 127 ls st A K else zX d 11 91 ls st A K) := zx_ic_ge z11 dX0_isValid_88 rfl rfl
theorem s11_91 : zX d 11 91 [v0, v1, v2, zI x, v4] st A K = zX d 11 92 [v0, v1, v2, zI x, v4] (zI x :: st) A K := zx_iload_n z11 dX0_isValid_91 rfl rfl
theorem s11_92 : zX d 11 92 ls (zI x :: st) A K = (if x = 0 then zX d 11 127 ls st A K else zX d 11 95 ls st A K) := zx_if_eq z11 dX0_isValid_92 rfl rfl
theorem s11_95 : zX d 11 95 [v0, v1, zO o, v3, v4] st A K = zX d 11 96 [v0, v1, zO o, v3, v4] (zO o :: st) A K := zx_aload_n z11 dX0_isValid_95 rfl rfl
theorem s11_96 : zX d 11 96 [v0, v1, v2, v3, zI x] st A K = zX d 11 98 [v0, v1, v2, v3, zI x] (zI x :: st) A K := zx_iload z11 dX0_isValid_96 rfl rfl
theorem s11_98 (h : tg A a = 4)  : zX (d + 1) 11 98 ls (zI i0 :: zO (some a) :: []) A K = zX d 110 0 [zO (some a), zI i0] [] A (zK (d + 1) 11 98 101 ls [] K) := zx_callV (t := 4) z11 zo11 dX0_isValid_98 rfl C2_169 rfl rfl zm110 rfl rfl (zwt_le (Nat.le_of_ble_eq_true rfl)) rfl h
theorem s11_101 : zX d 11 101 ls (zI x :: st) A K = (if x = 0 then zX d 11 115 ls st A K else zX d 11 104 ls st A K) := zx_if_eq z11 dX0_isValid_101 rfl rfl
theorem s11_104 : zX d 11 104 [v0, zO o, v2, v3, v4] st A K = zX d 11 105 [v0, zO o, v2, v3, v4] (zO o :: st) A K := zx_aload_n z11 dX0_isValid_104 rfl rfl
theorem s11_105 : zX d 11 105 ls st A K = zX d 11 106 ls (zI 0 :: st) A K := zx_const z11 dX0_isValid_105 (by decide) rfl
theorem s11_106 : zX d 11 106 [v0, v1, zO o, v3, v4] st A K = zX d 11 107 [v0, v1, zO o, v3, v4] (zO o :: st) A K := zx_aload_n z11 dX0_isValid_106 rfl rfl
theorem s11_107 : zX d 11 107 [v0, v1, v2, v3, zI x] st A K = zX d 11 109 [v0, v1, v2, v3, zI x] (zI x :: st) A K := zx_iload z11 dX0_isValid_107 rfl rfl
theorem s11_109 (h : tg A a = 4)  : zX (d + 1) 11 109 ls (zI i2 :: zO o1 :: zI i0 :: zO (some a) :: []) A K = zX d 111 0 [zO (some a), zI i0, zO o1, zI i2, zU] [] A (zK (d + 1) 11 109 112 ls [] K) := zx_callV (t := 4) z11 zo11 dX0_isValid_109 rfl C2_172 rfl rfl zm111 rfl rfl (zwt_le (Nat.le_of_ble_eq_true rfl)) rfl h
theorem s11_112 : zX d 11 112 ls (zI x :: st) A K = (if x = 0 then zX d 11 119 ls st A K else zX d 11 115 ls st A K) := zx_if_eq z11 dX0_isValid_112 rfl rfl
theorem s11_115 : zX d 11 115 ls st A K = zX d 11 116 ls (zI 1 :: st) A K := zx_const z11 dX0_isValid_115 (by decide) rfl
theorem s11_116 : zX d 11 116 ls st A K = zX d 11 120 ls st A K := zx_goto z11 dX0_isValid_116 rfl
theorem s11_119 : zX d 11 119 ls st A K = zX d 11 120 ls (zI 0 :: st) A K := zx_const z11 dX0_isValid_119 (by decide) rfl
theorem s11_120 : zX d 11 120 [v0, v1, v2, v3, v4] (zI x :: st) A K = zX d 11 121 [v0, v1, v2, zI x, v4] st A K := zx_istore_n z11 dX0_isValid_120 (Nat.le_of_ble_eq_true rfl) rfl rfl
theorem s11_121 : zX d 11 121 [v0, v1, v2, v3, zI x] st A K = zX d 11 124 [v0, v1, v2, v3, zI (zw (x + 1))] st A K := zx_iinc z11 dX0_isValid_121 rfl rfl rfl
theorem s11_124 : zX d 11 124 ls st A K = zX d 11 82 ls st A K := zx_goto z11 dX0_isValid_124 rfl
theorem s11_127 : zX d 11 127 [v0, v1, v2, zI x, v4] st A K = zX d 11 128 [v0, v1, v2, zI x, v4] (zI x :: st) A K := zx_iload_n z11 dX0_isValid_127 rfl rfl
theorem s11_128 (h : x = 0 ∨ x = 1) : zX d 11 128 ls [zI x] A K = K (Sum.inl (some (zI x))) A := zx_iret z11 dX0_isValid_128 zk11 (by rcases h with q | q <;> subst q <;> rfl)
theorem s12_0 : zX d 12 0 [zO o] st A K = zX d 12 1 [zO o] (zO o :: st) A K := zx_aload_n z12 dX0_invalidate_0 rfl rfl
theorem s12_1 : zX d 12 1 ls st A K = zX d 12 2 ls (zI 1 :: st) A K := zx_const z12 dX0_invalidate_1 (by decide) rfl
theorem s12_2 (h : tg A a = 1) (h2 : x = 0 ∨ x = 1) : zX d 12 2 ls (zI x :: zO (some a) :: st) A K = zX d 12 5 ls st (pF A a 9 (zI x)) K := zx_putf (q := 1) z12 zo12 dX0_invalidate_2 F2_41 rfl rfl rfl h (by rcases h2 with q | q <;> subst q <;> rfl)
theorem s12_5 : zX d 12 5 ls [] A K = K (Sum.inl none) A := zx_vret z12 dX0_invalidate_5 rfl
theorem s13_0 : zX d 13 0 [zO o, v1] st A K = zX d 13 1 [zO o, v1] (zO o :: st) A K := zx_aload_n z13 dX0_removeRule_0 rfl rfl
theorem s13_1 : zX d 13 1 [v0, zI x] st A K = zX d 13 2 [v0, zI x] (zI x :: st) A K := zx_iload_n z13 dX0_removeRule_1 rfl rfl
theorem s13_2 (h : tg A a = 1)  : zX (d + 1) 13 2 ls (zI i0 :: zO (some a) :: []) A K = zX d 14 0 [zO (some a), zI i0] [] A (zK (d + 1) 13 2 5 ls [] K) := zx_callV (t := 1) z13 zo13 dX0_removeRule_2 rfl C2_192 rfl rfl zm14 rfl rfl (zwt_le (Nat.le_of_ble_eq_true rfl)) rfl h
theorem s13_5 : zX d 13 5 ls (zI x :: st) A K = (if x ≠ 0 then zX d 13 10 ls st A K else zX d 13 8 ls st A K) := zx_if_ne z13 dX0_removeRule_5 rfl rfl
theorem s13_8 : zX d 13 8 ls st A K = zX d 13 9 ls (zI (-1) :: st) A K := zx_const z13 dX0_removeRule_8 (by decide) rfl
theorem s13_9 : zX d 13 9 ls [zI x] A K = K (Sum.inl (some (zI x))) A := zx_iret z13 dX0_removeRule_9 zk13 rfl
theorem s13_10 : zX d 13 10 [zO o, v1] st A K = zX d 13 11 [zO o, v1] (zO o :: st) A K := zx_aload_n z13 dX0_removeRule_10 rfl rfl
theorem s13_11 (h : zc v = true) : zX d 13 11 ls (v :: st) A K = zX d 13 12 ls (v :: v :: st) A K := zx_dup z13 dX0_removeRule_11 rfl h
theorem s13_12 (h : tg A a = 1) : zX d 13 12 ls (zO (some a) :: st) A K = zX d 13 15 ls (fd A a 2 :: st) A K := zx_getf z13 zo13 dX0_removeRule_12 F2_138 rfl h
theorem s13_15 : zX d 13 15 ls st A K = zX d 13 16 ls (zI 1 :: st) A K := zx_const z13 dX0_removeRule_15 (by decide) rfl
theorem s13_16 : zX d 13 16 ls (zI y :: zI x :: st) A K = zX d 13 17 ls (zI (zw (x - y)) :: st) A K := zx_isub z13 dX0_removeRule_16 rfl
theorem s13_17 (h : tg A a = 1) : zX d 13 17 ls (zI x :: zO (some a) :: st) A K = zX d 13 20 ls st (pF A a 2 (zI x)) K := zx_putf (q := 0) z13 zo13 dX0_removeRule_17 F2_138 rfl rfl rfl h rfl
theorem s13_20 : zX d 13 20 [zO o, v1] st A K = zX d 13 21 [zO o, v1] (zO o :: st) A K := zx_aload_n z13 dX0_removeRule_20 rfl rfl
theorem s13_21 (h : tg A a = 1) : zX d 13 21 ls (zO (some a) :: st) A K = zX d 13 24 ls (fd A a 1 :: st) A K := zx_getf z13 zo13 dX0_removeRule_21 F2_15 rfl h
theorem s13_24 : zX d 13 24 [v0, zI x] st A K = zX d 13 25 [v0, zI x] (zI x :: st) A K := zx_iload_n z13 dX0_removeRule_24 rfl rfl
theorem s13_25 : zX d 13 25 ls st A K = zX d 13 26 ls (zI 1 :: st) A K := zx_const z13 dX0_removeRule_25 (by decide) rfl
theorem s13_26 : zX d 13 26 ls (zI y :: zI x :: st) A K = zX d 13 27 ls (zI (zw (x + y)) :: st) A K := zx_iadd z13 dX0_removeRule_26 rfl
theorem s13_27 : zX d 13 27 [zO o, v1] st A K = zX d 13 28 [zO o, v1] (zO o :: st) A K := zx_aload_n z13 dX0_removeRule_27 rfl rfl
theorem s13_28 (h : tg A a = 1) : zX d 13 28 ls (zO (some a) :: st) A K = zX d 13 31 ls (fd A a 1 :: st) A K := zx_getf z13 zo13 dX0_removeRule_28 F2_15 rfl h
theorem s13_31 : zX d 13 31 [v0, zI x] st A K = zX d 13 32 [v0, zI x] (zI x :: st) A K := zx_iload_n z13 dX0_removeRule_31 rfl rfl
theorem s13_32 : zX d 13 32 [zO o, v1] st A K = zX d 13 33 [zO o, v1] (zO o :: st) A K := zx_aload_n z13 dX0_removeRule_32 rfl rfl
theorem s13_33 (h : tg A a = 1) : zX d 13 33 ls (zO (some a) :: st) A K = zX d 13 36 ls (fd A a 2 :: st) A K := zx_getf z13 zo13 dX0_removeRule_33 F2_138 rfl h
theorem s13_36 : zX d 13 36 [v0, zI x] st A K = zX d 13 37 [v0, zI x] (zI x :: st) A K := zx_iload_n z13 dX0_removeRule_36 rfl rfl
theorem s13_37 : zX d 13 37 ls (zI y :: zI x :: st) A K = zX d 13 38 ls (zI (zw (x - y)) :: st) A K := zx_isub z13 dX0_removeRule_37 rfl
theorem s13_38i (h0 : 0 ≤ w) (h1 : 0 ≤ y) (h2 : 0 ≤ x) (h : tg A a = tg A b) (h6 : tg A b = 20 ∨ tg A b = 21) (h3 : x.toNat + w.toNat ≤ (ia A a).length) (h4 : y.toNat + w.toNat ≤ (ia A b).length) : zX d 13 38 ls (zI w :: zI y :: zO (some b) :: zI x :: zO (some a) :: []) A K = zX d 13 41 ls [] (pI A b (zcpy (ia A a) (ia A b) x.toNat y.toNat w.toNat)) K := zx_inS z13 zo13 dX0_removeRule_38 rfl rfl rfl (zin_3i (zwt_le (Nat.le_of_ble_eq_true rfl)) h0 h1 h2 h h6 h3 h4)
theorem s13_38r (h0 : 0 ≤ w) (h1 : 0 ≤ y) (h2 : 0 ≤ x) (h : tg A a = tg A b) (h6 : tg A b = 24 ∨ tg A b = 25 ∨ tg A b = 28) (h3 : x.toNat + w.toNat ≤ (ra A a).length) (h4 : y.toNat + w.toNat ≤ (ra A b).length) : zX d 13 38 ls (zI w :: zI y :: zO (some b) :: zI x :: zO (some a) :: []) A K = zX d 13 41 ls [] (pR A b (zcpy (ra A a) (ra A b) x.toNat y.toNat w.toNat)) K := zx_inS z13 zo13 dX0_removeRule_38 rfl rfl rfl (zin_3r (zwt_le (Nat.le_of_ble_eq_true rfl)) h0 h1 h2 h h6 h3 h4)
theorem s13_41 : zX d 13 41 [zO o, v1] st A K = zX d 13 42 [zO o, v1] (zO o :: st) A K := zx_aload_n z13 dX0_removeRule_41 rfl rfl
theorem s13_42 (h : tg A a = 1)  : zX (d + 1) 13 42 ls (zO (some a) :: []) A K = zX d 12 0 [zO (some a)] [] A (zK (d + 1) 13 42 45 ls [] K) := zx_callV (t := 1) z13 zo13 dX0_removeRule_42 rfl C2_184 rfl rfl zm12 rfl rfl (zwt_le (Nat.le_of_ble_eq_true rfl)) rfl h
theorem s13_45 : zX d 13 45 [zO o, v1] st A K = zX d 13 46 [zO o, v1] (zO o :: st) A K := zx_aload_n z13 dX0_removeRule_45 rfl rfl
theorem s13_46 (h : tg A a = 1) : zX d 13 46 ls (zO (some a) :: st) A K = zX d 13 49 ls (fd A a 2 :: st) A K := zx_getf z13 zo13 dX0_removeRule_46 F2_138 rfl h
theorem s13_49 : zX d 13 49 ls [zI x] A K = K (Sum.inl (some (zI x))) A := zx_iret z13 dX0_removeRule_49 zk13 rfl
theorem s14_0 : zX d 14 0 [v0, zI x] st A K = zX d 14 1 [v0, zI x] (zI x :: st) A K := zx_iload_n z14 dX0_isRule_0 rfl rfl
theorem s14_1 : zX d 14 1 ls (zI x :: st) A K = zX d 14 2 ls (zL x :: st) A K := zx_i2l z14 dX0_isRule_1 rfl
theorem s14_2 : zX d 14 2 ls st A K = zX d 14 3 ls (zL 0 :: st) A K := zx_lconst z14 dX0_isRule_2 rfl
theorem s14_3 : zX d 14 3 [zO o, v1] st A K = zX d 14 4 [zO o, v1] (zO o :: st) A K := zx_aload_n z14 dX0_isRule_3 rfl rfl
theorem s14_4 (h : tg A a = 1) : zX d 14 4 ls (zO (some a) :: st) A K = zX d 14 7 ls (fd A a 2 :: st) A K := zx_getf z14 zo14 dX0_isRule_4 F2_138 rfl h
theorem s14_7 : zX d 14 7 ls st A K = zX d 14 8 ls (zI 1 :: st) A K := zx_const z14 dX0_isRule_7 (by decide) rfl
theorem s14_8 : zX d 14 8 ls (zI y :: zI x :: st) A K = zX d 14 9 ls (zI (zw (x - y)) :: st) A K := zx_isub z14 dX0_isRule_8 rfl
theorem s14_9 : zX d 14 9 ls (zI x :: st) A K = zX d 14 10 ls (zL x :: st) A K := zx_i2l z14 dX0_isRule_9 rfl
theorem s14_10 : zX d 14 10 ls (zL y :: zL x :: zL w :: []) A K = zX d 14 13 ls (zI (zb (decide (x ≤ w ∧ w ≤ y))) :: []) A K := zx_inS z14 zo14 dX0_isRule_10 rfl rfl rfl (zin_2 (zwt_le (Nat.le_of_ble_eq_true rfl)))
theorem s14_13 (h : x = 0 ∨ x = 1) : zX d 14 13 ls [zI x] A K = K (Sum.inl (some (zI x))) A := zx_iret z14 dX0_isRule_13 zk14 (by rcases h with q | q <;> subst q <;> rfl)
theorem s15_0 : zX d 15 0 [zO o] st A K = zX d 15 1 [zO o] (zO o :: st) A K := zx_aload_n z15 dX0_ruleCount_0 rfl rfl
theorem s15_1 (h : tg A a = 1) : zX d 15 1 ls (zO (some a) :: st) A K = zX d 15 4 ls (fd A a 2 :: st) A K := zx_getf z15 zo15 dX0_ruleCount_1 F2_138 rfl h
theorem s15_4 : zX d 15 4 ls [zI x] A K = K (Sum.inl (some (zI x))) A := zx_iret z15 dX0_ruleCount_4 zk15 rfl
theorem s16_0 : zX d 16 0 [zO o, v1] st A K = zX d 16 1 [zO o, v1] (zO o :: st) A K := zx_aload_n z16 dX0_leftSize_0 rfl rfl
theorem s16_1 : zX d 16 1 [v0, zI x] st A K = zX d 16 2 [v0, zI x] (zI x :: st) A K := zx_iload_n z16 dX0_leftSize_1 rfl rfl
theorem s16_2 (h : tg A a = 1)  : zX (d + 1) 16 2 ls (zI i0 :: zO (some a) :: []) A K = zX d 14 0 [zO (some a), zI i0] [] A (zK (d + 1) 16 2 5 ls [] K) := zx_callV (t := 1) z16 zo16 dX0_leftSize_2 rfl C2_192 rfl rfl zm14 rfl rfl (zwt_le (Nat.le_of_ble_eq_true rfl)) rfl h
theorem s16_5 : zX d 16 5 ls (zI x :: st) A K = (if x = 0 then zX d 16 23 ls st A K else zX d 16 8 ls st A K) := zx_if_eq z16 dX0_leftSize_5 rfl rfl
theorem s16_8 : zX d 16 8 [zO o, v1] st A K = zX d 16 9 [zO o, v1] (zO o :: st) A K := zx_aload_n z16 dX0_leftSize_8 rfl rfl
theorem s16_9 (h : tg A a = 1) : zX d 16 9 ls (zO (some a) :: st) A K = zX d 16 12 ls (fd A a 1 :: st) A K := zx_getf z16 zo16 dX0_leftSize_9 F2_15 rfl h
theorem s16_12 : zX d 16 12 [v0, zI x] st A K = zX d 16 13 [v0, zI x] (zI x :: st) A K := zx_iload_n z16 dX0_leftSize_12 rfl rfl
theorem s16_13 (h : zarr (tg A a) = 3) (h0 : 0 ≤ x) (h1 : x.toNat < (ra A a).length) : zX d 16 13 ls (zI x :: zO (some a) :: st) A K = zX d 16 14 ls (zO ((ra A a).getD x.toNat none) :: st) A K := zx_aald z16 dX0_leftSize_13 rfl h h0 h1
theorem s16_14 (h : tg A a = 6) : zX d 16 14 ls (zO (some a) :: st) A K = zX d 16 17 ls (fd A a 0 :: st) A K := zx_getf z16 zo16 dX0_leftSize_14 F2_157 rfl h
theorem s16_17 (h : tg A a = 4)  : zX (d + 1) 16 17 ls (zO (some a) :: []) A K = zX d 108 0 [zO (some a)] [] A (zK (d + 1) 16 17 20 ls [] K) := zx_callV (t := 4) z16 zo16 dX0_leftSize_17 rfl C2_165 rfl rfl zm108 rfl rfl (zwt_le (Nat.le_of_ble_eq_true rfl)) rfl h
theorem s16_20 : zX d 16 20 ls st A K = zX d 16 24 ls st A K := zx_goto z16 dX0_leftSize_20 rfl
theorem s16_23 : zX d 16 23 ls st A K = zX d 16 24 ls (zI (-1) :: st) A K := zx_const z16 dX0_leftSize_23 (by decide) rfl
theorem s16_24 : zX d 16 24 ls [zI x] A K = K (Sum.inl (some (zI x))) A := zx_iret z16 dX0_leftSize_24 zk16 rfl
theorem s17_0 : zX d 17 0 [zO o, v1] st A K = zX d 17 1 [zO o, v1] (zO o :: st) A K := zx_aload_n z17 dX0_rightSize_0 rfl rfl
theorem s17_1 : zX d 17 1 [v0, zI x] st A K = zX d 17 2 [v0, zI x] (zI x :: st) A K := zx_iload_n z17 dX0_rightSize_1 rfl rfl
theorem s17_2 (h : tg A a = 1)  : zX (d + 1) 17 2 ls (zI i0 :: zO (some a) :: []) A K = zX d 14 0 [zO (some a), zI i0] [] A (zK (d + 1) 17 2 5 ls [] K) := zx_callV (t := 1) z17 zo17 dX0_rightSize_2 rfl C2_192 rfl rfl zm14 rfl rfl (zwt_le (Nat.le_of_ble_eq_true rfl)) rfl h
theorem s17_5 : zX d 17 5 ls (zI x :: st) A K = (if x = 0 then zX d 17 23 ls st A K else zX d 17 8 ls st A K) := zx_if_eq z17 dX0_rightSize_5 rfl rfl
theorem s17_8 : zX d 17 8 [zO o, v1] st A K = zX d 17 9 [zO o, v1] (zO o :: st) A K := zx_aload_n z17 dX0_rightSize_8 rfl rfl
theorem s17_9 (h : tg A a = 1) : zX d 17 9 ls (zO (some a) :: st) A K = zX d 17 12 ls (fd A a 1 :: st) A K := zx_getf z17 zo17 dX0_rightSize_9 F2_15 rfl h
theorem s17_12 : zX d 17 12 [v0, zI x] st A K = zX d 17 13 [v0, zI x] (zI x :: st) A K := zx_iload_n z17 dX0_rightSize_12 rfl rfl
theorem s17_13 (h : zarr (tg A a) = 3) (h0 : 0 ≤ x) (h1 : x.toNat < (ra A a).length) : zX d 17 13 ls (zI x :: zO (some a) :: st) A K = zX d 17 14 ls (zO ((ra A a).getD x.toNat none) :: st) A K := zx_aald z17 dX0_rightSize_13 rfl h h0 h1
theorem s17_14 (h : tg A a = 6) : zX d 17 14 ls (zO (some a) :: st) A K = zX d 17 17 ls (fd A a 1 :: st) A K := zx_getf z17 zo17 dX0_rightSize_14 F2_161 rfl h
theorem s17_17 (h : tg A a = 4)  : zX (d + 1) 17 17 ls (zO (some a) :: []) A K = zX d 108 0 [zO (some a)] [] A (zK (d + 1) 17 17 20 ls [] K) := zx_callV (t := 4) z17 zo17 dX0_rightSize_17 rfl C2_165 rfl rfl zm108 rfl rfl (zwt_le (Nat.le_of_ble_eq_true rfl)) rfl h
theorem s17_20 : zX d 17 20 ls st A K = zX d 17 24 ls st A K := zx_goto z17 dX0_rightSize_20 rfl
theorem s17_23 : zX d 17 23 ls st A K = zX d 17 24 ls (zI (-1) :: st) A K := zx_const z17 dX0_rightSize_23 (by decide) rfl
theorem s17_24 : zX d 17 24 ls [zI x] A K = K (Sum.inl (some (zI x))) A := zx_iret z17 dX0_rightSize_24 zk17 rfl
theorem s18_0 : zX d 18 0 [zO o] st A K = zX d 18 1 [zO o] (zO o :: st) A K := zx_aload_n z18 dX0_pairCount_0 rfl rfl
theorem s18_1 (h : tg A a = 1)  : zX (d + 1) 18 1 ls (zO (some a) :: []) A K = zX d 19 0 [zO (some a), zU, zU, zU] [] A (zK (d + 1) 18 1 4 ls [] K) := zx_callV (t := 1) z18 zo18 dX0_pairCount_1 rfl C2_240 rfl rfl zm19 rfl rfl (zwt_le (Nat.le_of_ble_eq_true rfl)) rfl h
theorem s18_4 : zX d 18 4 [zO o] st A K = zX d 18 5 [zO o] (zO o :: st) A K := zx_aload_n z18 dX0_pairCount_4 rfl rfl
theorem s18_5 (h : tg A a = 1) : zX d 18 5 ls (zO (some a) :: st) A K = zX d 18 8 ls (fd A a 11 :: st) A K := zx_getf z18 zo18 dX0_pairCount_5 F2_219 rfl h
theorem s18_8 : zX d 18 8 ls [zI x] A K = K (Sum.inl (some (zI x))) A := zx_iret z18 dX0_pairCount_8 zk18 rfl
theorem s19_0 : zX d 19 0 [zO o, v1, v2, v3] st A K = zX d 19 1 [zO o, v1, v2, v3] (zO o :: st) A K := zx_aload_n z19 dX0_update_0 rfl rfl
theorem s19_1 (h : tg A a = 1) : zX d 19 1 ls (zO (some a) :: st) A K = zX d 19 4 ls (fd A a 9 :: st) A K := zx_getf z19 zo19 dX0_update_1 F2_41 rfl h
theorem s19_4 : zX d 19 4 ls (zI x :: st) A K = (if x ≠ 0 then zX d 19 8 ls st A K else zX d 19 7 ls st A K) := zx_if_ne z19 dX0_update_4 rfl rfl
theorem s19_7 : zX d 19 7 ls [] A K = K (Sum.inl none) A := zx_vret z19 dX0_update_7 rfl
theorem s19_8 : zX d 19 8 [zO o, v1, v2, v3] st A K = zX d 19 9 [zO o, v1, v2, v3] (zO o :: st) A K := zx_aload_n z19 dX0_update_8 rfl rfl
theorem s19_9 : zX d 19 9 ls st A K = zX d 19 10 ls (zI 0 :: st) A K := zx_const z19 dX0_update_9 (by decide) rfl
theorem s19_10 (h : tg A a = 1) (h2 : x = 0 ∨ x = 1) : zX d 19 10 ls (zI x :: zO (some a) :: st) A K = zX d 19 13 ls st (pF A a 9 (zI x)) K := zx_putf (q := 1) z19 zo19 dX0_update_10 F2_41 rfl rfl rfl h (by rcases h2 with q | q <;> subst q <;> rfl)
theorem s19_13 : zX d 19 13 [zO o, v1, v2, v3] st A K = zX d 19 14 [zO o, v1, v2, v3] (zO o :: st) A K := zx_aload_n z19 dX0_update_13 rfl rfl
theorem s19_14 : zX d 19 14 ls st A K = zX d 19 15 ls (zI 0 :: st) A K := zx_const z19 dX0_update_14 (by decide) rfl
theorem s19_15 (h : tg A a = 1) (h2 : x = 0 ∨ x = 1) : zX d 19 15 ls (zI x :: zO (some a) :: st) A K = zX d 19 18 ls st (pF A a 21 (zI x)) K := zx_putf (q := 1) z19 zo19 dX0_update_15 F2_216 rfl rfl rfl h (by rcases h2 with q | q <;> subst q <;> rfl)
theorem s19_18 : zX d 19 18 [zO o, v1, v2, v3] st A K = zX d 19 19 [zO o, v1, v2, v3] (zO o :: st) A K := zx_aload_n z19 dX0_update_18 rfl rfl
theorem s19_19 : zX d 19 19 ls st A K = zX d 19 20 ls (zI 0 :: st) A K := zx_const z19 dX0_update_19 (by decide) rfl
theorem s19_20 (h : tg A a = 1) : zX d 19 20 ls (zI x :: zO (some a) :: st) A K = zX d 19 23 ls st (pF A a 11 (zI x)) K := zx_putf (q := 0) z19 zo19 dX0_update_20 F2_219 rfl rfl rfl h rfl
theorem s19_23 : zX d 19 23 ls st A K = zX d 19 24 ls (zI 0 :: st) A K := zx_const z19 dX0_update_23 (by decide) rfl
theorem s19_24 : zX d 19 24 [v0, v1, v2, v3] (zI x :: st) A K = zX d 19 25 [v0, zI x, v2, v3] st A K := zx_istore_n z19 dX0_update_24 (Nat.le_of_ble_eq_true rfl) rfl rfl
theorem s19_25 : zX d 19 25 [v0, zI x, v2, v3] st A K = zX d 19 26 [v0, zI x, v2, v3] (zI x :: st) A K := zx_iload_n z19 dX0_update_25 rfl rfl
theorem s19_26 : zX d 19 26 [zO o, v1, v2, v3] st A K = zX d 19 27 [zO o, v1, v2, v3] (zO o :: st) A K := zx_aload_n z19 dX0_update_26 rfl rfl
theorem s19_27 (h : tg A a = 1) : zX d 19 27 ls (zO (some a) :: st) A K = zX d 19 30 ls (fd A a 2 :: st) A K := zx_getf z19 zo19 dX0_update_27 F2_138 rfl h
theorem s19_30 : zX d 19 30 ls (zI y :: zI x :: st) A K = (if y ≤ x then zX d 19 121 ls st A K else zX d 19 33 ls st A K) := zx_ic_ge z19 dX0_update_30 rfl rfl
theorem s19_33 : zX d 19 33 [zO o, v1, v2, v3] st A K = zX d 19 34 [zO o, v1, v2, v3] (zO o :: st) A K := zx_aload_n z19 dX0_update_33 rfl rfl
theorem s19_34 (h : tg A a = 1) : zX d 19 34 ls (zO (some a) :: st) A K = zX d 19 37 ls (fd A a 1 :: st) A K := zx_getf z19 zo19 dX0_update_34 F2_15 rfl h
theorem s19_37 : zX d 19 37 [v0, zI x, v2, v3] st A K = zX d 19 38 [v0, zI x, v2, v3] (zI x :: st) A K := zx_iload_n z19 dX0_update_37 rfl rfl
theorem s19_38 (h : zarr (tg A a) = 3) (h0 : 0 ≤ x) (h1 : x.toNat < (ra A a).length) : zX d 19 38 ls (zI x :: zO (some a) :: st) A K = zX d 19 39 ls (zO ((ra A a).getD x.toNat none) :: st) A K := zx_aald z19 dX0_update_38 rfl h h0 h1
theorem s19_39 (h : tg A a = 6) : zX d 19 39 ls (zO (some a) :: st) A K = zX d 19 42 ls (fd A a 1 :: st) A K := zx_getf z19 zo19 dX0_update_39 F2_161 rfl h
theorem s19_42 : zX d 19 42 [v0, v1, v2, v3] (zO o :: st) A K = zX d 19 43 [v0, v1, zO o, v3] st A K := zx_astore_n z19 dX0_update_42 (Nat.le_of_ble_eq_true rfl) rfl rfl
theorem s19_43 : zX d 19 43 ls st A K = zX d 19 44 ls (zI 0 :: st) A K := zx_const z19 dX0_update_43 (by decide) rfl
theorem s19_44 : zX d 19 44 [v0, v1, v2, v3] (zI x :: st) A K = zX d 19 45 [v0, v1, v2, zI x] st A K := zx_istore_n z19 dX0_update_44 (Nat.le_of_ble_eq_true rfl) rfl rfl
theorem s19_45 : zX d 19 45 [v0, v1, v2, zI x] st A K = zX d 19 46 [v0, v1, v2, zI x] (zI x :: st) A K := zx_iload_n z19 dX0_update_45 rfl rfl
theorem s19_46 : zX d 19 46 [v0, v1, zO o, v3] st A K = zX d 19 47 [v0, v1, zO o, v3] (zO o :: st) A K := zx_aload_n z19 dX0_update_46 rfl rfl
theorem s19_47 (h : tg A a = 4)  : zX (d + 1) 19 47 ls (zO (some a) :: [w0]) A K = zX d 108 0 [zO (some a)] [] A (zK (d + 1) 19 47 50 ls [w0] K) := zx_callV (t := 4) z19 zo19 dX0_update_47 rfl C2_165 rfl rfl zm108 rfl rfl (zwt_le (Nat.le_of_ble_eq_true rfl)) rfl h
theorem s19_50 : zX d 19 50 ls (zI y :: zI x :: st) A K = (if y ≤ x then zX d 19 115 ls st A K else zX d 19 53 ls st A K) := zx_ic_ge z19 dX0_update_50 rfl rfl
theorem s19_53 : zX d 19 53 [v0, v1, zO o, v3] st A K = zX d 19 54 [v0, v1, zO o, v3] (zO o :: st) A K := zx_aload_n z19 dX0_update_53 rfl rfl
theorem s19_54 : zX d 19 54 [v0, v1, v2, zI x] st A K = zX d 19 55 [v0, v1, v2, zI x] (zI x :: st) A K := zx_iload_n z19 dX0_update_54 rfl rfl
theorem s19_55 (h : tg A a = 4)  : zX (d + 1) 19 55 ls (zI i0 :: zO (some a) :: []) A K = zX d 109 0 [zO (some a), zI i0] [] A (zK (d + 1) 19 55 58 ls [] K) := zx_callV (t := 4) z19 zo19 dX0_update_55 rfl C2_164 rfl rfl zm109 rfl rfl (zwt_le (Nat.le_of_ble_eq_true rfl)) rfl h
theorem s19_58 : zX d 19 58 ls (zI x :: st) A K = (if x = 0 then zX d 19 109 ls st A K else zX d 19 61 ls st A K) := zx_if_eq z19 dX0_update_58 rfl rfl
theorem s19_61 : zX d 19 61 [zO o, v1, v2, v3] st A K = zX d 19 62 [zO o, v1, v2, v3] (zO o :: st) A K := zx_aload_n z19 dX0_update_61 rfl rfl
theorem s19_62 (h : tg A a = 1) : zX d 19 62 ls (zO (some a) :: st) A K = zX d 19 65 ls (fd A a 10 :: st) A K := zx_getf z19 zo19 dX0_update_62 F2_47 rfl h
theorem s19_65 : zX d 19 65 [zO o, v1, v2, v3] st A K = zX d 19 66 [zO o, v1, v2, v3] (zO o :: st) A K := zx_aload_n z19 dX0_update_65 rfl rfl
theorem s19_66 (h : tg A a = 1) : zX d 19 66 ls (zO (some a) :: st) A K = zX d 19 69 ls (fd A a 11 :: st) A K := zx_getf z19 zo19 dX0_update_66 F2_219 rfl h
theorem s19_69 : zX d 19 69 ls st A K = zX d 19 72 ls (zO (some (nx A)) :: st) (nO A 7) K := zx_new z19 zo19 dX0_update_69 rfl rfl
theorem s19_72 (h : zc v = true) : zX d 19 72 ls (v :: st) A K = zX d 19 73 ls (v :: v :: st) A K := zx_dup z19 dX0_update_72 rfl h
theorem s19_73 : zX d 19 73 [v0, zI x, v2, v3] st A K = zX d 19 74 [v0, zI x, v2, v3] (zI x :: st) A K := zx_iload_n z19 dX0_update_73 rfl rfl
theorem s19_74 : zX d 19 74 [v0, v1, v2, zI x] st A K = zX d 19 75 [v0, v1, v2, zI x] (zI x :: st) A K := zx_iload_n z19 dX0_update_74 rfl rfl
theorem s19_75 : zX d 19 75 [zO o, v1, v2, v3] st A K = zX d 19 76 [zO o, v1, v2, v3] (zO o :: st) A K := zx_aload_n z19 dX0_update_75 rfl rfl
theorem s19_76 (h : tg A a = 1) : zX d 19 76 ls (zO (some a) :: st) A K = zX d 19 79 ls (fd A a 1 :: st) A K := zx_getf z19 zo19 dX0_update_76 F2_15 rfl h
theorem s19_79 : zX d 19 79 [v0, zI x, v2, v3] st A K = zX d 19 80 [v0, zI x, v2, v3] (zI x :: st) A K := zx_iload_n z19 dX0_update_79 rfl rfl
theorem s19_80 (h : zarr (tg A a) = 3) (h0 : 0 ≤ x) (h1 : x.toNat < (ra A a).length) : zX d 19 80 ls (zI x :: zO (some a) :: st) A K = zX d 19 81 ls (zO ((ra A a).getD x.toNat none) :: st) A K := zx_aald z19 dX0_update_80 rfl h h0 h1
theorem s19_81 (h : tg A a = 6) : zX d 19 81 ls (zO (some a) :: st) A K = zX d 19 84 ls (fd A a 0 :: st) A K := zx_getf z19 zo19 dX0_update_81 F2_157 rfl h
theorem s19_84 : zX d 19 84 [v0, v1, zO o, v3] st A K = zX d 19 85 [v0, v1, zO o, v3] (zO o :: st) A K := zx_aload_n z19 dX0_update_84 rfl rfl
theorem s19_85 : zX (d + 1) 19 85 ls (zO o3 :: zO o2 :: zI i1 :: zI i0 :: zO (some a) :: [w0, w1, w2]) A K = zX d 121 0 [zO (some a), zI i0, zI i1, zO o2, zO o3, zU, zU, zU, zU, zU, zU] [] A (zK (d + 1) 19 85 88 ls [w0, w1, w2] K) := zx_callI z19 zo19 dX0_update_85 rfl C2_222 rfl rfl zm121 rfl rfl (zwt_le (Nat.le_of_ble_eq_true rfl)) rfl
theorem s19_88 (h : 24 ≤ tg A a) (h4 : tg A a ≤ 28) (h0 : 0 ≤ x) (h1 : x.toNat < (ra A a).length) (h2 : ∀ b, o = some b → zel (tg A a) (tg A b) = true) : zX d 19 88 ls (zO o :: zI x :: zO (some a) :: st) A K = zX d 19 89 ls st (pR A a ((ra A a).set x.toNat o)) K := zx_aast z19 dX0_update_88 rfl h h4 h0 h1 h2
theorem s19_89 : zX d 19 89 [zO o, v1, v2, v3] st A K = zX d 19 90 [zO o, v1, v2, v3] (zO o :: st) A K := zx_aload_n z19 dX0_update_89 rfl rfl
theorem s19_90 (h : tg A a = 1) : zX d 19 90 ls (zO (some a) :: st) A K = zX d 19 93 ls (fd A a 15 :: st) A K := zx_getf z19 zo19 dX0_update_90 F2_59 rfl h
theorem s19_93 : zX d 19 93 [zO o, v1, v2, v3] st A K = zX d 19 94 [zO o, v1, v2, v3] (zO o :: st) A K := zx_aload_n z19 dX0_update_93 rfl rfl
theorem s19_94 (h : tg A a = 1) : zX d 19 94 ls (zO (some a) :: st) A K = zX d 19 97 ls (fd A a 11 :: st) A K := zx_getf z19 zo19 dX0_update_94 F2_219 rfl h
theorem s19_97 : zX d 19 97 ls st A K = zX d 19 98 ls (zI 1 :: st) A K := zx_const z19 dX0_update_97 (by decide) rfl
theorem s19_98 (h : tg A a = 21) (h0 : 0 ≤ x) (h1 : x.toNat < (ia A a).length) : zX d 19 98 ls (zI y :: zI x :: zO (some a) :: st) A K = zX d 19 99 ls st (pI A a ((ia A a).set x.toNat (zhb y))) K := zx_bast z19 dX0_update_98 rfl h h0 h1
theorem s19_98z (h : tg A a = 22) (h2 : y = 0 ∨ y = 1) (h0 : 0 ≤ x) (h1 : x.toNat < (ia A a).length) : zX d 19 98 ls (zI y :: zI x :: zO (some a) :: st) A K = zX d 19 99 ls st (pI A a ((ia A a).set x.toNat y)) K := zx_zast z19 dX0_update_98 rfl h h2 h0 h1
theorem s19_99 : zX d 19 99 [zO o, v1, v2, v3] st A K = zX d 19 100 [zO o, v1, v2, v3] (zO o :: st) A K := zx_aload_n z19 dX0_update_99 rfl rfl
theorem s19_100 (h : zc v = true) : zX d 19 100 ls (v :: st) A K = zX d 19 101 ls (v :: v :: st) A K := zx_dup z19 dX0_update_100 rfl h
theorem s19_101 (h : tg A a = 1) : zX d 19 101 ls (zO (some a) :: st) A K = zX d 19 104 ls (fd A a 11 :: st) A K := zx_getf z19 zo19 dX0_update_101 F2_219 rfl h
theorem s19_104 : zX d 19 104 ls st A K = zX d 19 105 ls (zI 1 :: st) A K := zx_const z19 dX0_update_104 (by decide) rfl
theorem s19_105 : zX d 19 105 ls (zI y :: zI x :: st) A K = zX d 19 106 ls (zI (zw (x + y)) :: st) A K := zx_iadd z19 dX0_update_105 rfl
theorem s19_106 (h : tg A a = 1) : zX d 19 106 ls (zI x :: zO (some a) :: st) A K = zX d 19 109 ls st (pF A a 11 (zI x)) K := zx_putf (q := 0) z19 zo19 dX0_update_106 F2_219 rfl rfl rfl h rfl
theorem s19_109 : zX d 19 109 [v0, v1, v2, zI x] st A K = zX d 19 112 [v0, v1, v2, zI (zw (x + 1))] st A K := zx_iinc z19 dX0_update_109 rfl rfl rfl
theorem s19_112 : zX d 19 112 ls st A K = zX d 19 45 ls st A K := zx_goto z19 dX0_update_112 rfl
theorem s19_115 : zX d 19 115 [v0, zI x, v2, v3] st A K = zX d 19 118 [v0, zI (zw (x + 1)), v2, v3] st A K := zx_iinc z19 dX0_update_115 rfl rfl rfl
theorem s19_118 : zX d 19 118 ls st A K = zX d 19 25 ls st A K := zx_goto z19 dX0_update_118 rfl
theorem s19_121 : zX d 19 121 ls st A K = zX d 19 122 ls (zI 0 :: st) A K := zx_const z19 dX0_update_121 (by decide) rfl
theorem s19_122 : zX d 19 122 [v0, v1, v2, v3] (zI x :: st) A K = zX d 19 123 [v0, zI x, v2, v3] st A K := zx_istore_n z19 dX0_update_122 (Nat.le_of_ble_eq_true rfl) rfl rfl
theorem s19_123 : zX d 19 123 [v0, zI x, v2, v3] st A K = zX d 19 124 [v0, zI x, v2, v3] (zI x :: st) A K := zx_iload_n z19 dX0_update_123 rfl rfl
theorem s19_124 : zX d 19 124 [zO o, v1, v2, v3] st A K = zX d 19 125 [zO o, v1, v2, v3] (zO o :: st) A K := zx_aload_n z19 dX0_update_124 rfl rfl
theorem s19_125 (h : tg A a = 1) : zX d 19 125 ls (zO (some a) :: st) A K = zX d 19 128 ls (fd A a 11 :: st) A K := zx_getf z19 zo19 dX0_update_125 F2_219 rfl h
theorem s19_128 : zX d 19 128 ls (zI y :: zI x :: st) A K = (if y ≤ x then zX d 19 176 ls st A K else zX d 19 131 ls st A K) := zx_ic_ge z19 dX0_update_128 rfl rfl
theorem s19_131 : zX d 19 131 ls st A K = zX d 19 132 ls (zI 0 :: st) A K := zx_const z19 dX0_update_131 (by decide) rfl
theorem s19_132 : zX d 19 132 [v0, v1, v2, v3] (zI x :: st) A K = zX d 19 133 [v0, v1, zI x, v3] st A K := zx_istore_n z19 dX0_update_132 (Nat.le_of_ble_eq_true rfl) rfl rfl
theorem s19_133 : zX d 19 133 [v0, v1, zI x, v3] st A K = zX d 19 134 [v0, v1, zI x, v3] (zI x :: st) A K := zx_iload_n z19 dX0_update_133 rfl rfl
theorem s19_134 : zX d 19 134 [zO o, v1, v2, v3] st A K = zX d 19 135 [zO o, v1, v2, v3] (zO o :: st) A K := zx_aload_n z19 dX0_update_134 rfl rfl
theorem s19_135 (h : tg A a = 1) : zX d 19 135 ls (zO (some a) :: st) A K = zX d 19 138 ls (fd A a 11 :: st) A K := zx_getf z19 zo19 dX0_update_135 F2_219 rfl h
theorem s19_138 : zX d 19 138 ls (zI y :: zI x :: st) A K = (if y ≤ x then zX d 19 170 ls st A K else zX d 19 141 ls st A K) := zx_ic_ge z19 dX0_update_138 rfl rfl
theorem s19_141 : zX d 19 141 [zO o, v1, v2, v3] st A K = zX d 19 142 [zO o, v1, v2, v3] (zO o :: st) A K := zx_aload_n z19 dX0_update_141 rfl rfl
theorem s19_142 (h : tg A a = 1) : zX d 19 142 ls (zO (some a) :: st) A K = zX d 19 145 ls (fd A a 12 :: st) A K := zx_getf z19 zo19 dX0_update_142 F2_53 rfl h
theorem s19_145 : zX d 19 145 [v0, zI x, v2, v3] st A K = zX d 19 146 [v0, zI x, v2, v3] (zI x :: st) A K := zx_iload_n z19 dX0_update_145 rfl rfl
theorem s19_146 (h : zarr (tg A a) = 3) (h0 : 0 ≤ x) (h1 : x.toNat < (ra A a).length) : zX d 19 146 ls (zI x :: zO (some a) :: st) A K = zX d 19 147 ls (zO ((ra A a).getD x.toNat none) :: st) A K := zx_aald z19 dX0_update_146 rfl h h0 h1
theorem s19_147 : zX d 19 147 [v0, v1, zI x, v3] st A K = zX d 19 148 [v0, v1, zI x, v3] (zI x :: st) A K := zx_iload_n z19 dX0_update_147 rfl rfl
theorem s19_148 : zX d 19 148 [zO o, v1, v2, v3] st A K = zX d 19 149 [zO o, v1, v2, v3] (zO o :: st) A K := zx_aload_n z19 dX0_update_148 rfl rfl
theorem s19_149 (h : tg A a = 1) : zX d 19 149 ls (zO (some a) :: st) A K = zX d 19 152 ls (fd A a 10 :: st) A K := zx_getf z19 zo19 dX0_update_149 F2_47 rfl h
theorem s19_152 : zX d 19 152 [v0, zI x, v2, v3] st A K = zX d 19 153 [v0, zI x, v2, v3] (zI x :: st) A K := zx_iload_n z19 dX0_update_152 rfl rfl
theorem s19_153 (h : zarr (tg A a) = 3) (h0 : 0 ≤ x) (h1 : x.toNat < (ra A a).length) : zX d 19 153 ls (zI x :: zO (some a) :: st) A K = zX d 19 154 ls (zO ((ra A a).getD x.toNat none) :: st) A K := zx_aald z19 dX0_update_153 rfl h h0 h1
theorem s19_154 : zX d 19 154 [zO o, v1, v2, v3] st A K = zX d 19 155 [zO o, v1, v2, v3] (zO o :: st) A K := zx_aload_n z19 dX0_update_154 rfl rfl
theorem s19_155 (h : tg A a = 1) : zX d 19 155 ls (zO (some a) :: st) A K = zX d 19 158 ls (fd A a 10 :: st) A K := zx_getf z19 zo19 dX0_update_155 F2_47 rfl h
theorem s19_158 : zX d 19 158 [v0, v1, zI x, v3] st A K = zX d 19 159 [v0, v1, zI x, v3] (zI x :: st) A K := zx_iload_n z19 dX0_update_158 rfl rfl
theorem s19_159 (h : zarr (tg A a) = 3) (h0 : 0 ≤ x) (h1 : x.toNat < (ra A a).length) : zX d 19 159 ls (zI x :: zO (some a) :: st) A K = zX d 19 160 ls (zO ((ra A a).getD x.toNat none) :: st) A K := zx_aald z19 dX0_update_159 rfl h h0 h1
theorem s19_160 : zX (d + 1) 19 160 ls (zO o1 :: zO o0 :: [w0, w1]) A K = zX d 20 0 [zO o0, zO o1, zU, zU, zU, zU] [] A (zK (d + 1) 19 160 163 ls [w0, w1] K) := zx_callS z19 zo19 dX0_update_160 rfl C2_225 rfl rfl zm20 rfl rfl (zwt_le (Nat.le_of_ble_eq_true rfl)) rfl
theorem s19_163 (h : tg A a = 21) (h0 : 0 ≤ x) (h1 : x.toNat < (ia A a).length) : zX d 19 163 ls (zI y :: zI x :: zO (some a) :: st) A K = zX d 19 164 ls st (pI A a ((ia A a).set x.toNat (zhb y))) K := zx_bast z19 dX0_update_163 rfl h h0 h1
theorem s19_163z (h : tg A a = 22) (h2 : y = 0 ∨ y = 1) (h0 : 0 ≤ x) (h1 : x.toNat < (ia A a).length) : zX d 19 163 ls (zI y :: zI x :: zO (some a) :: st) A K = zX d 19 164 ls st (pI A a ((ia A a).set x.toNat y)) K := zx_zast z19 dX0_update_163 rfl h h2 h0 h1
theorem s19_164 : zX d 19 164 [v0, v1, zI x, v3] st A K = zX d 19 167 [v0, v1, zI (zw (x + 1)), v3] st A K := zx_iinc z19 dX0_update_164 rfl rfl rfl
theorem s19_167 : zX d 19 167 ls st A K = zX d 19 133 ls st A K := zx_goto z19 dX0_update_167 rfl
theorem s19_170 : zX d 19 170 [v0, zI x, v2, v3] st A K = zX d 19 173 [v0, zI (zw (x + 1)), v2, v3] st A K := zx_iinc z19 dX0_update_170 rfl rfl rfl
theorem s19_173 : zX d 19 173 ls st A K = zX d 19 123 ls st A K := zx_goto z19 dX0_update_173 rfl
theorem s19_176 : zX d 19 176 [zO o, v1, v2, v3] st A K = zX d 19 177 [zO o, v1, v2, v3] (zO o :: st) A K := zx_aload_n z19 dX0_update_176 rfl rfl
theorem s19_177 : zX d 19 177 [zO o, v1, v2, v3] st A K = zX d 19 178 [zO o, v1, v2, v3] (zO o :: st) A K := zx_aload_n z19 dX0_update_177 rfl rfl
theorem s19_178 (h : tg A a = 1) : zX d 19 178 ls (zO (some a) :: st) A K = zX d 19 181 ls (fd A a 13 :: st) A K := zx_getf z19 zo19 dX0_update_178 F2_56 rfl h
theorem s19_181 (h : tg A a = 1)  : zX (d + 1) 19 181 ls (zO o0 :: zO (some a) :: []) A K = zX d 22 0 [zO (some a), zO o0, zU, zU, zU] [] A (zK (d + 1) 19 181 184 ls [] K) := zx_callV (t := 1) z19 zo19 dX0_update_181 rfl C2_229 rfl rfl zm22 rfl rfl (zwt_le (Nat.le_of_ble_eq_true rfl)) rfl h
theorem s19_184 : zX d 19 184 [zO o, v1, v2, v3] st A K = zX d 19 185 [zO o, v1, v2, v3] (zO o :: st) A K := zx_aload_n z19 dX0_update_184 rfl rfl
theorem s19_185 : zX d 19 185 [zO o, v1, v2, v3] st A K = zX d 19 186 [zO o, v1, v2, v3] (zO o :: st) A K := zx_aload_n z19 dX0_update_185 rfl rfl
theorem s19_186 : zX d 19 186 [zO o, v1, v2, v3] st A K = zX d 19 187 [zO o, v1, v2, v3] (zO o :: st) A K := zx_aload_n z19 dX0_update_186 rfl rfl
theorem s19_187 (h : tg A a = 1) : zX d 19 187 ls (zO (some a) :: st) A K = zX d 19 190 ls (fd A a 13 :: st) A K := zx_getf z19 zo19 dX0_update_187 F2_56 rfl h
theorem s19_190 (h : tg A a = 1)  : zX (d + 1) 19 190 ls (zO o0 :: zO (some a) :: [w0]) A K = zX d 23 0 [zO (some a), zO o0, zU, zU] [] A (zK (d + 1) 19 190 193 ls [w0] K) := zx_callV (t := 1) z19 zo19 dX0_update_190 rfl C2_233 rfl rfl zm23 rfl rfl (zwt_le (Nat.le_of_ble_eq_true rfl)) rfl h
theorem s19_193 (h : tg A a = 1) : zX d 19 193 ls (zI x :: zO (some a) :: st) A K = zX d 19 196 ls st (pF A a 14 (zI x)) K := zx_putf (q := 0) z19 zo19 dX0_update_193 F2_237 rfl rfl rfl h rfl
theorem s19_196 : zX d 19 196 ls [] A K = K (Sum.inl none) A := zx_vret z19 dX0_update_196 rfl
theorem s20_0 : zX d 20 0 [zO o, v1, v2, v3, v4, v5] st A K = zX d 20 1 [zO o, v1, v2, v3, v4, v5] (zO o :: st) A K := zx_aload_n z20 dX0_isEdge_0 rfl rfl
theorem s20_1 (h : tg A a = 7) : zX d 20 1 ls (zO (some a) :: st) A K = zX d 20 4 ls (fd A a 3 :: st) A K := zx_getf z20 zo20 dX0_isEdge_1 F2_207 rfl h
theorem s20_4 : zX d 20 4 [v0, v1, v2, v3, v4, v5] (zO o :: st) A K = zX d 20 5 [v0, v1, zO o, v3, v4, v5] st A K := zx_astore_n z20 dX0_isEdge_4 (Nat.le_of_ble_eq_true rfl) rfl rfl
theorem s20_5 : zX d 20 5 [v0, v1, zO o, v3, v4, v5] st A K = zX d 20 6 [v0, v1, zO o, v3, v4, v5] (zO o :: st) A K := zx_aload_n z20 dX0_isEdge_5 rfl rfl
theorem s20_6 (h : tg A a = 4) : zX d 20 6 ls (zO (some a) :: st) A K = zX d 20 9 ls (fd A a 0 :: st) A K := zx_getf z20 zo20 dX0_isEdge_6 F2_204 rfl h
theorem s20_9 : zX d 20 9 [zO o, v1, v2, v3, v4, v5] st A K = zX d 20 10 [zO o, v1, v2, v3, v4, v5] (zO o :: st) A K := zx_aload_n z20 dX0_isEdge_9 rfl rfl
theorem s20_10 (h : tg A a = 7) : zX d 20 10 ls (zO (some a) :: st) A K = zX d 20 13 ls (fd A a 1 :: st) A K := zx_getf z20 zo20 dX0_isEdge_10 F2_208 rfl h
theorem s20_13 (h : tg A a = 21) (h0 : 0 ≤ x) (h1 : x.toNat < (ia A a).length) : zX d 20 13 ls (zI x :: zO (some a) :: st) A K = zX d 20 14 ls (zI ((ia A a).getD x.toNat 0) :: st) A K := zx_bald z20 dX0_isEdge_13 rfl h h0 h1
theorem s20_13z (h : tg A a = 22) (h0 : 0 ≤ x) (h1 : x.toNat < (ia A a).length) : zX d 20 13 ls (zI x :: zO (some a) :: st) A K = zX d 20 14 ls (zI ((ia A a).getD x.toNat 0) :: st) A K := zx_zald z20 dX0_isEdge_13 rfl h h0 h1
theorem s20_14 : zX d 20 14 [v0, zO o, v2, v3, v4, v5] st A K = zX d 20 15 [v0, zO o, v2, v3, v4, v5] (zO o :: st) A K := zx_aload_n z20 dX0_isEdge_14 rfl rfl
theorem s20_15 (h : tg A a = 7) : zX d 20 15 ls (zO (some a) :: st) A K = zX d 20 18 ls (fd A a 2 :: st) A K := zx_getf z20 zo20 dX0_isEdge_15 F2_209 rfl h
theorem s20_18 (h : tg A a = 4) : zX d 20 18 ls (zO (some a) :: st) A K = zX d 20 21 ls (fd A a 0 :: st) A K := zx_getf z20 zo20 dX0_isEdge_18 F2_204 rfl h
theorem s20_21 : zX d 20 21 ls st A K = zX d 20 22 ls (zI 0 :: st) A K := zx_const z20 dX0_isEdge_21 (by decide) rfl
theorem s20_22 (h : tg A a = 21) (h0 : 0 ≤ x) (h1 : x.toNat < (ia A a).length) : zX d 20 22 ls (zI x :: zO (some a) :: st) A K = zX d 20 23 ls (zI ((ia A a).getD x.toNat 0) :: st) A K := zx_bald z20 dX0_isEdge_22 rfl h h0 h1
theorem s20_22z (h : tg A a = 22) (h0 : 0 ≤ x) (h1 : x.toNat < (ia A a).length) : zX d 20 22 ls (zI x :: zO (some a) :: st) A K = zX d 20 23 ls (zI ((ia A a).getD x.toNat 0) :: st) A K := zx_zald z20 dX0_isEdge_22 rfl h h0 h1
theorem s20_23 : zX d 20 23 ls (zI y :: zI x :: st) A K = (if x ≠ y then zX d 20 30 ls st A K else zX d 20 26 ls st A K) := zx_ic_ne z20 dX0_isEdge_23 rfl rfl
theorem s20_26 : zX d 20 26 ls st A K = zX d 20 27 ls (zI 1 :: st) A K := zx_const z20 dX0_isEdge_26 (by decide) rfl
theorem s20_27 : zX d 20 27 ls st A K = zX d 20 31 ls st A K := zx_goto z20 dX0_isEdge_27 rfl
theorem s20_30 : zX d 20 30 ls st A K = zX d 20 31 ls (zI 0 :: st) A K := zx_const z20 dX0_isEdge_30 (by decide) rfl
theorem s20_31 : zX d 20 31 [v0, v1, v2, v3, v4, v5] (zI x :: st) A K = zX d 20 32 [v0, v1, v2, zI x, v4, v5] st A K := zx_istore_n z20 dX0_isEdge_31 (Nat.le_of_ble_eq_true rfl) rfl rfl
theorem s20_32 : zX d 20 32 ls st A K = zX d 20 33 ls (zI 1 :: st) A K := zx_const z20 dX0_isEdge_32 (by decide) rfl
theorem s20_33 : zX d 20 33 [v0, v1, v2, v3, v4, v5] (zI x :: st) A K = zX d 20 35 [v0, v1, v2, v3, zI x, v5] st A K := zx_istore z20 dX0_isEdge_33 (Nat.le_of_ble_eq_true rfl) rfl rfl
theorem s20_35 : zX d 20 35 [zO o, v1, v2, v3, v4, v5] st A K = zX d 20 36 [zO o, v1, v2, v3, v4, v5] (zO o :: st) A K := zx_aload_n z20 dX0_isEdge_35 rfl rfl
theorem s20_36 (h : tg A a = 7) : zX d 20 36 ls (zO (some a) :: st) A K = zX d 20 39 ls (fd A a 1 :: st) A K := zx_getf z20 zo20 dX0_isEdge_36 F2_208 rfl h
theorem s20_39 : zX d 20 39 ls st A K = zX d 20 40 ls (zI 1 :: st) A K := zx_const z20 dX0_isEdge_39 (by decide) rfl
theorem s20_40 : zX d 20 40 ls (zI y :: zI x :: st) A K = zX d 20 41 ls (zI (zw (x + y)) :: st) A K := zx_iadd z20 dX0_isEdge_40 rfl
theorem s20_41 : zX d 20 41 [v0, v1, v2, v3, v4, v5] (zI x :: st) A K = zX d 20 43 [v0, v1, v2, v3, v4, zI x] st A K := zx_istore z20 dX0_isEdge_41 (Nat.le_of_ble_eq_true rfl) rfl rfl
theorem s20_43 : zX d 20 43 [v0, v1, v2, v3, v4, zI x] st A K = zX d 20 45 [v0, v1, v2, v3, v4, zI x] (zI x :: st) A K := zx_iload z20 dX0_isEdge_43 rfl rfl
theorem s20_45 : zX d 20 45 [v0, v1, zO o, v3, v4, v5] st A K = zX d 20 46 [v0, v1, zO o, v3, v4, v5] (zO o :: st) A K := zx_aload_n z20 dX0_isEdge_45 rfl rfl
theorem s20_46 (h : tg A a = 4) : zX d 20 46 ls (zO (some a) :: st) A K = zX d 20 49 ls (fd A a 1 :: st) A K := zx_getf z20 zo20 dX0_isEdge_46 F2_201 rfl h
theorem s20_49 : zX d 20 49 [zO o, v1, v2, v3, v4, v5] st A K = zX d 20 50 [zO o, v1, v2, v3, v4, v5] (zO o :: st) A K := zx_aload_n z20 dX0_isEdge_49 rfl rfl
theorem s20_50 (h : tg A a = 7) : zX d 20 50 ls (zO (some a) :: st) A K = zX d 20 53 ls (fd A a 1 :: st) A K := zx_getf z20 zo20 dX0_isEdge_50 F2_208 rfl h
theorem s20_53 (h : tg A a = 20) (h0 : 0 ≤ x) (h1 : x.toNat < (ia A a).length) : zX d 20 53 ls (zI x :: zO (some a) :: st) A K = zX d 20 54 ls (zI ((ia A a).getD x.toNat 0) :: st) A K := zx_iald z20 dX0_isEdge_53 rfl h h0 h1
theorem s20_53s (h : tg A a = 30) (h0 : 0 ≤ x) (h1 : x.toNat < (ia A a).length) : zX d 20 53 ls (zI x :: zO (some a) :: st) A K = zX d 20 54 ls (zI ((ia A a).getD x.toNat 0) :: st) A K := zx_sald z20 dX0_isEdge_53 rfl h h0 h1
theorem s20_54 : zX d 20 54 ls (zI y :: zI x :: st) A K = (if y ≤ x then zX d 20 98 ls st A K else zX d 20 57 ls st A K) := zx_ic_ge z20 dX0_isEdge_54 rfl rfl
theorem s20_57 : zX d 20 57 [v0, v1, v2, zI x, v4, v5] st A K = zX d 20 58 [v0, v1, v2, zI x, v4, v5] (zI x :: st) A K := zx_iload_n z20 dX0_isEdge_57 rfl rfl
theorem s20_58 : zX d 20 58 ls (zI x :: st) A K = (if x = 0 then zX d 20 98 ls st A K else zX d 20 61 ls st A K) := zx_if_eq z20 dX0_isEdge_58 rfl rfl
theorem s20_61 : zX d 20 61 [v0, v1, zO o, v3, v4, v5] st A K = zX d 20 62 [v0, v1, zO o, v3, v4, v5] (zO o :: st) A K := zx_aload_n z20 dX0_isEdge_61 rfl rfl
theorem s20_62 : zX d 20 62 [v0, v1, v2, v3, v4, zI x] st A K = zX d 20 64 [v0, v1, v2, v3, v4, zI x] (zI x :: st) A K := zx_iload z20 dX0_isEdge_62 rfl rfl
theorem s20_64 : zX d 20 64 [v0, zO o, v2, v3, v4, v5] st A K = zX d 20 65 [v0, zO o, v2, v3, v4, v5] (zO o :: st) A K := zx_aload_n z20 dX0_isEdge_64 rfl rfl
theorem s20_65 (h : tg A a = 7) : zX d 20 65 ls (zO (some a) :: st) A K = zX d 20 68 ls (fd A a 2 :: st) A K := zx_getf z20 zo20 dX0_isEdge_65 F2_209 rfl h
theorem s20_68 : zX d 20 68 [v0, v1, v2, v3, zI x, v5] st A K = zX d 20 70 [v0, v1, v2, v3, zI x, v5] (zI x :: st) A K := zx_iload z20 dX0_isEdge_68 rfl rfl
theorem s20_70 : zX (d + 1) 20 70 ls (zI i3 :: zO o2 :: zI i1 :: zO o0 :: []) A K = zX d 21 0 [zO o0, zI i1, zO o2, zI i3, zU, zU, zU] [] A (zK (d + 1) 20 70 73 ls [] K) := zx_callS z20 zo20 dX0_isEdge_70 rfl C2_212 rfl rfl zm21 rfl rfl (zwt_le (Nat.le_of_ble_eq_true rfl)) rfl
theorem s20_73 : zX d 20 73 [v0, v1, v2, v3, v4, v5] (zI x :: st) A K = zX d 20 74 [v0, v1, v2, zI x, v4, v5] st A K := zx_istore_n z20 dX0_isEdge_73 (Nat.le_of_ble_eq_true rfl) rfl rfl
theorem s20_74 : zX d 20 74 [v0, zO o, v2, v3, v4, v5] st A K = zX d 20 75 [v0, zO o, v2, v3, v4, v5] (zO o :: st) A K := zx_aload_n z20 dX0_isEdge_74 rfl rfl
theorem s20_75 (h : tg A a = 7) : zX d 20 75 ls (zO (some a) :: st) A K = zX d 20 78 ls (fd A a 2 :: st) A K := zx_getf z20 zo20 dX0_isEdge_75 F2_209 rfl h
theorem s20_78 (h : tg A a = 4) : zX d 20 78 ls (zO (some a) :: st) A K = zX d 20 81 ls (fd A a 1 :: st) A K := zx_getf z20 zo20 dX0_isEdge_78 F2_201 rfl h
theorem s20_81 : zX d 20 81 [v0, v1, v2, v3, zI x, v5] st A K = zX d 20 83 [v0, v1, v2, v3, zI x, v5] (zI x :: st) A K := zx_iload z20 dX0_isEdge_81 rfl rfl
theorem s20_83 (h : tg A a = 20) (h0 : 0 ≤ x) (h1 : x.toNat < (ia A a).length) : zX d 20 83 ls (zI x :: zO (some a) :: st) A K = zX d 20 84 ls (zI ((ia A a).getD x.toNat 0) :: st) A K := zx_iald z20 dX0_isEdge_83 rfl h h0 h1
theorem s20_83s (h : tg A a = 30) (h0 : 0 ≤ x) (h1 : x.toNat < (ia A a).length) : zX d 20 83 ls (zI x :: zO (some a) :: st) A K = zX d 20 84 ls (zI ((ia A a).getD x.toNat 0) :: st) A K := zx_sald z20 dX0_isEdge_83 rfl h h0 h1
theorem s20_84 : zX d 20 84 [v0, v1, v2, v3, v4, v5] (zI x :: st) A K = zX d 20 86 [v0, v1, v2, v3, zI x, v5] st A K := zx_istore z20 dX0_isEdge_84 (Nat.le_of_ble_eq_true rfl) rfl rfl
theorem s20_86 : zX d 20 86 [v0, v1, zO o, v3, v4, v5] st A K = zX d 20 87 [v0, v1, zO o, v3, v4, v5] (zO o :: st) A K := zx_aload_n z20 dX0_isEdge_86 rfl rfl
theorem s20_87 (h : tg A a = 4) : zX d 20 87 ls (zO (some a) :: st) A K = zX d 20 90 ls (fd A a 1 :: st) A K := zx_getf z20 zo20 dX0_isEdge_87 F2_201 rfl h
theorem s20_90 : zX d 20 90 [v0, v1, v2, v3, v4, zI x] st A K = zX d 20 92 [v0, v1, v2, v3, v4, zI x] (zI x :: st) A K := zx_iload z20 dX0_isEdge_90 rfl rfl
theorem s20_92 (h : tg A a = 20) (h0 : 0 ≤ x) (h1 : x.toNat < (ia A a).length) : zX d 20 92 ls (zI x :: zO (some a) :: st) A K = zX d 20 93 ls (zI ((ia A a).getD x.toNat 0) :: st) A K := zx_iald z20 dX0_isEdge_92 rfl h h0 h1
theorem s20_92s (h : tg A a = 30) (h0 : 0 ≤ x) (h1 : x.toNat < (ia A a).length) : zX d 20 92 ls (zI x :: zO (some a) :: st) A K = zX d 20 93 ls (zI ((ia A a).getD x.toNat 0) :: st) A K := zx_sald z20 dX0_isEdge_92 rfl h h0 h1
theorem s20_93 : zX d 20 93 [v0, v1, v2, v3, v4, v5] (zI x :: st) A K = zX d 20 95 [v0, v1, v2, v3, v4, zI x] st A K := zx_istore z20 dX0_isEdge_93 (Nat.le_of_ble_eq_true rfl) rfl rfl
theorem s20_95 : zX d 20 95 ls st A K = zX d 20 43 ls st A K := zx_goto z20 dX0_isEdge_95 rfl
theorem s20_98 : zX d 20 98 [v0, v1, v2, zI x, v4, v5] st A K = zX d 20 99 [v0, v1, v2, zI x, v4, v5] (zI x :: st) A K := zx_iload_n z20 dX0_isEdge_98 rfl rfl
theorem s20_99 (h : x = 0 ∨ x = 1) : zX d 20 99 ls [zI x] A K = K (Sum.inl (some (zI x))) A := zx_iret z20 dX0_isEdge_99 zk20 (by rcases h with q | q <;> subst q <;> rfl)
theorem s21_0 : zX d 21 0 [v0, zI x, v2, v3, v4, v5, v6] st A K = zX d 21 1 [v0, zI x, v2, v3, v4, v5, v6] (zI x :: st) A K := zx_iload_n z21 dX0_isCompatible_0 rfl rfl
theorem s21_1 : zX d 21 1 [v0, v1, v2, v3, v4, v5, v6] (zI x :: st) A K = zX d 21 3 [v0, v1, v2, v3, zI x, v5, v6] st A K := zx_istore z21 dX0_isCompatible_1 (Nat.le_of_ble_eq_true rfl) rfl rfl
theorem s21_3 : zX d 21 3 [v0, v1, v2, zI x, v4, v5, v6] st A K = zX d 21 4 [v0, v1, v2, zI x, v4, v5, v6] (zI x :: st) A K := zx_iload_n z21 dX0_isCompatible_3 rfl rfl
theorem s21_4 : zX d 21 4 [v0, v1, v2, v3, v4, v5, v6] (zI x :: st) A K = zX d 21 6 [v0, v1, v2, v3, v4, zI x, v6] st A K := zx_istore z21 dX0_isCompatible_4 (Nat.le_of_ble_eq_true rfl) rfl rfl
theorem s21_6 : zX d 21 6 ls st A K = zX d 21 7 ls (zI 1 :: st) A K := zx_const z21 dX0_isCompatible_6 (by decide) rfl
theorem s21_7 : zX d 21 7 [v0, v1, v2, v3, v4, v5, v6] (zI x :: st) A K = zX d 21 9 [v0, v1, v2, v3, v4, v5, zI x] st A K := zx_istore z21 dX0_isCompatible_7 (Nat.le_of_ble_eq_true rfl) rfl rfl
theorem s21_9 : zX d 21 9 [v0, v1, v2, v3, v4, v5, zI x] st A K = zX d 21 11 [v0, v1, v2, v3, v4, v5, zI x] (zI x :: st) A K := zx_iload z21 dX0_isCompatible_9 rfl rfl
theorem s21_11 : zX d 21 11 ls (zI x :: st) A K = (if x = 0 then zX d 21 106 ls st A K else zX d 21 14 ls st A K) := zx_if_eq z21 dX0_isCompatible_11 rfl rfl
theorem s21_14 : zX d 21 14 [v0, v1, v2, v3, zI x, v5, v6] st A K = zX d 21 16 [v0, v1, v2, v3, zI x, v5, v6] (zI x :: st) A K := zx_iload z21 dX0_isCompatible_14 rfl rfl
theorem s21_16 : zX d 21 16 [zO o, v1, v2, v3, v4, v5, v6] st A K = zX d 21 17 [zO o, v1, v2, v3, v4, v5, v6] (zO o :: st) A K := zx_aload_n z21 dX0_isCompatible_16 rfl rfl
theorem s21_17 (h : tg A a = 4) : zX d 21 17 ls (zO (some a) :: st) A K = zX d 21 20 ls (fd A a 1 :: st) A K := zx_getf z21 zo21 dX0_isCompatible_17 F2_201 rfl h
theorem s21_20 : zX d 21 20 [v0, zI x, v2, v3, v4, v5, v6] st A K = zX d 21 21 [v0, zI x, v2, v3, v4, v5, v6] (zI x :: st) A K := zx_iload_n z21 dX0_isCompatible_20 rfl rfl
theorem s21_21 (h : tg A a = 20) (h0 : 0 ≤ x) (h1 : x.toNat < (ia A a).length) : zX d 21 21 ls (zI x :: zO (some a) :: st) A K = zX d 21 22 ls (zI ((ia A a).getD x.toNat 0) :: st) A K := zx_iald z21 dX0_isCompatible_21 rfl h h0 h1
theorem s21_21s (h : tg A a = 30) (h0 : 0 ≤ x) (h1 : x.toNat < (ia A a).length) : zX d 21 21 ls (zI x :: zO (some a) :: st) A K = zX d 21 22 ls (zI ((ia A a).getD x.toNat 0) :: st) A K := zx_sald z21 dX0_isCompatible_21 rfl h h0 h1
theorem s21_22 : zX d 21 22 ls (zI y :: zI x :: st) A K = (if y ≤ x then zX d 21 106 ls st A K else zX d 21 25 ls st A K) := zx_ic_ge z21 dX0_isCompatible_22 rfl rfl
theorem s21_25 : zX d 21 25 [zO o, v1, v2, v3, v4, v5, v6] st A K = zX d 21 26 [zO o, v1, v2, v3, v4, v5, v6] (zO o :: st) A K := zx_aload_n z21 dX0_isCompatible_25 rfl rfl
theorem s21_26 : zX d 21 26 [v0, v1, v2, v3, zI x, v5, v6] st A K = zX d 21 28 [v0, v1, v2, v3, zI x, v5, v6] (zI x :: st) A K := zx_iload z21 dX0_isCompatible_26 rfl rfl
theorem s21_28 (h : tg A a = 4)  : zX (d + 1) 21 28 ls (zI i0 :: zO (some a) :: []) A K = zX d 110 0 [zO (some a), zI i0] [] A (zK (d + 1) 21 28 31 ls [] K) := zx_callV (t := 4) z21 zo21 dX0_isCompatible_28 rfl C2_169 rfl rfl zm110 rfl rfl (zwt_le (Nat.le_of_ble_eq_true rfl)) rfl h
theorem s21_31 : zX d 21 31 ls (zI x :: st) A K = (if x ≠ 0 then zX d 21 52 ls st A K else zX d 21 34 ls st A K) := zx_if_ne z21 dX0_isCompatible_31 rfl rfl
theorem s21_34 : zX d 21 34 [v0, v1, zO o, v3, v4, v5, v6] st A K = zX d 21 35 [v0, v1, zO o, v3, v4, v5, v6] (zO o :: st) A K := zx_aload_n z21 dX0_isCompatible_34 rfl rfl
theorem s21_35 : zX d 21 35 [v0, v1, v2, v3, v4, zI x, v6] st A K = zX d 21 37 [v0, v1, v2, v3, v4, zI x, v6] (zI x :: st) A K := zx_iload z21 dX0_isCompatible_35 rfl rfl
theorem s21_37 (h : tg A a = 4)  : zX (d + 1) 21 37 ls (zI i0 :: zO (some a) :: []) A K = zX d 110 0 [zO (some a), zI i0] [] A (zK (d + 1) 21 37 40 ls [] K) := zx_callV (t := 4) z21 zo21 dX0_isCompatible_37 rfl C2_169 rfl rfl zm110 rfl rfl (zwt_le (Nat.le_of_ble_eq_true rfl)) rfl h
theorem s21_40 : zX d 21 40 ls (zI x :: st) A K = (if x ≠ 0 then zX d 21 52 ls st A K else zX d 21 43 ls st A K) := zx_if_ne z21 dX0_isCompatible_40 rfl rfl
theorem s21_43 : zX d 21 43 [zO o, v1, v2, v3, v4, v5, v6] st A K = zX d 21 44 [zO o, v1, v2, v3, v4, v5, v6] (zO o :: st) A K := zx_aload_n z21 dX0_isCompatible_43 rfl rfl
theorem s21_44 : zX d 21 44 [v0, v1, v2, v3, zI x, v5, v6] st A K = zX d 21 46 [v0, v1, v2, v3, zI x, v5, v6] (zI x :: st) A K := zx_iload z21 dX0_isCompatible_44 rfl rfl
theorem s21_46 (h : tg A a = 4)  : zX (d + 1) 21 46 ls (zI i0 :: zO (some a) :: []) A K = zX d 109 0 [zO (some a), zI i0] [] A (zK (d + 1) 21 46 49 ls [] K) := zx_callV (t := 4) z21 zo21 dX0_isCompatible_46 rfl C2_164 rfl rfl zm109 rfl rfl (zwt_le (Nat.le_of_ble_eq_true rfl)) rfl h
theorem s21_49 : zX d 21 49 ls (zI x :: st) A K = (if x = 0 then zX d 21 73 ls st A K else zX d 21 52 ls st A K) := zx_if_eq z21 dX0_isCompatible_49 rfl rfl
theorem s21_52 : zX d 21 52 [zO o, v1, v2, v3, v4, v5, v6] st A K = zX d 21 53 [zO o, v1, v2, v3, v4, v5, v6] (zO o :: st) A K := zx_aload_n z21 dX0_isCompatible_52 rfl rfl
theorem s21_53 (h : tg A a = 4) : zX d 21 53 ls (zO (some a) :: st) A K = zX d 21 56 ls (fd A a 1 :: st) A K := zx_getf z21 zo21 dX0_isCompatible_53 F2_201 rfl h
theorem s21_56 : zX d 21 56 [v0, v1, v2, v3, zI x, v5, v6] st A K = zX d 21 58 [v0, v1, v2, v3, zI x, v5, v6] (zI x :: st) A K := zx_iload z21 dX0_isCompatible_56 rfl rfl
theorem s21_58 (h : tg A a = 20) (h0 : 0 ≤ x) (h1 : x.toNat < (ia A a).length) : zX d 21 58 ls (zI x :: zO (some a) :: st) A K = zX d 21 59 ls (zI ((ia A a).getD x.toNat 0) :: st) A K := zx_iald z21 dX0_isCompatible_58 rfl h h0 h1
theorem s21_58s (h : tg A a = 30) (h0 : 0 ≤ x) (h1 : x.toNat < (ia A a).length) : zX d 21 58 ls (zI x :: zO (some a) :: st) A K = zX d 21 59 ls (zI ((ia A a).getD x.toNat 0) :: st) A K := zx_sald z21 dX0_isCompatible_58 rfl h h0 h1
theorem s21_59 : zX d 21 59 [v0, v1, v2, v3, v4, v5, v6] (zI x :: st) A K = zX d 21 61 [v0, v1, v2, v3, zI x, v5, v6] st A K := zx_istore z21 dX0_isCompatible_59 (Nat.le_of_ble_eq_true rfl) rfl rfl
theorem s21_61 : zX d 21 61 [v0, v1, zO o, v3, v4, v5, v6] st A K = zX d 21 62 [v0, v1, zO o, v3, v4, v5, v6] (zO o :: st) A K := zx_aload_n z21 dX0_isCompatible_61 rfl rfl
theorem s21_62 (h : tg A a = 4) : zX d 21 62 ls (zO (some a) :: st) A K = zX d 21 65 ls (fd A a 1 :: st) A K := zx_getf z21 zo21 dX0_isCompatible_62 F2_201 rfl h
theorem s21_65 : zX d 21 65 [v0, v1, v2, v3, v4, zI x, v6] st A K = zX d 21 67 [v0, v1, v2, v3, v4, zI x, v6] (zI x :: st) A K := zx_iload z21 dX0_isCompatible_65 rfl rfl
theorem s21_67 (h : tg A a = 20) (h0 : 0 ≤ x) (h1 : x.toNat < (ia A a).length) : zX d 21 67 ls (zI x :: zO (some a) :: st) A K = zX d 21 68 ls (zI ((ia A a).getD x.toNat 0) :: st) A K := zx_iald z21 dX0_isCompatible_67 rfl h h0 h1
theorem s21_67s (h : tg A a = 30) (h0 : 0 ≤ x) (h1 : x.toNat < (ia A a).length) : zX d 21 67 ls (zI x :: zO (some a) :: st) A K = zX d 21 68 ls (zI ((ia A a).getD x.toNat 0) :: st) A K := zx_sald z21 dX0_isCompatible_67 rfl h h0 h1
theorem s21_68 : zX d 21 68 [v0, v1, v2, v3, v4, v5, v6] (zI x :: st) A K = zX d 21 70 [v0, v1, v2, v3, v4, zI x, v6] st A K := zx_istore z21 dX0_isCompatible_68 (Nat.le_of_ble_eq_true rfl) rfl rfl
theorem s21_70 : zX d 21 70 ls st A K = zX d 21 9 ls st A K := zx_goto z21 dX0_isCompatible_70 rfl
theorem s21_73 : zX d 21 73 [zO o, v1, v2, v3, v4, v5, v6] st A K = zX d 21 74 [zO o, v1, v2, v3, v4, v5, v6] (zO o :: st) A K := zx_aload_n z21 dX0_isCompatible_73 rfl rfl
theorem s21_74 (h : tg A a = 4) : zX d 21 74 ls (zO (some a) :: st) A K = zX d 21 77 ls (fd A a 0 :: st) A K := zx_getf z21 zo21 dX0_isCompatible_74 F2_204 rfl h
theorem s21_77 : zX d 21 77 [v0, v1, v2, v3, zI x, v5, v6] st A K = zX d 21 79 [v0, v1, v2, v3, zI x, v5, v6] (zI x :: st) A K := zx_iload z21 dX0_isCompatible_77 rfl rfl
theorem s21_79 (h : tg A a = 21) (h0 : 0 ≤ x) (h1 : x.toNat < (ia A a).length) : zX d 21 79 ls (zI x :: zO (some a) :: st) A K = zX d 21 80 ls (zI ((ia A a).getD x.toNat 0) :: st) A K := zx_bald z21 dX0_isCompatible_79 rfl h h0 h1
theorem s21_79z (h : tg A a = 22) (h0 : 0 ≤ x) (h1 : x.toNat < (ia A a).length) : zX d 21 79 ls (zI x :: zO (some a) :: st) A K = zX d 21 80 ls (zI ((ia A a).getD x.toNat 0) :: st) A K := zx_zald z21 dX0_isCompatible_79 rfl h h0 h1
theorem s21_80 : zX d 21 80 [v0, v1, zO o, v3, v4, v5, v6] st A K = zX d 21 81 [v0, v1, zO o, v3, v4, v5, v6] (zO o :: st) A K := zx_aload_n z21 dX0_isCompatible_80 rfl rfl
theorem s21_81 (h : tg A a = 4) : zX d 21 81 ls (zO (some a) :: st) A K = zX d 21 84 ls (fd A a 0 :: st) A K := zx_getf z21 zo21 dX0_isCompatible_81 F2_204 rfl h
theorem s21_84 : zX d 21 84 [v0, v1, v2, v3, v4, zI x, v6] st A K = zX d 21 86 [v0, v1, v2, v3, v4, zI x, v6] (zI x :: st) A K := zx_iload z21 dX0_isCompatible_84 rfl rfl
theorem s21_86 (h : tg A a = 21) (h0 : 0 ≤ x) (h1 : x.toNat < (ia A a).length) : zX d 21 86 ls (zI x :: zO (some a) :: st) A K = zX d 21 87 ls (zI ((ia A a).getD x.toNat 0) :: st) A K := zx_bald z21 dX0_isCompatible_86 rfl h h0 h1
theorem s21_86z (h : tg A a = 22) (h0 : 0 ≤ x) (h1 : x.toNat < (ia A a).length) : zX d 21 86 ls (zI x :: zO (some a) :: st) A K = zX d 21 87 ls (zI ((ia A a).getD x.toNat 0) :: st) A K := zx_zald z21 dX0_isCompatible_86 rfl h h0 h1
theorem s21_87 : zX d 21 87 ls (zI y :: zI x :: st) A K = (if x ≠ y then zX d 21 94 ls st A K else zX d 21 90 ls st A K) := zx_ic_ne z21 dX0_isCompatible_87 rfl rfl
theorem s21_90 : zX d 21 90 ls st A K = zX d 21 91 ls (zI 1 :: st) A K := zx_const z21 dX0_isCompatible_90 (by decide) rfl
theorem s21_91 : zX d 21 91 ls st A K = zX d 21 95 ls st A K := zx_goto z21 dX0_isCompatible_91 rfl
theorem s21_94 : zX d 21 94 ls st A K = zX d 21 95 ls (zI 0 :: st) A K := zx_const z21 dX0_isCompatible_94 (by decide) rfl
theorem s21_95 : zX d 21 95 [v0, v1, v2, v3, v4, v5, v6] (zI x :: st) A K = zX d 21 97 [v0, v1, v2, v3, v4, v5, zI x] st A K := zx_istore z21 dX0_isCompatible_95 (Nat.le_of_ble_eq_true rfl) rfl rfl
theorem s21_97 : zX d 21 97 [v0, v1, v2, v3, zI x, v5, v6] st A K = zX d 21 100 [v0, v1, v2, v3, zI (zw (x + 1)), v5, v6] st A K := zx_iinc z21 dX0_isCompatible_97 rfl rfl rfl
theorem s21_100 : zX d 21 100 [v0, v1, v2, v3, v4, zI x, v6] st A K = zX d 21 103 [v0, v1, v2, v3, v4, zI (zw (x + 1)), v6] st A K := zx_iinc z21 dX0_isCompatible_100 rfl rfl rfl
theorem s21_103 : zX d 21 103 ls st A K = zX d 21 9 ls st A K := zx_goto z21 dX0_isCompatible_103 rfl
theorem s21_106 : zX d 21 106 [v0, v1, v2, v3, v4, v5, zI x] st A K = zX d 21 108 [v0, v1, v2, v3, v4, v5, zI x] (zI x :: st) A K := zx_iload z21 dX0_isCompatible_106 rfl rfl
theorem s21_108 (h : x = 0 ∨ x = 1) : zX d 21 108 ls [zI x] A K = K (Sum.inl (some (zI x))) A := zx_iret z21 dX0_isCompatible_108 zk21 (by rcases h with q | q <;> subst q <;> rfl)
theorem s22_0 : zX d 22 0 ls st A K = zX d 22 1 ls (zI 0 :: st) A K := zx_const z22 dX0_findComponents_0 (by decide) rfl
theorem s22_1 : zX d 22 1 [v0, v1, v2, v3, v4] (zI x :: st) A K = zX d 22 2 [v0, v1, zI x, v3, v4] st A K := zx_istore_n z22 dX0_findComponents_1 (Nat.le_of_ble_eq_true rfl) rfl rfl
theorem s22_2 : zX d 22 2 [v0, v1, zI x, v3, v4] st A K = zX d 22 3 [v0, v1, zI x, v3, v4] (zI x :: st) A K := zx_iload_n z22 dX0_findComponents_2 rfl rfl
theorem s22_3 : zX d 22 3 [zO o, v1, v2, v3, v4] st A K = zX d 22 4 [zO o, v1, v2, v3, v4] (zO o :: st) A K := zx_aload_n z22 dX0_findComponents_3 rfl rfl
theorem s22_4 (h : tg A a = 1) : zX d 22 4 ls (zO (some a) :: st) A K = zX d 22 7 ls (fd A a 11 :: st) A K := zx_getf z22 zo22 dX0_findComponents_4 F2_219 rfl h
theorem s22_7 : zX d 22 7 ls (zI y :: zI x :: st) A K = (if y ≤ x then zX d 22 74 ls st A K else zX d 22 10 ls st A K) := zx_ic_ge z22 dX0_findComponents_7 rfl rfl
theorem s22_10 : zX d 22 10 ls st A K = zX d 22 11 ls (zI 0 :: st) A K := zx_const z22 dX0_findComponents_10 (by decide) rfl
theorem s22_11 : zX d 22 11 [v0, v1, v2, v3, v4] (zI x :: st) A K = zX d 22 12 [v0, v1, v2, zI x, v4] st A K := zx_istore_n z22 dX0_findComponents_11 (Nat.le_of_ble_eq_true rfl) rfl rfl
theorem s22_12 : zX d 22 12 [v0, v1, v2, zI x, v4] st A K = zX d 22 13 [v0, v1, v2, zI x, v4] (zI x :: st) A K := zx_iload_n z22 dX0_findComponents_12 rfl rfl
theorem s22_13 : zX d 22 13 [zO o, v1, v2, v3, v4] st A K = zX d 22 14 [zO o, v1, v2, v3, v4] (zO o :: st) A K := zx_aload_n z22 dX0_findComponents_13 rfl rfl
theorem s22_14 (h : tg A a = 1) : zX d 22 14 ls (zO (some a) :: st) A K = zX d 22 17 ls (fd A a 11 :: st) A K := zx_getf z22 zo22 dX0_findComponents_14 F2_219 rfl h
theorem s22_17 : zX d 22 17 ls (zI y :: zI x :: st) A K = (if y ≤ x then zX d 22 68 ls st A K else zX d 22 20 ls st A K) := zx_ic_ge z22 dX0_findComponents_17 rfl rfl
theorem s22_20 : zX d 22 20 [zO o, v1, v2, v3, v4] st A K = zX d 22 21 [zO o, v1, v2, v3, v4] (zO o :: st) A K := zx_aload_n z22 dX0_findComponents_20 rfl rfl
theorem s22_21 (h : tg A a = 1) : zX d 22 21 ls (zO (some a) :: st) A K = zX d 22 24 ls (fd A a 16 :: st) A K := zx_getf z22 zo22 dX0_findComponents_21 F2_63 rfl h
theorem s22_24 : zX d 22 24 [v0, v1, zI x, v3, v4] st A K = zX d 22 25 [v0, v1, zI x, v3, v4] (zI x :: st) A K := zx_iload_n z22 dX0_findComponents_24 rfl rfl
theorem s22_25 (h : zarr (tg A a) = 3) (h0 : 0 ≤ x) (h1 : x.toNat < (ra A a).length) : zX d 22 25 ls (zI x :: zO (some a) :: st) A K = zX d 22 26 ls (zO ((ra A a).getD x.toNat none) :: st) A K := zx_aald z22 dX0_findComponents_25 rfl h h0 h1
theorem s22_26 : zX d 22 26 [v0, v1, v2, zI x, v4] st A K = zX d 22 27 [v0, v1, v2, zI x, v4] (zI x :: st) A K := zx_iload_n z22 dX0_findComponents_26 rfl rfl
theorem s22_27 : zX d 22 27 [zO o, v1, v2, v3, v4] st A K = zX d 22 28 [zO o, v1, v2, v3, v4] (zO o :: st) A K := zx_aload_n z22 dX0_findComponents_27 rfl rfl
theorem s22_28 (h : tg A a = 1) : zX d 22 28 ls (zO (some a) :: st) A K = zX d 22 31 ls (fd A a 15 :: st) A K := zx_getf z22 zo22 dX0_findComponents_28 F2_59 rfl h
theorem s22_31 : zX d 22 31 [v0, v1, zI x, v3, v4] st A K = zX d 22 32 [v0, v1, zI x, v3, v4] (zI x :: st) A K := zx_iload_n z22 dX0_findComponents_31 rfl rfl
theorem s22_32 (h : tg A a = 21) (h0 : 0 ≤ x) (h1 : x.toNat < (ia A a).length) : zX d 22 32 ls (zI x :: zO (some a) :: st) A K = zX d 22 33 ls (zI ((ia A a).getD x.toNat 0) :: st) A K := zx_bald z22 dX0_findComponents_32 rfl h h0 h1
theorem s22_32z (h : tg A a = 22) (h0 : 0 ≤ x) (h1 : x.toNat < (ia A a).length) : zX d 22 32 ls (zI x :: zO (some a) :: st) A K = zX d 22 33 ls (zI ((ia A a).getD x.toNat 0) :: st) A K := zx_zald z22 dX0_findComponents_32 rfl h h0 h1
theorem s22_33 : zX d 22 33 ls (zI x :: st) A K = (if x = 0 then zX d 22 60 ls st A K else zX d 22 36 ls st A K) := zx_if_eq z22 dX0_findComponents_33 rfl rfl
theorem s22_36 : zX d 22 36 [zO o, v1, v2, v3, v4] st A K = zX d 22 37 [zO o, v1, v2, v3, v4] (zO o :: st) A K := zx_aload_n z22 dX0_findComponents_36 rfl rfl
theorem s22_37 (h : tg A a = 1) : zX d 22 37 ls (zO (some a) :: st) A K = zX d 22 40 ls (fd A a 15 :: st) A K := zx_getf z22 zo22 dX0_findComponents_37 F2_59 rfl h
theorem s22_40 : zX d 22 40 [v0, v1, v2, zI x, v4] st A K = zX d 22 41 [v0, v1, v2, zI x, v4] (zI x :: st) A K := zx_iload_n z22 dX0_findComponents_40 rfl rfl
theorem s22_41 (h : tg A a = 21) (h0 : 0 ≤ x) (h1 : x.toNat < (ia A a).length) : zX d 22 41 ls (zI x :: zO (some a) :: st) A K = zX d 22 42 ls (zI ((ia A a).getD x.toNat 0) :: st) A K := zx_bald z22 dX0_findComponents_41 rfl h h0 h1
theorem s22_41z (h : tg A a = 22) (h0 : 0 ≤ x) (h1 : x.toNat < (ia A a).length) : zX d 22 41 ls (zI x :: zO (some a) :: st) A K = zX d 22 42 ls (zI ((ia A a).getD x.toNat 0) :: st) A K := zx_zald z22 dX0_findComponents_41 rfl h h0 h1
theorem s22_42 : zX d 22 42 ls (zI x :: st) A K = (if x = 0 then zX d 22 60 ls st A K else zX d 22 45 ls st A K) := zx_if_eq z22 dX0_findComponents_42 rfl rfl
theorem s22_45 : zX d 22 45 [zO o, v1, v2, v3, v4] st A K = zX d 22 46 [zO o, v1, v2, v3, v4] (zO o :: st) A K := zx_aload_n z22 dX0_findComponents_45 rfl rfl
theorem s22_46 (h : tg A a = 1) : zX d 22 46 ls (zO (some a) :: st) A K = zX d 22 49 ls (fd A a 12 :: st) A K := zx_getf z22 zo22 dX0_findComponents_46 F2_53 rfl h
theorem s22_49 : zX d 22 49 [v0, v1, zI x, v3, v4] st A K = zX d 22 50 [v0, v1, zI x, v3, v4] (zI x :: st) A K := zx_iload_n z22 dX0_findComponents_49 rfl rfl
theorem s22_50 (h : zarr (tg A a) = 3) (h0 : 0 ≤ x) (h1 : x.toNat < (ra A a).length) : zX d 22 50 ls (zI x :: zO (some a) :: st) A K = zX d 22 51 ls (zO ((ra A a).getD x.toNat none) :: st) A K := zx_aald z22 dX0_findComponents_50 rfl h h0 h1
theorem s22_51 : zX d 22 51 [v0, v1, v2, zI x, v4] st A K = zX d 22 52 [v0, v1, v2, zI x, v4] (zI x :: st) A K := zx_iload_n z22 dX0_findComponents_51 rfl rfl
theorem s22_52 (h : tg A a = 21) (h0 : 0 ≤ x) (h1 : x.toNat < (ia A a).length) : zX d 22 52 ls (zI x :: zO (some a) :: st) A K = zX d 22 53 ls (zI ((ia A a).getD x.toNat 0) :: st) A K := zx_bald z22 dX0_findComponents_52 rfl h h0 h1
theorem s22_52z (h : tg A a = 22) (h0 : 0 ≤ x) (h1 : x.toNat < (ia A a).length) : zX d 22 52 ls (zI x :: zO (some a) :: st) A K = zX d 22 53 ls (zI ((ia A a).getD x.toNat 0) :: st) A K := zx_zald z22 dX0_findComponents_52 rfl h h0 h1
theorem s22_53 : zX d 22 53 ls (zI x :: st) A K = (if x = 0 then zX d 22 60 ls st A K else zX d 22 56 ls st A K) := zx_if_eq z22 dX0_findComponents_53 rfl rfl
theorem s22_56 : zX d 22 56 ls st A K = zX d 22 57 ls (zI 1 :: st) A K := zx_const z22 dX0_findComponents_56 (by decide) rfl
theorem s22_57 : zX d 22 57 ls st A K = zX d 22 61 ls st A K := zx_goto z22 dX0_findComponents_57 rfl
theorem s22_60 : zX d 22 60 ls st A K = zX d 22 61 ls (zI 0 :: st) A K := zx_const z22 dX0_findComponents_60 (by decide) rfl
theorem s22_61 (h : tg A a = 21) (h0 : 0 ≤ x) (h1 : x.toNat < (ia A a).length) : zX d 22 61 ls (zI y :: zI x :: zO (some a) :: st) A K = zX d 22 62 ls st (pI A a ((ia A a).set x.toNat (zhb y))) K := zx_bast z22 dX0_findComponents_61 rfl h h0 h1
theorem s22_61z (h : tg A a = 22) (h2 : y = 0 ∨ y = 1) (h0 : 0 ≤ x) (h1 : x.toNat < (ia A a).length) : zX d 22 61 ls (zI y :: zI x :: zO (some a) :: st) A K = zX d 22 62 ls st (pI A a ((ia A a).set x.toNat y)) K := zx_zast z22 dX0_findComponents_61 rfl h h2 h0 h1
theorem s22_62 : zX d 22 62 [v0, v1, v2, zI x, v4] st A K = zX d 22 65 [v0, v1, v2, zI (zw (x + 1)), v4] st A K := zx_iinc z22 dX0_findComponents_62 rfl rfl rfl
theorem s22_65 : zX d 22 65 ls st A K = zX d 22 12 ls st A K := zx_goto z22 dX0_findComponents_65 rfl
theorem s22_68 : zX d 22 68 [v0, v1, zI x, v3, v4] st A K = zX d 22 71 [v0, v1, zI (zw (x + 1)), v3, v4] st A K := zx_iinc z22 dX0_findComponents_68 rfl rfl rfl
theorem s22_71 : zX d 22 71 ls st A K = zX d 22 2 ls st A K := zx_goto z22 dX0_findComponents_71 rfl
theorem s22_74 : zX d 22 74 ls st A K = zX d 22 75 ls (zI 0 :: st) A K := zx_const z22 dX0_findComponents_74 (by decide) rfl
theorem s22_75 : zX d 22 75 [v0, v1, v2, v3, v4] (zI x :: st) A K = zX d 22 76 [v0, v1, zI x, v3, v4] st A K := zx_istore_n z22 dX0_findComponents_75 (Nat.le_of_ble_eq_true rfl) rfl rfl
theorem s22_76 : zX d 22 76 [v0, v1, zI x, v3, v4] st A K = zX d 22 77 [v0, v1, zI x, v3, v4] (zI x :: st) A K := zx_iload_n z22 dX0_findComponents_76 rfl rfl
theorem s22_77 : zX d 22 77 [zO o, v1, v2, v3, v4] st A K = zX d 22 78 [zO o, v1, v2, v3, v4] (zO o :: st) A K := zx_aload_n z22 dX0_findComponents_77 rfl rfl
theorem s22_78 (h : tg A a = 1) : zX d 22 78 ls (zO (some a) :: st) A K = zX d 22 81 ls (fd A a 11 :: st) A K := zx_getf z22 zo22 dX0_findComponents_78 F2_219 rfl h
theorem s22_81 : zX d 22 81 ls (zI y :: zI x :: st) A K = (if y ≤ x then zX d 22 156 ls st A K else zX d 22 84 ls st A K) := zx_ic_ge z22 dX0_findComponents_81 rfl rfl
theorem s22_84 : zX d 22 84 ls st A K = zX d 22 85 ls (zI 0 :: st) A K := zx_const z22 dX0_findComponents_84 (by decide) rfl
theorem s22_85 : zX d 22 85 [v0, v1, v2, v3, v4] (zI x :: st) A K = zX d 22 86 [v0, v1, v2, zI x, v4] st A K := zx_istore_n z22 dX0_findComponents_85 (Nat.le_of_ble_eq_true rfl) rfl rfl
theorem s22_86 : zX d 22 86 [v0, v1, v2, zI x, v4] st A K = zX d 22 87 [v0, v1, v2, zI x, v4] (zI x :: st) A K := zx_iload_n z22 dX0_findComponents_86 rfl rfl
theorem s22_87 : zX d 22 87 [zO o, v1, v2, v3, v4] st A K = zX d 22 88 [zO o, v1, v2, v3, v4] (zO o :: st) A K := zx_aload_n z22 dX0_findComponents_87 rfl rfl
theorem s22_88 (h : tg A a = 1) : zX d 22 88 ls (zO (some a) :: st) A K = zX d 22 91 ls (fd A a 11 :: st) A K := zx_getf z22 zo22 dX0_findComponents_88 F2_219 rfl h
theorem s22_91 : zX d 22 91 ls (zI y :: zI x :: st) A K = (if y ≤ x then zX d 22 150 ls st A K else zX d 22 94 ls st A K) := zx_ic_ge z22 dX0_findComponents_91 rfl rfl
theorem s22_94 : zX d 22 94 ls st A K = zX d 22 95 ls (zI 0 :: st) A K := zx_const z22 dX0_findComponents_94 (by decide) rfl
theorem s22_95 : zX d 22 95 [v0, v1, v2, v3, v4] (zI x :: st) A K = zX d 22 97 [v0, v1, v2, v3, zI x] st A K := zx_istore z22 dX0_findComponents_95 (Nat.le_of_ble_eq_true rfl) rfl rfl
theorem s22_97 : zX d 22 97 [v0, v1, v2, v3, zI x] st A K = zX d 22 99 [v0, v1, v2, v3, zI x] (zI x :: st) A K := zx_iload z22 dX0_findComponents_97 rfl rfl
theorem s22_99 : zX d 22 99 [zO o, v1, v2, v3, v4] st A K = zX d 22 100 [zO o, v1, v2, v3, v4] (zO o :: st) A K := zx_aload_n z22 dX0_findComponents_99 rfl rfl
theorem s22_100 (h : tg A a = 1) : zX d 22 100 ls (zO (some a) :: st) A K = zX d 22 103 ls (fd A a 11 :: st) A K := zx_getf z22 zo22 dX0_findComponents_100 F2_219 rfl h
theorem s22_103 : zX d 22 103 ls (zI y :: zI x :: st) A K = (if y ≤ x then zX d 22 144 ls st A K else zX d 22 106 ls st A K) := zx_ic_ge z22 dX0_findComponents_103 rfl rfl
theorem s22_106 : zX d 22 106 [zO o, v1, v2, v3, v4] st A K = zX d 22 107 [zO o, v1, v2, v3, v4] (zO o :: st) A K := zx_aload_n z22 dX0_findComponents_106 rfl rfl
theorem s22_107 (h : tg A a = 1) : zX d 22 107 ls (zO (some a) :: st) A K = zX d 22 110 ls (fd A a 16 :: st) A K := zx_getf z22 zo22 dX0_findComponents_107 F2_63 rfl h
theorem s22_110 : zX d 22 110 [v0, v1, v2, zI x, v4] st A K = zX d 22 111 [v0, v1, v2, zI x, v4] (zI x :: st) A K := zx_iload_n z22 dX0_findComponents_110 rfl rfl
theorem s22_111 (h : zarr (tg A a) = 3) (h0 : 0 ≤ x) (h1 : x.toNat < (ra A a).length) : zX d 22 111 ls (zI x :: zO (some a) :: st) A K = zX d 22 112 ls (zO ((ra A a).getD x.toNat none) :: st) A K := zx_aald z22 dX0_findComponents_111 rfl h h0 h1
theorem s22_112 : zX d 22 112 [v0, v1, zI x, v3, v4] st A K = zX d 22 113 [v0, v1, zI x, v3, v4] (zI x :: st) A K := zx_iload_n z22 dX0_findComponents_112 rfl rfl
theorem s22_113 (h : tg A a = 21) (h0 : 0 ≤ x) (h1 : x.toNat < (ia A a).length) : zX d 22 113 ls (zI x :: zO (some a) :: st) A K = zX d 22 114 ls (zI ((ia A a).getD x.toNat 0) :: st) A K := zx_bald z22 dX0_findComponents_113 rfl h h0 h1
theorem s22_113z (h : tg A a = 22) (h0 : 0 ≤ x) (h1 : x.toNat < (ia A a).length) : zX d 22 113 ls (zI x :: zO (some a) :: st) A K = zX d 22 114 ls (zI ((ia A a).getD x.toNat 0) :: st) A K := zx_zald z22 dX0_findComponents_113 rfl h h0 h1
theorem s22_114 : zX d 22 114 ls (zI x :: st) A K = (if x = 0 then zX d 22 144 ls st A K else zX d 22 117 ls st A K) := zx_if_eq z22 dX0_findComponents_114 rfl rfl
theorem s22_117 : zX d 22 117 [zO o, v1, v2, v3, v4] st A K = zX d 22 118 [zO o, v1, v2, v3, v4] (zO o :: st) A K := zx_aload_n z22 dX0_findComponents_117 rfl rfl
theorem s22_118 (h : tg A a = 1) : zX d 22 118 ls (zO (some a) :: st) A K = zX d 22 121 ls (fd A a 16 :: st) A K := zx_getf z22 zo22 dX0_findComponents_118 F2_63 rfl h
theorem s22_121 : zX d 22 121 [v0, v1, v2, zI x, v4] st A K = zX d 22 122 [v0, v1, v2, zI x, v4] (zI x :: st) A K := zx_iload_n z22 dX0_findComponents_121 rfl rfl
theorem s22_122 (h : zarr (tg A a) = 3) (h0 : 0 ≤ x) (h1 : x.toNat < (ra A a).length) : zX d 22 122 ls (zI x :: zO (some a) :: st) A K = zX d 22 123 ls (zO ((ra A a).getD x.toNat none) :: st) A K := zx_aald z22 dX0_findComponents_122 rfl h h0 h1
theorem s22_123 : zX d 22 123 [v0, v1, v2, v3, zI x] st A K = zX d 22 125 [v0, v1, v2, v3, zI x] (zI x :: st) A K := zx_iload z22 dX0_findComponents_123 rfl rfl
theorem s22_125 (h : zc v = true) (h2 : zc u = true) : zX d 22 125 ls (v :: u :: st) A K = zX d 22 126 ls (v :: u :: v :: u :: st) A K := zx_dup2 z22 dX0_findComponents_125 rfl h h2
theorem s22_126 (h : tg A a = 21) (h0 : 0 ≤ x) (h1 : x.toNat < (ia A a).length) : zX d 22 126 ls (zI x :: zO (some a) :: st) A K = zX d 22 127 ls (zI ((ia A a).getD x.toNat 0) :: st) A K := zx_bald z22 dX0_findComponents_126 rfl h h0 h1
theorem s22_126z (h : tg A a = 22) (h0 : 0 ≤ x) (h1 : x.toNat < (ia A a).length) : zX d 22 126 ls (zI x :: zO (some a) :: st) A K = zX d 22 127 ls (zI ((ia A a).getD x.toNat 0) :: st) A K := zx_zald z22 dX0_findComponents_126 rfl h h0 h1
theorem s22_127 : zX d 22 127 [zO o, v1, v2, v3, v4] st A K = zX d 22 128 [zO o, v1, v2, v3, v4] (zO o :: st) A K := zx_aload_n z22 dX0_findComponents_127 rfl rfl
theorem s22_128 (h : tg A a = 1) : zX d 22 128 ls (zO (some a) :: st) A K = zX d 22 131 ls (fd A a 16 :: st) A K := zx_getf z22 zo22 dX0_findComponents_128 F2_63 rfl h
theorem s22_131 : zX d 22 131 [v0, v1, zI x, v3, v4] st A K = zX d 22 132 [v0, v1, zI x, v3, v4] (zI x :: st) A K := zx_iload_n z22 dX0_findComponents_131 rfl rfl
theorem s22_132 (h : zarr (tg A a) = 3) (h0 : 0 ≤ x) (h1 : x.toNat < (ra A a).length) : zX d 22 132 ls (zI x :: zO (some a) :: st) A K = zX d 22 133 ls (zO ((ra A a).getD x.toNat none) :: st) A K := zx_aald z22 dX0_findComponents_132 rfl h h0 h1
theorem s22_133 : zX d 22 133 [v0, v1, v2, v3, zI x] st A K = zX d 22 135 [v0, v1, v2, v3, zI x] (zI x :: st) A K := zx_iload z22 dX0_findComponents_133 rfl rfl
theorem s22_135 (h : tg A a = 21) (h0 : 0 ≤ x) (h1 : x.toNat < (ia A a).length) : zX d 22 135 ls (zI x :: zO (some a) :: st) A K = zX d 22 136 ls (zI ((ia A a).getD x.toNat 0) :: st) A K := zx_bald z22 dX0_findComponents_135 rfl h h0 h1
theorem s22_135z (h : tg A a = 22) (h0 : 0 ≤ x) (h1 : x.toNat < (ia A a).length) : zX d 22 135 ls (zI x :: zO (some a) :: st) A K = zX d 22 136 ls (zI ((ia A a).getD x.toNat 0) :: st) A K := zx_zald z22 dX0_findComponents_135 rfl h h0 h1
theorem s22_136 : zX d 22 136 ls (zI y :: zI x :: st) A K = zX d 22 137 ls (zI ((Int32.ofInt x ||| Int32.ofInt y).toInt) :: st) A K := zx_ior z22 dX0_findComponents_136 rfl
theorem s22_137 (h : tg A a = 21) (h0 : 0 ≤ x) (h1 : x.toNat < (ia A a).length) : zX d 22 137 ls (zI y :: zI x :: zO (some a) :: st) A K = zX d 22 138 ls st (pI A a ((ia A a).set x.toNat (zhb y))) K := zx_bast z22 dX0_findComponents_137 rfl h h0 h1
theorem s22_137z (h : tg A a = 22) (h2 : y = 0 ∨ y = 1) (h0 : 0 ≤ x) (h1 : x.toNat < (ia A a).length) : zX d 22 137 ls (zI y :: zI x :: zO (some a) :: st) A K = zX d 22 138 ls st (pI A a ((ia A a).set x.toNat y)) K := zx_zast z22 dX0_findComponents_137 rfl h h2 h0 h1
theorem s22_138 : zX d 22 138 [v0, v1, v2, v3, zI x] st A K = zX d 22 141 [v0, v1, v2, v3, zI (zw (x + 1))] st A K := zx_iinc z22 dX0_findComponents_138 rfl rfl rfl
theorem s22_141 : zX d 22 141 ls st A K = zX d 22 97 ls st A K := zx_goto z22 dX0_findComponents_141 rfl
theorem s22_144 : zX d 22 144 [v0, v1, v2, zI x, v4] st A K = zX d 22 147 [v0, v1, v2, zI (zw (x + 1)), v4] st A K := zx_iinc z22 dX0_findComponents_144 rfl rfl rfl
theorem s22_147 : zX d 22 147 ls st A K = zX d 22 86 ls st A K := zx_goto z22 dX0_findComponents_147 rfl
theorem s22_150 : zX d 22 150 [v0, v1, zI x, v3, v4] st A K = zX d 22 153 [v0, v1, zI (zw (x + 1)), v3, v4] st A K := zx_iinc z22 dX0_findComponents_150 rfl rfl rfl
theorem s22_153 : zX d 22 153 ls st A K = zX d 22 76 ls st A K := zx_goto z22 dX0_findComponents_153 rfl
theorem s22_156 : zX d 22 156 [zO o, v1, v2, v3, v4] st A K = zX d 22 157 [zO o, v1, v2, v3, v4] (zO o :: st) A K := zx_aload_n z22 dX0_findComponents_156 rfl rfl
theorem s22_157 (h : tg A a = 1) : zX d 22 157 ls (zO (some a) :: st) A K = zX d 22 160 ls (fd A a 17 :: st) A K := zx_getf z22 zo22 dX0_findComponents_157 F2_69 rfl h
theorem s22_160 (h : tg A a = 10)  : zX (d + 1) 22 160 ls (zO (some a) :: []) A K = zX d 234 0 [zO (some a)] [] A (zK (d + 1) 22 160 163 ls [] K) := zx_callV (t := 10) z22 zo22 dX0_findComponents_160 rfl C2_256 rfl rfl zm234 rfl rfl (zwt_le (Nat.le_of_ble_eq_true rfl)) rfl h
theorem s22_163 : zX d 22 163 ls st A K = zX d 22 164 ls (zI 0 :: st) A K := zx_const z22 dX0_findComponents_163 (by decide) rfl
theorem s22_164 : zX d 22 164 [v0, v1, v2, v3, v4] (zI x :: st) A K = zX d 22 165 [v0, v1, zI x, v3, v4] st A K := zx_istore_n z22 dX0_findComponents_164 (Nat.le_of_ble_eq_true rfl) rfl rfl
theorem s22_165 : zX d 22 165 [v0, v1, zI x, v3, v4] st A K = zX d 22 166 [v0, v1, zI x, v3, v4] (zI x :: st) A K := zx_iload_n z22 dX0_findComponents_165 rfl rfl
theorem s22_166 : zX d 22 166 [zO o, v1, v2, v3, v4] st A K = zX d 22 167 [zO o, v1, v2, v3, v4] (zO o :: st) A K := zx_aload_n z22 dX0_findComponents_166 rfl rfl
theorem s22_167 (h : tg A a = 1) : zX d 22 167 ls (zO (some a) :: st) A K = zX d 22 170 ls (fd A a 11 :: st) A K := zx_getf z22 zo22 dX0_findComponents_167 F2_219 rfl h
theorem s22_170 : zX d 22 170 ls (zI y :: zI x :: st) A K = (if y ≤ x then zX d 22 275 ls st A K else zX d 22 173 ls st A K) := zx_ic_ge z22 dX0_findComponents_170 rfl rfl
theorem s22_173 : zX d 22 173 [zO o, v1, v2, v3, v4] st A K = zX d 22 174 [zO o, v1, v2, v3, v4] (zO o :: st) A K := zx_aload_n z22 dX0_findComponents_173 rfl rfl
theorem s22_174 (h : tg A a = 1) : zX d 22 174 ls (zO (some a) :: st) A K = zX d 22 177 ls (fd A a 16 :: st) A K := zx_getf z22 zo22 dX0_findComponents_174 F2_63 rfl h
theorem s22_177 : zX d 22 177 [v0, v1, zI x, v3, v4] st A K = zX d 22 178 [v0, v1, zI x, v3, v4] (zI x :: st) A K := zx_iload_n z22 dX0_findComponents_177 rfl rfl
theorem s22_178 (h : zarr (tg A a) = 3) (h0 : 0 ≤ x) (h1 : x.toNat < (ra A a).length) : zX d 22 178 ls (zI x :: zO (some a) :: st) A K = zX d 22 179 ls (zO ((ra A a).getD x.toNat none) :: st) A K := zx_aald z22 dX0_findComponents_178 rfl h h0 h1
theorem s22_179 : zX d 22 179 [v0, v1, zI x, v3, v4] st A K = zX d 22 180 [v0, v1, zI x, v3, v4] (zI x :: st) A K := zx_iload_n z22 dX0_findComponents_179 rfl rfl
theorem s22_180 (h : tg A a = 21) (h0 : 0 ≤ x) (h1 : x.toNat < (ia A a).length) : zX d 22 180 ls (zI x :: zO (some a) :: st) A K = zX d 22 181 ls (zI ((ia A a).getD x.toNat 0) :: st) A K := zx_bald z22 dX0_findComponents_180 rfl h h0 h1
theorem s22_180z (h : tg A a = 22) (h0 : 0 ≤ x) (h1 : x.toNat < (ia A a).length) : zX d 22 180 ls (zI x :: zO (some a) :: st) A K = zX d 22 181 ls (zI ((ia A a).getD x.toNat 0) :: st) A K := zx_zald z22 dX0_findComponents_180 rfl h h0 h1
theorem s22_181 : zX d 22 181 ls (zI x :: st) A K = (if x = 0 then zX d 22 188 ls st A K else zX d 22 184 ls st A K) := zx_if_eq z22 dX0_findComponents_181 rfl rfl
theorem s22_184 : zX d 22 184 [v0, v1, zI x, v3, v4] st A K = zX d 22 185 [v0, v1, zI x, v3, v4] (zI x :: st) A K := zx_iload_n z22 dX0_findComponents_184 rfl rfl
theorem s22_185 : zX d 22 185 ls st A K = zX d 22 190 ls st A K := zx_goto z22 dX0_findComponents_185 rfl
theorem s22_188 : zX d 22 188 ls st A K = zX d 22 190 ls (zI (-5) :: st) A K := zx_bipush z22 dX0_findComponents_188 (by decide) rfl
theorem s22_190 : zX d 22 190 [v0, v1, v2, v3, v4] (zI x :: st) A K = zX d 22 191 [v0, v1, v2, zI x, v4] st A K := zx_istore_n z22 dX0_findComponents_190 (Nat.le_of_ble_eq_true rfl) rfl rfl
theorem s22_191 : zX d 22 191 [v0, v1, zI x, v3, v4] st A K = zX d 22 192 [v0, v1, zI x, v3, v4] (zI x :: st) A K := zx_iload_n z22 dX0_findComponents_191 rfl rfl
theorem s22_192 : zX d 22 192 ls st A K = zX d 22 193 ls (zI 1 :: st) A K := zx_const z22 dX0_findComponents_192 (by decide) rfl
theorem s22_193 : zX d 22 193 ls (zI y :: zI x :: st) A K = zX d 22 194 ls (zI (zw (x - y)) :: st) A K := zx_isub z22 dX0_findComponents_193 rfl
theorem s22_194 : zX d 22 194 [v0, v1, v2, v3, v4] (zI x :: st) A K = zX d 22 196 [v0, v1, v2, v3, zI x] st A K := zx_istore z22 dX0_findComponents_194 (Nat.le_of_ble_eq_true rfl) rfl rfl
theorem s22_196 : zX d 22 196 [v0, v1, v2, v3, zI x] st A K = zX d 22 198 [v0, v1, v2, v3, zI x] (zI x :: st) A K := zx_iload z22 dX0_findComponents_196 rfl rfl
theorem s22_198 : zX d 22 198 ls (zI x :: st) A K = (if x < 0 then zX d 22 238 ls st A K else zX d 22 201 ls st A K) := zx_if_lt z22 dX0_findComponents_198 rfl rfl
theorem s22_201 : zX d 22 201 [zO o, v1, v2, v3, v4] st A K = zX d 22 202 [zO o, v1, v2, v3, v4] (zO o :: st) A K := zx_aload_n z22 dX0_findComponents_201 rfl rfl
theorem s22_202 (h : tg A a = 1) : zX d 22 202 ls (zO (some a) :: st) A K = zX d 22 205 ls (fd A a 16 :: st) A K := zx_getf z22 zo22 dX0_findComponents_202 F2_63 rfl h
theorem s22_205 : zX d 22 205 [v0, v1, zI x, v3, v4] st A K = zX d 22 206 [v0, v1, zI x, v3, v4] (zI x :: st) A K := zx_iload_n z22 dX0_findComponents_205 rfl rfl
theorem s22_206 (h : zarr (tg A a) = 3) (h0 : 0 ≤ x) (h1 : x.toNat < (ra A a).length) : zX d 22 206 ls (zI x :: zO (some a) :: st) A K = zX d 22 207 ls (zO ((ra A a).getD x.toNat none) :: st) A K := zx_aald z22 dX0_findComponents_206 rfl h h0 h1
theorem s22_207 : zX d 22 207 [v0, v1, v2, v3, zI x] st A K = zX d 22 209 [v0, v1, v2, v3, zI x] (zI x :: st) A K := zx_iload z22 dX0_findComponents_207 rfl rfl
theorem s22_209 (h : tg A a = 21) (h0 : 0 ≤ x) (h1 : x.toNat < (ia A a).length) : zX d 22 209 ls (zI x :: zO (some a) :: st) A K = zX d 22 210 ls (zI ((ia A a).getD x.toNat 0) :: st) A K := zx_bald z22 dX0_findComponents_209 rfl h h0 h1
theorem s22_209z (h : tg A a = 22) (h0 : 0 ≤ x) (h1 : x.toNat < (ia A a).length) : zX d 22 209 ls (zI x :: zO (some a) :: st) A K = zX d 22 210 ls (zI ((ia A a).getD x.toNat 0) :: st) A K := zx_zald z22 dX0_findComponents_209 rfl h h0 h1
theorem s22_210 : zX d 22 210 ls (zI x :: st) A K = (if x = 0 then zX d 22 230 ls st A K else zX d 22 213 ls st A K) := zx_if_eq z22 dX0_findComponents_210 rfl rfl
theorem s22_213 : zX d 22 213 [zO o, v1, v2, v3, v4] st A K = zX d 22 214 [zO o, v1, v2, v3, v4] (zO o :: st) A K := zx_aload_n z22 dX0_findComponents_213 rfl rfl
theorem s22_214 (h : tg A a = 1) : zX d 22 214 ls (zO (some a) :: st) A K = zX d 22 217 ls (fd A a 16 :: st) A K := zx_getf z22 zo22 dX0_findComponents_214 F2_63 rfl h
theorem s22_217 : zX d 22 217 [v0, v1, v2, v3, zI x] st A K = zX d 22 219 [v0, v1, v2, v3, zI x] (zI x :: st) A K := zx_iload z22 dX0_findComponents_217 rfl rfl
theorem s22_219 (h : zarr (tg A a) = 3) (h0 : 0 ≤ x) (h1 : x.toNat < (ra A a).length) : zX d 22 219 ls (zI x :: zO (some a) :: st) A K = zX d 22 220 ls (zO ((ra A a).getD x.toNat none) :: st) A K := zx_aald z22 dX0_findComponents_219 rfl h h0 h1
theorem s22_220 : zX d 22 220 [v0, v1, zI x, v3, v4] st A K = zX d 22 221 [v0, v1, zI x, v3, v4] (zI x :: st) A K := zx_iload_n z22 dX0_findComponents_220 rfl rfl
theorem s22_221 (h : tg A a = 21) (h0 : 0 ≤ x) (h1 : x.toNat < (ia A a).length) : zX d 22 221 ls (zI x :: zO (some a) :: st) A K = zX d 22 222 ls (zI ((ia A a).getD x.toNat 0) :: st) A K := zx_bald z22 dX0_findComponents_221 rfl h h0 h1
theorem s22_221z (h : tg A a = 22) (h0 : 0 ≤ x) (h1 : x.toNat < (ia A a).length) : zX d 22 221 ls (zI x :: zO (some a) :: st) A K = zX d 22 222 ls (zI ((ia A a).getD x.toNat 0) :: st) A K := zx_zald z22 dX0_findComponents_221 rfl h h0 h1
theorem s22_222 : zX d 22 222 ls (zI x :: st) A K = (if x = 0 then zX d 22 230 ls st A K else zX d 22 225 ls st A K) := zx_if_eq z22 dX0_findComponents_222 rfl rfl
theorem s22_225 : zX d 22 225 [v0, v1, v2, v3, zI x] st A K = zX d 22 227 [v0, v1, v2, v3, zI x] (zI x :: st) A K := zx_iload z22 dX0_findComponents_225 rfl rfl
theorem s22_227 : zX d 22 227 ls st A K = zX d 22 231 ls st A K := zx_goto z22 dX0_findComponents_227 rfl
theorem s22_230 : zX d 22 230 [v0, v1, v2, zI x, v4] st A K = zX d 22 231 [v0, v1, v2, zI x, v4] (zI x :: st) A K := zx_iload_n z22 dX0_findComponents_230 rfl rfl
theorem s22_231 : zX d 22 231 [v0, v1, v2, v3, v4] (zI x :: st) A K = zX d 22 232 [v0, v1, v2, zI x, v4] st A K := zx_istore_n z22 dX0_findComponents_231 (Nat.le_of_ble_eq_true rfl) rfl rfl
theorem s22_232 : zX d 22 232 [v0, v1, v2, v3, zI x] st A K = zX d 22 235 [v0, v1, v2, v3, zI (zw (x + (-1)))] st A K := zx_iinc z22 dX0_findComponents_232 rfl rfl rfl
theorem s22_235 : zX d 22 235 ls st A K = zX d 22 196 ls st A K := zx_goto z22 dX0_findComponents_235 rfl
theorem s22_238 : zX d 22 238 [v0, zO o, v2, v3, v4] st A K = zX d 22 239 [v0, zO o, v2, v3, v4] (zO o :: st) A K := zx_aload_n z22 dX0_findComponents_238 rfl rfl
theorem s22_239 : zX d 22 239 [v0, v1, zI x, v3, v4] st A K = zX d 22 240 [v0, v1, zI x, v3, v4] (zI x :: st) A K := zx_iload_n z22 dX0_findComponents_239 rfl rfl
theorem s22_240 : zX d 22 240 [v0, v1, v2, zI x, v4] st A K = zX d 22 241 [v0, v1, v2, zI x, v4] (zI x :: st) A K := zx_iload_n z22 dX0_findComponents_240 rfl rfl
theorem s22_241 (h : tg A a = 20) (h0 : 0 ≤ x) (h1 : x.toNat < (ia A a).length) : zX d 22 241 ls (zI y :: zI x :: zO (some a) :: st) A K = zX d 22 242 ls st (pI A a ((ia A a).set x.toNat y)) K := zx_iast z22 dX0_findComponents_241 rfl h h0 h1
theorem s22_242 : zX d 22 242 [v0, v1, v2, zI x, v4] st A K = zX d 22 243 [v0, v1, v2, zI x, v4] (zI x :: st) A K := zx_iload_n z22 dX0_findComponents_242 rfl rfl
theorem s22_243 : zX d 22 243 [v0, v1, zI x, v3, v4] st A K = zX d 22 244 [v0, v1, zI x, v3, v4] (zI x :: st) A K := zx_iload_n z22 dX0_findComponents_243 rfl rfl
theorem s22_244 : zX d 22 244 ls (zI y :: zI x :: st) A K = (if x ≠ y then zX d 22 269 ls st A K else zX d 22 247 ls st A K) := zx_ic_ne z22 dX0_findComponents_244 rfl rfl
theorem s22_247 : zX d 22 247 [zO o, v1, v2, v3, v4] st A K = zX d 22 248 [zO o, v1, v2, v3, v4] (zO o :: st) A K := zx_aload_n z22 dX0_findComponents_247 rfl rfl
theorem s22_248 (h : tg A a = 1) : zX d 22 248 ls (zO (some a) :: st) A K = zX d 22 251 ls (fd A a 17 :: st) A K := zx_getf z22 zo22 dX0_findComponents_248 F2_69 rfl h
theorem s22_251 : zX d 22 251 [v0, v1, zI x, v3, v4] st A K = zX d 22 252 [v0, v1, zI x, v3, v4] (zI x :: st) A K := zx_iload_n z22 dX0_findComponents_251 rfl rfl
theorem s22_252 : zX (d + 1) 22 252 ls (zI i0 :: [w0]) A K = zX d 269 0 [zI i0] [] A (zK (d + 1) 22 252 255 ls [w0] K) := zx_callS z22 zo22 dX0_findComponents_252 rfl C2_259 rfl rfl zm269 rfl rfl (zwt_le (Nat.le_of_ble_eq_true rfl)) rfl
theorem s22_255 : zX d 22 255 [zO o, v1, v2, v3, v4] st A K = zX d 22 256 [zO o, v1, v2, v3, v4] (zO o :: st) A K := zx_aload_n z22 dX0_findComponents_255 rfl rfl
theorem s22_256 (h : tg A a = 1) : zX d 22 256 ls (zO (some a) :: st) A K = zX d 22 259 ls (fd A a 17 :: st) A K := zx_getf z22 zo22 dX0_findComponents_256 F2_69 rfl h
theorem s22_259 (h : tg A a = 10)  : zX (d + 1) 22 259 ls (zO (some a) :: [w0, w1]) A K = zX d 235 0 [zO (some a)] [] A (zK (d + 1) 22 259 262 ls [w0, w1] K) := zx_callV (t := 10) z22 zo22 dX0_findComponents_259 rfl C2_265 rfl rfl zm235 rfl rfl (zwt_le (Nat.le_of_ble_eq_true rfl)) rfl h
theorem s22_262 : zX (d + 1) 22 262 ls (zI i0 :: [w0, w1]) A K = zX d 269 0 [zI i0] [] A (zK (d + 1) 22 262 265 ls [w0, w1] K) := zx_callS z22 zo22 dX0_findComponents_262 rfl C2_259 rfl rfl zm269 rfl rfl (zwt_le (Nat.le_of_ble_eq_true rfl)) rfl
theorem s22_265 (h : tg A a = 10)  : zX (d + 1) 22 265 ls (zO o1 :: zO o0 :: zO (some a) :: []) A K = zX d 236 0 [zO (some a), zO o0, zO o1] [] A (zK (d + 1) 22 265 268 ls [] K) := zx_callV (t := 10) z22 zo22 dX0_findComponents_265 rfl C2_266 rfl rfl zm236 rfl rfl (zwt_le (Nat.le_of_ble_eq_true rfl)) rfl h
theorem s22_268 (h : zc v = true) : zX d 22 268 ls (v :: st) A K = zX d 22 269 ls st A K := zx_pop z22 dX0_findComponents_268 rfl h
theorem s22_269 : zX d 22 269 [v0, v1, zI x, v3, v4] st A K = zX d 22 272 [v0, v1, zI (zw (x + 1)), v3, v4] st A K := zx_iinc z22 dX0_findComponents_269 rfl rfl rfl
theorem s22_272 : zX d 22 272 ls st A K = zX d 22 165 ls st A K := zx_goto z22 dX0_findComponents_272 rfl
theorem s22_275 : zX d 22 275 ls st A K = zX d 22 276 ls (zI 0 :: st) A K := zx_const z22 dX0_findComponents_275 (by decide) rfl
theorem s22_276 : zX d 22 276 [v0, v1, v2, v3, v4] (zI x :: st) A K = zX d 22 277 [v0, v1, zI x, v3, v4] st A K := zx_istore_n z22 dX0_findComponents_276 (Nat.le_of_ble_eq_true rfl) rfl rfl
theorem s22_277 : zX d 22 277 [v0, v1, zI x, v3, v4] st A K = zX d 22 278 [v0, v1, zI x, v3, v4] (zI x :: st) A K := zx_iload_n z22 dX0_findComponents_277 rfl rfl
theorem s22_278 : zX d 22 278 [zO o, v1, v2, v3, v4] st A K = zX d 22 279 [zO o, v1, v2, v3, v4] (zO o :: st) A K := zx_aload_n z22 dX0_findComponents_278 rfl rfl
theorem s22_279 (h : tg A a = 1) : zX d 22 279 ls (zO (some a) :: st) A K = zX d 22 282 ls (fd A a 11 :: st) A K := zx_getf z22 zo22 dX0_findComponents_279 F2_219 rfl h
theorem s22_282 : zX d 22 282 ls (zI y :: zI x :: st) A K = (if y ≤ x then zX d 22 326 ls st A K else zX d 22 285 ls st A K) := zx_ic_ge z22 dX0_findComponents_282 rfl rfl
theorem s22_285 : zX d 22 285 [v0, zO o, v2, v3, v4] st A K = zX d 22 286 [v0, zO o, v2, v3, v4] (zO o :: st) A K := zx_aload_n z22 dX0_findComponents_285 rfl rfl
theorem s22_286 : zX d 22 286 [v0, v1, zI x, v3, v4] st A K = zX d 22 287 [v0, v1, zI x, v3, v4] (zI x :: st) A K := zx_iload_n z22 dX0_findComponents_286 rfl rfl
theorem s22_287 : zX d 22 287 [v0, zO o, v2, v3, v4] st A K = zX d 22 288 [v0, zO o, v2, v3, v4] (zO o :: st) A K := zx_aload_n z22 dX0_findComponents_287 rfl rfl
theorem s22_288 : zX d 22 288 [v0, v1, zI x, v3, v4] st A K = zX d 22 289 [v0, v1, zI x, v3, v4] (zI x :: st) A K := zx_iload_n z22 dX0_findComponents_288 rfl rfl
theorem s22_289 (h : tg A a = 20) (h0 : 0 ≤ x) (h1 : x.toNat < (ia A a).length) : zX d 22 289 ls (zI x :: zO (some a) :: st) A K = zX d 22 290 ls (zI ((ia A a).getD x.toNat 0) :: st) A K := zx_iald z22 dX0_findComponents_289 rfl h h0 h1
theorem s22_289s (h : tg A a = 30) (h0 : 0 ≤ x) (h1 : x.toNat < (ia A a).length) : zX d 22 289 ls (zI x :: zO (some a) :: st) A K = zX d 22 290 ls (zI ((ia A a).getD x.toNat 0) :: st) A K := zx_sald z22 dX0_findComponents_289 rfl h h0 h1
theorem s22_290 : zX d 22 290 ls st A K = zX d 22 292 ls (zI (-5) :: st) A K := zx_bipush z22 dX0_findComponents_290 (by decide) rfl
theorem s22_292 : zX d 22 292 ls (zI y :: zI x :: st) A K = (if x ≠ y then zX d 22 300 ls st A K else zX d 22 295 ls st A K) := zx_ic_ne z22 dX0_findComponents_292 rfl rfl
theorem s22_295 : zX d 22 295 ls st A K = zX d 22 297 ls (zI (-5) :: st) A K := zx_bipush z22 dX0_findComponents_295 (by decide) rfl
theorem s22_297 : zX d 22 297 ls st A K = zX d 22 319 ls st A K := zx_goto z22 dX0_findComponents_297 rfl
theorem s22_300 : zX d 22 300 [zO o, v1, v2, v3, v4] st A K = zX d 22 301 [zO o, v1, v2, v3, v4] (zO o :: st) A K := zx_aload_n z22 dX0_findComponents_300 rfl rfl
theorem s22_301 (h : tg A a = 1) : zX d 22 301 ls (zO (some a) :: st) A K = zX d 22 304 ls (fd A a 17 :: st) A K := zx_getf z22 zo22 dX0_findComponents_301 F2_69 rfl h
theorem s22_304 : zX d 22 304 [v0, zO o, v2, v3, v4] st A K = zX d 22 305 [v0, zO o, v2, v3, v4] (zO o :: st) A K := zx_aload_n z22 dX0_findComponents_304 rfl rfl
theorem s22_305 : zX d 22 305 [v0, v1, zI x, v3, v4] st A K = zX d 22 306 [v0, v1, zI x, v3, v4] (zI x :: st) A K := zx_iload_n z22 dX0_findComponents_305 rfl rfl
theorem s22_306 (h : tg A a = 20) (h0 : 0 ≤ x) (h1 : x.toNat < (ia A a).length) : zX d 22 306 ls (zI x :: zO (some a) :: st) A K = zX d 22 307 ls (zI ((ia A a).getD x.toNat 0) :: st) A K := zx_iald z22 dX0_findComponents_306 rfl h h0 h1
theorem s22_306s (h : tg A a = 30) (h0 : 0 ≤ x) (h1 : x.toNat < (ia A a).length) : zX d 22 306 ls (zI x :: zO (some a) :: st) A K = zX d 22 307 ls (zI ((ia A a).getD x.toNat 0) :: st) A K := zx_sald z22 dX0_findComponents_306 rfl h h0 h1
theorem s22_307 : zX (d + 1) 22 307 ls (zI i0 :: [w0, w1, w2]) A K = zX d 269 0 [zI i0] [] A (zK (d + 1) 22 307 310 ls [w0, w1, w2] K) := zx_callS z22 zo22 dX0_findComponents_307 rfl C2_259 rfl rfl zm269 rfl rfl (zwt_le (Nat.le_of_ble_eq_true rfl)) rfl
theorem s22_310 (h : tg A a = 10)  : zX (d + 1) 22 310 ls (zO o0 :: zO (some a) :: [w0, w1]) A K = zX d 249 0 [zO (some a), zO o0, zU] [] A (zK (d + 1) 22 310 313 ls [w0, w1] K) := zx_callV (t := 10) z22 zo22 dX0_findComponents_310 rfl C2_270 rfl rfl zm249 rfl rfl (zwt_le (Nat.le_of_ble_eq_true rfl)) rfl h
theorem s22_313 (h : ([32] : List Nat).contains (tg A a) = true) : zX d 22 313 ls (zO (some a) :: st) A K = zX d 22 316 ls (zO (some a) :: st) A K := zx_cast z22 zo22 dX0_findComponents_313 rfl rfl h
theorem s22_313n : zX d 22 313 ls (zO none :: st) A K = zX d 22 316 ls (zO none :: st) A K := zx_castN z22 zo22 dX0_findComponents_313 rfl rfl
theorem s22_316 (h : tg A a = 32)  : zX (d + 1) 22 316 ls (zO (some a) :: [w0, w1]) A K = zX d 273 0 [zO (some a)] [] A (zK (d + 1) 22 316 319 ls [w0, w1] K) := zx_callV (t := 32) z22 zo22 dX0_findComponents_316 rfl C2_274 rfl rfl zm273 rfl rfl (zwt_le (Nat.le_of_ble_eq_true rfl)) rfl h
theorem s22_319 (h : tg A a = 20) (h0 : 0 ≤ x) (h1 : x.toNat < (ia A a).length) : zX d 22 319 ls (zI y :: zI x :: zO (some a) :: st) A K = zX d 22 320 ls st (pI A a ((ia A a).set x.toNat y)) K := zx_iast z22 dX0_findComponents_319 rfl h h0 h1
theorem s22_320 : zX d 22 320 [v0, v1, zI x, v3, v4] st A K = zX d 22 323 [v0, v1, zI (zw (x + 1)), v3, v4] st A K := zx_iinc z22 dX0_findComponents_320 rfl rfl rfl
theorem s22_323 : zX d 22 323 ls st A K = zX d 22 277 ls st A K := zx_goto z22 dX0_findComponents_323 rfl
theorem s22_326 : zX d 22 326 ls [] A K = K (Sum.inl none) A := zx_vret z22 dX0_findComponents_326 rfl
theorem s23_0 : zX d 23 0 ls st A K = zX d 23 1 ls (zI 0 :: st) A K := zx_const z23 dX0_countComponents_0 (by decide) rfl
theorem s23_1 : zX d 23 1 [v0, v1, v2, v3] (zI x :: st) A K = zX d 23 2 [v0, v1, zI x, v3] st A K := zx_istore_n z23 dX0_countComponents_1 (Nat.le_of_ble_eq_true rfl) rfl rfl
theorem s23_2 : zX d 23 2 ls st A K = zX d 23 3 ls (zI 0 :: st) A K := zx_const z23 dX0_countComponents_2 (by decide) rfl
theorem s23_3 : zX d 23 3 [v0, v1, v2, v3] (zI x :: st) A K = zX d 23 4 [v0, v1, v2, zI x] st A K := zx_istore_n z23 dX0_countComponents_3 (Nat.le_of_ble_eq_true rfl) rfl rfl
theorem s23_4 : zX d 23 4 [v0, v1, v2, zI x] st A K = zX d 23 5 [v0, v1, v2, zI x] (zI x :: st) A K := zx_iload_n z23 dX0_countComponents_4 rfl rfl
theorem s23_5 : zX d 23 5 [zO o, v1, v2, v3] st A K = zX d 23 6 [zO o, v1, v2, v3] (zO o :: st) A K := zx_aload_n z23 dX0_countComponents_5 rfl rfl
theorem s23_6 (h : tg A a = 1) : zX d 23 6 ls (zO (some a) :: st) A K = zX d 23 9 ls (fd A a 11 :: st) A K := zx_getf z23 zo23 dX0_countComponents_6 F2_219 rfl h
theorem s23_9 : zX d 23 9 ls (zI y :: zI x :: st) A K = (if y ≤ x then zX d 23 28 ls st A K else zX d 23 12 ls st A K) := zx_ic_ge z23 dX0_countComponents_9 rfl rfl
theorem s23_12 : zX d 23 12 [v0, v1, zI x, v3] st A K = zX d 23 13 [v0, v1, zI x, v3] (zI x :: st) A K := zx_iload_n z23 dX0_countComponents_12 rfl rfl
theorem s23_13 : zX d 23 13 [v0, zO o, v2, v3] st A K = zX d 23 14 [v0, zO o, v2, v3] (zO o :: st) A K := zx_aload_n z23 dX0_countComponents_13 rfl rfl
theorem s23_14 : zX d 23 14 [v0, v1, v2, zI x] st A K = zX d 23 15 [v0, v1, v2, zI x] (zI x :: st) A K := zx_iload_n z23 dX0_countComponents_14 rfl rfl
theorem s23_15 (h : tg A a = 20) (h0 : 0 ≤ x) (h1 : x.toNat < (ia A a).length) : zX d 23 15 ls (zI x :: zO (some a) :: st) A K = zX d 23 16 ls (zI ((ia A a).getD x.toNat 0) :: st) A K := zx_iald z23 dX0_countComponents_15 rfl h h0 h1
theorem s23_15s (h : tg A a = 30) (h0 : 0 ≤ x) (h1 : x.toNat < (ia A a).length) : zX d 23 15 ls (zI x :: zO (some a) :: st) A K = zX d 23 16 ls (zI ((ia A a).getD x.toNat 0) :: st) A K := zx_sald z23 dX0_countComponents_15 rfl h h0 h1
theorem s23_16 : zX d 23 16 ls st A K = zX d 23 17 ls (zI 1 :: st) A K := zx_const z23 dX0_countComponents_16 (by decide) rfl
theorem s23_17 : zX d 23 17 ls (zI y :: zI x :: st) A K = zX d 23 18 ls (zI (zw (x + y)) :: st) A K := zx_iadd z23 dX0_countComponents_17 rfl
theorem s23_18 : zX (d + 1) 23 18 ls (zI i1 :: zI i0 :: []) A K = zX d 277 0 [zI i0, zI i1] [] A (zK (d + 1) 23 18 21 ls [] K) := zx_callS z23 zo23 dX0_countComponents_18 rfl C2_277 rfl rfl zm277 rfl rfl (zwt_le (Nat.le_of_ble_eq_true rfl)) rfl
theorem s23_21 : zX d 23 21 [v0, v1, v2, v3] (zI x :: st) A K = zX d 23 22 [v0, v1, zI x, v3] st A K := zx_istore_n z23 dX0_countComponents_21 (Nat.le_of_ble_eq_true rfl) rfl rfl
theorem s23_22 : zX d 23 22 [v0, v1, v2, zI x] st A K = zX d 23 25 [v0, v1, v2, zI (zw (x + 1))] st A K := zx_iinc z23 dX0_countComponents_22 rfl rfl rfl
theorem s23_25 : zX d 23 25 ls st A K = zX d 23 4 ls st A K := zx_goto z23 dX0_countComponents_25 rfl
theorem s23_28 : zX d 23 28 [v0, v1, zI x, v3] st A K = zX d 23 29 [v0, v1, zI x, v3] (zI x :: st) A K := zx_iload_n z23 dX0_countComponents_28 rfl rfl
theorem s23_29 : zX d 23 29 ls [zI x] A K = K (Sum.inl (some (zI x))) A := zx_iret z23 dX0_countComponents_29 zk23 rfl
theorem s24_0 : zX d 24 0 [zO o, v1] st A K = zX d 24 1 [zO o, v1] (zO o :: st) A K := zx_aload_n z24 dX0_pairRule_0 rfl rfl
theorem s24_1 : zX d 24 1 [v0, zI x] st A K = zX d 24 2 [v0, zI x] (zI x :: st) A K := zx_iload_n z24 dX0_pairRule_1 rfl rfl
theorem s24_2 (h : tg A a = 1)  : zX (d + 1) 24 2 ls (zI i0 :: zO (some a) :: []) A K = zX d 25 0 [zO (some a), zI i0] [] A (zK (d + 1) 24 2 5 ls [] K) := zx_callV (t := 1) z24 zo24 dX0_pairRule_2 rfl C2_243 rfl rfl zm25 rfl rfl (zwt_le (Nat.le_of_ble_eq_true rfl)) rfl h
theorem s24_5 : zX d 24 5 ls (zI x :: st) A K = (if x = 0 then zX d 24 20 ls st A K else zX d 24 8 ls st A K) := zx_if_eq z24 dX0_pairRule_5 rfl rfl
theorem s24_8 : zX d 24 8 [zO o, v1] st A K = zX d 24 9 [zO o, v1] (zO o :: st) A K := zx_aload_n z24 dX0_pairRule_8 rfl rfl
theorem s24_9 (h : tg A a = 1) : zX d 24 9 ls (zO (some a) :: st) A K = zX d 24 12 ls (fd A a 10 :: st) A K := zx_getf z24 zo24 dX0_pairRule_9 F2_47 rfl h
theorem s24_12 : zX d 24 12 [v0, zI x] st A K = zX d 24 13 [v0, zI x] (zI x :: st) A K := zx_iload_n z24 dX0_pairRule_12 rfl rfl
theorem s24_13 (h : zarr (tg A a) = 3) (h0 : 0 ≤ x) (h1 : x.toNat < (ra A a).length) : zX d 24 13 ls (zI x :: zO (some a) :: st) A K = zX d 24 14 ls (zO ((ra A a).getD x.toNat none) :: st) A K := zx_aald z24 dX0_pairRule_13 rfl h h0 h1
theorem s24_14 (h : tg A a = 7) : zX d 24 14 ls (zO (some a) :: st) A K = zX d 24 17 ls (fd A a 0 :: st) A K := zx_getf z24 zo24 dX0_pairRule_14 F2_246 rfl h
theorem s24_17 : zX d 24 17 ls st A K = zX d 24 21 ls st A K := zx_goto z24 dX0_pairRule_17 rfl
theorem s24_20 : zX d 24 20 ls st A K = zX d 24 21 ls (zI (-1) :: st) A K := zx_const z24 dX0_pairRule_20 (by decide) rfl
theorem s24_21 : zX d 24 21 ls [zI x] A K = K (Sum.inl (some (zI x))) A := zx_iret z24 dX0_pairRule_21 zk24 rfl
theorem s25_0 : zX d 25 0 [zO o, v1] st A K = zX d 25 1 [zO o, v1] (zO o :: st) A K := zx_aload_n z25 dX0_isPair_0 rfl rfl
theorem s25_1 (h : tg A a = 1)  : zX (d + 1) 25 1 ls (zO (some a) :: []) A K = zX d 19 0 [zO (some a), zU, zU, zU] [] A (zK (d + 1) 25 1 4 ls [] K) := zx_callV (t := 1) z25 zo25 dX0_isPair_1 rfl C2_240 rfl rfl zm19 rfl rfl (zwt_le (Nat.le_of_ble_eq_true rfl)) rfl h
theorem s25_4 : zX d 25 4 [v0, zI x] st A K = zX d 25 5 [v0, zI x] (zI x :: st) A K := zx_iload_n z25 dX0_isPair_4 rfl rfl
theorem s25_5 : zX d 25 5 ls (zI x :: st) A K = zX d 25 6 ls (zL x :: st) A K := zx_i2l z25 dX0_isPair_5 rfl
theorem s25_6 : zX d 25 6 ls st A K = zX d 25 7 ls (zL 0 :: st) A K := zx_lconst z25 dX0_isPair_6 rfl
theorem s25_7 : zX d 25 7 [zO o, v1] st A K = zX d 25 8 [zO o, v1] (zO o :: st) A K := zx_aload_n z25 dX0_isPair_7 rfl rfl
theorem s25_8 (h : tg A a = 1) : zX d 25 8 ls (zO (some a) :: st) A K = zX d 25 11 ls (fd A a 11 :: st) A K := zx_getf z25 zo25 dX0_isPair_8 F2_219 rfl h
theorem s25_11 : zX d 25 11 ls st A K = zX d 25 12 ls (zI 1 :: st) A K := zx_const z25 dX0_isPair_11 (by decide) rfl
theorem s25_12 : zX d 25 12 ls (zI y :: zI x :: st) A K = zX d 25 13 ls (zI (zw (x - y)) :: st) A K := zx_isub z25 dX0_isPair_12 rfl
theorem s25_13 : zX d 25 13 ls (zI x :: st) A K = zX d 25 14 ls (zL x :: st) A K := zx_i2l z25 dX0_isPair_13 rfl
theorem s25_14 : zX d 25 14 ls (zL y :: zL x :: zL w :: []) A K = zX d 25 17 ls (zI (zb (decide (x ≤ w ∧ w ≤ y))) :: []) A K := zx_inS z25 zo25 dX0_isPair_14 rfl rfl rfl (zin_2 (zwt_le (Nat.le_of_ble_eq_true rfl)))
theorem s25_17 (h : x = 0 ∨ x = 1) : zX d 25 17 ls [zI x] A K = K (Sum.inl (some (zI x))) A := zx_iret z25 dX0_isPair_17 zk25 (by rcases h with q | q <;> subst q <;> rfl)
theorem s26_0 : zX d 26 0 [zO o, v1] st A K = zX d 26 1 [zO o, v1] (zO o :: st) A K := zx_aload_n z26 dX0_pairPosition_0 rfl rfl
theorem s26_1 : zX d 26 1 [v0, zI x] st A K = zX d 26 2 [v0, zI x] (zI x :: st) A K := zx_iload_n z26 dX0_pairPosition_1 rfl rfl
theorem s26_2 (h : tg A a = 1)  : zX (d + 1) 26 2 ls (zI i0 :: zO (some a) :: []) A K = zX d 25 0 [zO (some a), zI i0] [] A (zK (d + 1) 26 2 5 ls [] K) := zx_callV (t := 1) z26 zo26 dX0_pairPosition_2 rfl C2_243 rfl rfl zm25 rfl rfl (zwt_le (Nat.le_of_ble_eq_true rfl)) rfl h
theorem s26_5 : zX d 26 5 ls (zI x :: st) A K = (if x = 0 then zX d 26 20 ls st A K else zX d 26 8 ls st A K) := zx_if_eq z26 dX0_pairPosition_5 rfl rfl
theorem s26_8 : zX d 26 8 [zO o, v1] st A K = zX d 26 9 [zO o, v1] (zO o :: st) A K := zx_aload_n z26 dX0_pairPosition_8 rfl rfl
theorem s26_9 (h : tg A a = 1) : zX d 26 9 ls (zO (some a) :: st) A K = zX d 26 12 ls (fd A a 10 :: st) A K := zx_getf z26 zo26 dX0_pairPosition_9 F2_47 rfl h
theorem s26_12 : zX d 26 12 [v0, zI x] st A K = zX d 26 13 [v0, zI x] (zI x :: st) A K := zx_iload_n z26 dX0_pairPosition_12 rfl rfl
theorem s26_13 (h : zarr (tg A a) = 3) (h0 : 0 ≤ x) (h1 : x.toNat < (ra A a).length) : zX d 26 13 ls (zI x :: zO (some a) :: st) A K = zX d 26 14 ls (zO ((ra A a).getD x.toNat none) :: st) A K := zx_aald z26 dX0_pairPosition_13 rfl h h0 h1
theorem s26_14 (h : tg A a = 7) : zX d 26 14 ls (zO (some a) :: st) A K = zX d 26 17 ls (fd A a 1 :: st) A K := zx_getf z26 zo26 dX0_pairPosition_14 F2_208 rfl h
theorem s26_17 : zX d 26 17 ls st A K = zX d 26 21 ls st A K := zx_goto z26 dX0_pairPosition_17 rfl
theorem s26_20 : zX d 26 20 ls st A K = zX d 26 21 ls (zI (-1) :: st) A K := zx_const z26 dX0_pairPosition_20 (by decide) rfl
theorem s26_21 : zX d 26 21 ls [zI x] A K = K (Sum.inl (some (zI x))) A := zx_iret z26 dX0_pairPosition_21 zk26 rfl
theorem s27_0 : zX d 27 0 [zO o, v1] st A K = zX d 27 1 [zO o, v1] (zO o :: st) A K := zx_aload_n z27 dX0_sourceFunction_0 rfl rfl
theorem s27_1 : zX d 27 1 [v0, zI x] st A K = zX d 27 2 [v0, zI x] (zI x :: st) A K := zx_iload_n z27 dX0_sourceFunction_1 rfl rfl
theorem s27_2 (h : tg A a = 1)  : zX (d + 1) 27 2 ls (zI i0 :: zO (some a) :: []) A K = zX d 25 0 [zO (some a), zI i0] [] A (zK (d + 1) 27 2 5 ls [] K) := zx_callV (t := 1) z27 zo27 dX0_sourceFunction_2 rfl C2_243 rfl rfl zm25 rfl rfl (zwt_le (Nat.le_of_ble_eq_true rfl)) rfl h
theorem s27_5 : zX d 27 5 ls (zI x :: st) A K = (if x = 0 then zX d 27 24 ls st A K else zX d 27 8 ls st A K) := zx_if_eq z27 dX0_sourceFunction_5 rfl rfl
theorem s27_8 : zX d 27 8 [zO o, v1] st A K = zX d 27 9 [zO o, v1] (zO o :: st) A K := zx_aload_n z27 dX0_sourceFunction_8 rfl rfl
theorem s27_9 (h : tg A a = 1) : zX d 27 9 ls (zO (some a) :: st) A K = zX d 27 12 ls (fd A a 10 :: st) A K := zx_getf z27 zo27 dX0_sourceFunction_9 F2_47 rfl h
theorem s27_12 : zX d 27 12 [v0, zI x] st A K = zX d 27 13 [v0, zI x] (zI x :: st) A K := zx_iload_n z27 dX0_sourceFunction_12 rfl rfl
theorem s27_13 (h : zarr (tg A a) = 3) (h0 : 0 ≤ x) (h1 : x.toNat < (ra A a).length) : zX d 27 13 ls (zI x :: zO (some a) :: st) A K = zX d 27 14 ls (zO ((ra A a).getD x.toNat none) :: st) A K := zx_aald z27 dX0_sourceFunction_13 rfl h h0 h1
theorem s27_14 (h : tg A a = 7) : zX d 27 14 ls (zO (some a) :: st) A K = zX d 27 17 ls (fd A a 2 :: st) A K := zx_getf z27 zo27 dX0_sourceFunction_14 F2_209 rfl h
theorem s27_17 : zX d 27 17 ls st A K = zX d 27 18 ls (zI 0 :: st) A K := zx_const z27 dX0_sourceFunction_17 (by decide) rfl
theorem s27_18 (h : tg A a = 4)  : zX (d + 1) 27 18 ls (zI i0 :: zO (some a) :: []) A K = zX d 114 0 [zO (some a), zI i0] [] A (zK (d + 1) 27 18 21 ls [] K) := zx_callV (t := 4) z27 zo27 dX0_sourceFunction_18 rfl C2_248 rfl rfl zm114 rfl rfl (zwt_le (Nat.le_of_ble_eq_true rfl)) rfl h
theorem s27_21 : zX d 27 21 ls st A K = zX d 27 25 ls st A K := zx_goto z27 dX0_sourceFunction_21 rfl
theorem s27_24 : zX d 27 24 ls st A K = zX d 27 25 ls (zI (-1) :: st) A K := zx_const z27 dX0_sourceFunction_24 (by decide) rfl
theorem s27_25 : zX d 27 25 ls [zI x] A K = K (Sum.inl (some (zI x))) A := zx_iret z27 dX0_sourceFunction_25 zk27 rfl
theorem s28_0 : zX d 28 0 [zO o, v1] st A K = zX d 28 1 [zO o, v1] (zO o :: st) A K := zx_aload_n z28 dX0_targetFunction_0 rfl rfl
theorem s28_1 : zX d 28 1 [v0, zI x] st A K = zX d 28 2 [v0, zI x] (zI x :: st) A K := zx_iload_n z28 dX0_targetFunction_1 rfl rfl
theorem s28_2 (h : tg A a = 1)  : zX (d + 1) 28 2 ls (zI i0 :: zO (some a) :: []) A K = zX d 25 0 [zO (some a), zI i0] [] A (zK (d + 1) 28 2 5 ls [] K) := zx_callV (t := 1) z28 zo28 dX0_targetFunction_2 rfl C2_243 rfl rfl zm25 rfl rfl (zwt_le (Nat.le_of_ble_eq_true rfl)) rfl h
theorem s28_5 : zX d 28 5 ls (zI x :: st) A K = (if x = 0 then zX d 28 32 ls st A K else zX d 28 8 ls st A K) := zx_if_eq z28 dX0_targetFunction_5 rfl rfl
theorem s28_8 : zX d 28 8 [zO o, v1] st A K = zX d 28 9 [zO o, v1] (zO o :: st) A K := zx_aload_n z28 dX0_targetFunction_8 rfl rfl
theorem s28_9 (h : tg A a = 1) : zX d 28 9 ls (zO (some a) :: st) A K = zX d 28 12 ls (fd A a 10 :: st) A K := zx_getf z28 zo28 dX0_targetFunction_9 F2_47 rfl h
theorem s28_12 : zX d 28 12 [v0, zI x] st A K = zX d 28 13 [v0, zI x] (zI x :: st) A K := zx_iload_n z28 dX0_targetFunction_12 rfl rfl
theorem s28_13 (h : zarr (tg A a) = 3) (h0 : 0 ≤ x) (h1 : x.toNat < (ra A a).length) : zX d 28 13 ls (zI x :: zO (some a) :: st) A K = zX d 28 14 ls (zO ((ra A a).getD x.toNat none) :: st) A K := zx_aald z28 dX0_targetFunction_13 rfl h h0 h1
theorem s28_14 (h : tg A a = 7) : zX d 28 14 ls (zO (some a) :: st) A K = zX d 28 17 ls (fd A a 3 :: st) A K := zx_getf z28 zo28 dX0_targetFunction_14 F2_207 rfl h
theorem s28_17 : zX d 28 17 [zO o, v1] st A K = zX d 28 18 [zO o, v1] (zO o :: st) A K := zx_aload_n z28 dX0_targetFunction_17 rfl rfl
theorem s28_18 (h : tg A a = 1) : zX d 28 18 ls (zO (some a) :: st) A K = zX d 28 21 ls (fd A a 10 :: st) A K := zx_getf z28 zo28 dX0_targetFunction_18 F2_47 rfl h
theorem s28_21 : zX d 28 21 [v0, zI x] st A K = zX d 28 22 [v0, zI x] (zI x :: st) A K := zx_iload_n z28 dX0_targetFunction_21 rfl rfl
theorem s28_22 (h : zarr (tg A a) = 3) (h0 : 0 ≤ x) (h1 : x.toNat < (ra A a).length) : zX d 28 22 ls (zI x :: zO (some a) :: st) A K = zX d 28 23 ls (zO ((ra A a).getD x.toNat none) :: st) A K := zx_aald z28 dX0_targetFunction_22 rfl h h0 h1
theorem s28_23 (h : tg A a = 7) : zX d 28 23 ls (zO (some a) :: st) A K = zX d 28 26 ls (fd A a 1 :: st) A K := zx_getf z28 zo28 dX0_targetFunction_23 F2_208 rfl h
theorem s28_26 (h : tg A a = 4)  : zX (d + 1) 28 26 ls (zI i0 :: zO (some a) :: []) A K = zX d 114 0 [zO (some a), zI i0] [] A (zK (d + 1) 28 26 29 ls [] K) := zx_callV (t := 4) z28 zo28 dX0_targetFunction_26 rfl C2_248 rfl rfl zm114 rfl rfl (zwt_le (Nat.le_of_ble_eq_true rfl)) rfl h
theorem s28_29 : zX d 28 29 ls st A K = zX d 28 33 ls st A K := zx_goto z28 dX0_targetFunction_29 rfl
theorem s28_32 : zX d 28 32 ls st A K = zX d 28 33 ls (zI (-1) :: st) A K := zx_const z28 dX0_targetFunction_32 (by decide) rfl
theorem s28_33 : zX d 28 33 ls [zI x] A K = K (Sum.inl (some (zI x))) A := zx_iret z28 dX0_targetFunction_33 zk28 rfl
theorem s29_0 : zX d 29 0 [zO o, v1, v2] st A K = zX d 29 1 [zO o, v1, v2] (zO o :: st) A K := zx_aload_n z29 dX0_hasEdge_0 rfl rfl
theorem s29_1 : zX d 29 1 [v0, zI x, v2] st A K = zX d 29 2 [v0, zI x, v2] (zI x :: st) A K := zx_iload_n z29 dX0_hasEdge_1 rfl rfl
theorem s29_2 (h : tg A a = 1)  : zX (d + 1) 29 2 ls (zI i0 :: zO (some a) :: []) A K = zX d 25 0 [zO (some a), zI i0] [] A (zK (d + 1) 29 2 5 ls [] K) := zx_callV (t := 1) z29 zo29 dX0_hasEdge_2 rfl C2_243 rfl rfl zm25 rfl rfl (zwt_le (Nat.le_of_ble_eq_true rfl)) rfl h
theorem s29_5 : zX d 29 5 ls (zI x :: st) A K = (if x = 0 then zX d 29 30 ls st A K else zX d 29 8 ls st A K) := zx_if_eq z29 dX0_hasEdge_5 rfl rfl
theorem s29_8 : zX d 29 8 [zO o, v1, v2] st A K = zX d 29 9 [zO o, v1, v2] (zO o :: st) A K := zx_aload_n z29 dX0_hasEdge_8 rfl rfl
theorem s29_9 : zX d 29 9 [v0, v1, zI x] st A K = zX d 29 10 [v0, v1, zI x] (zI x :: st) A K := zx_iload_n z29 dX0_hasEdge_9 rfl rfl
theorem s29_10 (h : tg A a = 1)  : zX (d + 1) 29 10 ls (zI i0 :: zO (some a) :: []) A K = zX d 25 0 [zO (some a), zI i0] [] A (zK (d + 1) 29 10 13 ls [] K) := zx_callV (t := 1) z29 zo29 dX0_hasEdge_10 rfl C2_243 rfl rfl zm25 rfl rfl (zwt_le (Nat.le_of_ble_eq_true rfl)) rfl h
theorem s29_13 : zX d 29 13 ls (zI x :: st) A K = (if x = 0 then zX d 29 30 ls st A K else zX d 29 16 ls st A K) := zx_if_eq z29 dX0_hasEdge_13 rfl rfl
theorem s29_16 : zX d 29 16 [zO o, v1, v2] st A K = zX d 29 17 [zO o, v1, v2] (zO o :: st) A K := zx_aload_n z29 dX0_hasEdge_16 rfl rfl
theorem s29_17 (h : tg A a = 1) : zX d 29 17 ls (zO (some a) :: st) A K = zX d 29 20 ls (fd A a 12 :: st) A K := zx_getf z29 zo29 dX0_hasEdge_17 F2_53 rfl h
theorem s29_20 : zX d 29 20 [v0, zI x, v2] st A K = zX d 29 21 [v0, zI x, v2] (zI x :: st) A K := zx_iload_n z29 dX0_hasEdge_20 rfl rfl
theorem s29_21 (h : zarr (tg A a) = 3) (h0 : 0 ≤ x) (h1 : x.toNat < (ra A a).length) : zX d 29 21 ls (zI x :: zO (some a) :: st) A K = zX d 29 22 ls (zO ((ra A a).getD x.toNat none) :: st) A K := zx_aald z29 dX0_hasEdge_21 rfl h h0 h1
theorem s29_22 : zX d 29 22 [v0, v1, zI x] st A K = zX d 29 23 [v0, v1, zI x] (zI x :: st) A K := zx_iload_n z29 dX0_hasEdge_22 rfl rfl
theorem s29_23 (h : tg A a = 21) (h0 : 0 ≤ x) (h1 : x.toNat < (ia A a).length) : zX d 29 23 ls (zI x :: zO (some a) :: st) A K = zX d 29 24 ls (zI ((ia A a).getD x.toNat 0) :: st) A K := zx_bald z29 dX0_hasEdge_23 rfl h h0 h1
theorem s29_23z (h : tg A a = 22) (h0 : 0 ≤ x) (h1 : x.toNat < (ia A a).length) : zX d 29 23 ls (zI x :: zO (some a) :: st) A K = zX d 29 24 ls (zI ((ia A a).getD x.toNat 0) :: st) A K := zx_zald z29 dX0_hasEdge_23 rfl h h0 h1
theorem s29_24 : zX (d + 1) 29 24 ls (zI i0 :: []) A K = zX d 30 0 [zI i0] [] A (zK (d + 1) 29 24 27 ls [] K) := zx_callS z29 zo29 dX0_hasEdge_24 rfl C2_252 rfl rfl zm30 rfl rfl (zwt_le (Nat.le_of_ble_eq_true rfl)) rfl
theorem s29_27 : zX d 29 27 ls st A K = zX d 29 31 ls st A K := zx_goto z29 dX0_hasEdge_27 rfl
theorem s29_30 : zX d 29 30 ls st A K = zX d 29 31 ls (zI (-1) :: st) A K := zx_const z29 dX0_hasEdge_30 (by decide) rfl
theorem s29_31 : zX d 29 31 ls [zI x] A K = K (Sum.inl (some (zI x))) A := zx_iret z29 dX0_hasEdge_31 zk29 rfl
theorem s30_0 : zX d 30 0 [zI x] st A K = zX d 30 1 [zI x] (zI x :: st) A K := zx_iload_n z30 dX0_asInt_0 rfl rfl
theorem s30_1 : zX d 30 1 ls (zI x :: st) A K = (if x = 0 then zX d 30 8 ls st A K else zX d 30 4 ls st A K) := zx_if_eq z30 dX0_asInt_1 rfl rfl
theorem s30_4 : zX d 30 4 ls st A K = zX d 30 5 ls (zI 1 :: st) A K := zx_const z30 dX0_asInt_4 (by decide) rfl
theorem s30_5 : zX d 30 5 ls st A K = zX d 30 9 ls st A K := zx_goto z30 dX0_asInt_5 rfl
theorem s30_8 : zX d 30 8 ls st A K = zX d 30 9 ls (zI 0 :: st) A K := zx_const z30 dX0_asInt_8 (by decide) rfl
theorem s30_9 : zX d 30 9 ls [zI x] A K = K (Sum.inl (some (zI x))) A := zx_iret z30 dX0_asInt_9 zk30 rfl
theorem s31_0 : zX d 31 0 [zO o, v1, v2, v3] st A K = zX d 31 1 [zO o, v1, v2, v3] (zO o :: st) A K := zx_aload_n z31 dX0_edgeCount_0 rfl rfl
theorem s31_1 (h : tg A a = 1)  : zX (d + 1) 31 1 ls (zO (some a) :: []) A K = zX d 19 0 [zO (some a), zU, zU, zU] [] A (zK (d + 1) 31 1 4 ls [] K) := zx_callV (t := 1) z31 zo31 dX0_edgeCount_1 rfl C2_240 rfl rfl zm19 rfl rfl (zwt_le (Nat.le_of_ble_eq_true rfl)) rfl h
theorem s31_4 : zX d 31 4 ls st A K = zX d 31 5 ls (zI 0 :: st) A K := zx_const z31 dX0_edgeCount_4 (by decide) rfl
theorem s31_5 : zX d 31 5 [v0, v1, v2, v3] (zI x :: st) A K = zX d 31 6 [v0, zI x, v2, v3] st A K := zx_istore_n z31 dX0_edgeCount_5 (Nat.le_of_ble_eq_true rfl) rfl rfl
theorem s31_6 : zX d 31 6 ls st A K = zX d 31 7 ls (zI 0 :: st) A K := zx_const z31 dX0_edgeCount_6 (by decide) rfl
theorem s31_7 : zX d 31 7 [v0, v1, v2, v3] (zI x :: st) A K = zX d 31 8 [v0, v1, zI x, v3] st A K := zx_istore_n z31 dX0_edgeCount_7 (Nat.le_of_ble_eq_true rfl) rfl rfl
theorem s31_8 : zX d 31 8 [v0, v1, zI x, v3] st A K = zX d 31 9 [v0, v1, zI x, v3] (zI x :: st) A K := zx_iload_n z31 dX0_edgeCount_8 rfl rfl
theorem s31_9 : zX d 31 9 [zO o, v1, v2, v3] st A K = zX d 31 10 [zO o, v1, v2, v3] (zO o :: st) A K := zx_aload_n z31 dX0_edgeCount_9 rfl rfl
theorem s31_10 (h : tg A a = 1) : zX d 31 10 ls (zO (some a) :: st) A K = zX d 31 13 ls (fd A a 11 :: st) A K := zx_getf z31 zo31 dX0_edgeCount_10 F2_219 rfl h
theorem s31_13 : zX d 31 13 ls (zI y :: zI x :: st) A K = (if y ≤ x then zX d 31 52 ls st A K else zX d 31 16 ls st A K) := zx_ic_ge z31 dX0_edgeCount_13 rfl rfl
theorem s31_16 : zX d 31 16 ls st A K = zX d 31 17 ls (zI 0 :: st) A K := zx_const z31 dX0_edgeCount_16 (by decide) rfl
theorem s31_17 : zX d 31 17 [v0, v1, v2, v3] (zI x :: st) A K = zX d 31 18 [v0, v1, v2, zI x] st A K := zx_istore_n z31 dX0_edgeCount_17 (Nat.le_of_ble_eq_true rfl) rfl rfl
theorem s31_18 : zX d 31 18 [v0, v1, v2, zI x] st A K = zX d 31 19 [v0, v1, v2, zI x] (zI x :: st) A K := zx_iload_n z31 dX0_edgeCount_18 rfl rfl
theorem s31_19 : zX d 31 19 [zO o, v1, v2, v3] st A K = zX d 31 20 [zO o, v1, v2, v3] (zO o :: st) A K := zx_aload_n z31 dX0_edgeCount_19 rfl rfl
theorem s31_20 (h : tg A a = 1) : zX d 31 20 ls (zO (some a) :: st) A K = zX d 31 23 ls (fd A a 11 :: st) A K := zx_getf z31 zo31 dX0_edgeCount_20 F2_219 rfl h
theorem s31_23 : zX d 31 23 ls (zI y :: zI x :: st) A K = (if y ≤ x then zX d 31 46 ls st A K else zX d 31 26 ls st A K) := zx_ic_ge z31 dX0_edgeCount_23 rfl rfl
theorem s31_26 : zX d 31 26 [v0, zI x, v2, v3] st A K = zX d 31 27 [v0, zI x, v2, v3] (zI x :: st) A K := zx_iload_n z31 dX0_edgeCount_26 rfl rfl
theorem s31_27 : zX d 31 27 [zO o, v1, v2, v3] st A K = zX d 31 28 [zO o, v1, v2, v3] (zO o :: st) A K := zx_aload_n z31 dX0_edgeCount_27 rfl rfl
theorem s31_28 (h : tg A a = 1) : zX d 31 28 ls (zO (some a) :: st) A K = zX d 31 31 ls (fd A a 12 :: st) A K := zx_getf z31 zo31 dX0_edgeCount_28 F2_53 rfl h
theorem s31_31 : zX d 31 31 [v0, v1, zI x, v3] st A K = zX d 31 32 [v0, v1, zI x, v3] (zI x :: st) A K := zx_iload_n z31 dX0_edgeCount_31 rfl rfl
theorem s31_32 (h : zarr (tg A a) = 3) (h0 : 0 ≤ x) (h1 : x.toNat < (ra A a).length) : zX d 31 32 ls (zI x :: zO (some a) :: st) A K = zX d 31 33 ls (zO ((ra A a).getD x.toNat none) :: st) A K := zx_aald z31 dX0_edgeCount_32 rfl h h0 h1
theorem s31_33 : zX d 31 33 [v0, v1, v2, zI x] st A K = zX d 31 34 [v0, v1, v2, zI x] (zI x :: st) A K := zx_iload_n z31 dX0_edgeCount_33 rfl rfl
theorem s31_34 (h : tg A a = 21) (h0 : 0 ≤ x) (h1 : x.toNat < (ia A a).length) : zX d 31 34 ls (zI x :: zO (some a) :: st) A K = zX d 31 35 ls (zI ((ia A a).getD x.toNat 0) :: st) A K := zx_bald z31 dX0_edgeCount_34 rfl h h0 h1
theorem s31_34z (h : tg A a = 22) (h0 : 0 ≤ x) (h1 : x.toNat < (ia A a).length) : zX d 31 34 ls (zI x :: zO (some a) :: st) A K = zX d 31 35 ls (zI ((ia A a).getD x.toNat 0) :: st) A K := zx_zald z31 dX0_edgeCount_34 rfl h h0 h1
theorem s31_35 : zX (d + 1) 31 35 ls (zI i0 :: [w0]) A K = zX d 30 0 [zI i0] [] A (zK (d + 1) 31 35 38 ls [w0] K) := zx_callS z31 zo31 dX0_edgeCount_35 rfl C2_252 rfl rfl zm30 rfl rfl (zwt_le (Nat.le_of_ble_eq_true rfl)) rfl
theorem s31_38 : zX d 31 38 ls (zI y :: zI x :: st) A K = zX d 31 39 ls (zI (zw (x + y)) :: st) A K := zx_iadd z31 dX0_edgeCount_38 rfl
theorem s31_39 : zX d 31 39 [v0, v1, v2, v3] (zI x :: st) A K = zX d 31 40 [v0, zI x, v2, v3] st A K := zx_istore_n z31 dX0_edgeCount_39 (Nat.le_of_ble_eq_true rfl) rfl rfl
theorem s31_40 : zX d 31 40 [v0, v1, v2, zI x] st A K = zX d 31 43 [v0, v1, v2, zI (zw (x + 1))] st A K := zx_iinc z31 dX0_edgeCount_40 rfl rfl rfl
theorem s31_43 : zX d 31 43 ls st A K = zX d 31 18 ls st A K := zx_goto z31 dX0_edgeCount_43 rfl
theorem s31_46 : zX d 31 46 [v0, v1, zI x, v3] st A K = zX d 31 49 [v0, v1, zI (zw (x + 1)), v3] st A K := zx_iinc z31 dX0_edgeCount_46 rfl rfl rfl
theorem s31_49 : zX d 31 49 ls st A K = zX d 31 8 ls st A K := zx_goto z31 dX0_edgeCount_49 rfl
theorem s31_52 : zX d 31 52 [v0, zI x, v2, v3] st A K = zX d 31 53 [v0, zI x, v2, v3] (zI x :: st) A K := zx_iload_n z31 dX0_edgeCount_52 rfl rfl
theorem s31_53 : zX d 31 53 ls [zI x] A K = K (Sum.inl (some (zI x))) A := zx_iret z31 dX0_edgeCount_53 zk31 rfl
theorem s32_0 : zX d 32 0 [zO o] st A K = zX d 32 1 [zO o] (zO o :: st) A K := zx_aload_n z32 dX0_componentCount_0 rfl rfl
theorem s32_1 (h : tg A a = 1)  : zX (d + 1) 32 1 ls (zO (some a) :: []) A K = zX d 19 0 [zO (some a), zU, zU, zU] [] A (zK (d + 1) 32 1 4 ls [] K) := zx_callV (t := 1) z32 zo32 dX0_componentCount_1 rfl C2_240 rfl rfl zm19 rfl rfl (zwt_le (Nat.le_of_ble_eq_true rfl)) rfl h
theorem s32_4 : zX d 32 4 [zO o] st A K = zX d 32 5 [zO o] (zO o :: st) A K := zx_aload_n z32 dX0_componentCount_4 rfl rfl
theorem s32_5 (h : tg A a = 1) : zX d 32 5 ls (zO (some a) :: st) A K = zX d 32 8 ls (fd A a 14 :: st) A K := zx_getf z32 zo32 dX0_componentCount_5 F2_237 rfl h
theorem s32_8 : zX d 32 8 ls [zI x] A K = K (Sum.inl (some (zI x))) A := zx_iret z32 dX0_componentCount_8 zk32 rfl
theorem s33_0 : zX d 33 0 [zO o, v1] st A K = zX d 33 1 [zO o, v1] (zO o :: st) A K := zx_aload_n z33 dX0_componentOf_0 rfl rfl
theorem s33_1 : zX d 33 1 [v0, zI x] st A K = zX d 33 2 [v0, zI x] (zI x :: st) A K := zx_iload_n z33 dX0_componentOf_1 rfl rfl
theorem s33_2 (h : tg A a = 1)  : zX (d + 1) 33 2 ls (zI i0 :: zO (some a) :: []) A K = zX d 25 0 [zO (some a), zI i0] [] A (zK (d + 1) 33 2 5 ls [] K) := zx_callV (t := 1) z33 zo33 dX0_componentOf_2 rfl C2_243 rfl rfl zm25 rfl rfl (zwt_le (Nat.le_of_ble_eq_true rfl)) rfl h
theorem s33_5 : zX d 33 5 ls (zI x :: st) A K = (if x = 0 then zX d 33 17 ls st A K else zX d 33 8 ls st A K) := zx_if_eq z33 dX0_componentOf_5 rfl rfl
theorem s33_8 : zX d 33 8 [zO o, v1] st A K = zX d 33 9 [zO o, v1] (zO o :: st) A K := zx_aload_n z33 dX0_componentOf_8 rfl rfl
theorem s33_9 (h : tg A a = 1) : zX d 33 9 ls (zO (some a) :: st) A K = zX d 33 12 ls (fd A a 13 :: st) A K := zx_getf z33 zo33 dX0_componentOf_9 F2_56 rfl h
theorem s33_12 : zX d 33 12 [v0, zI x] st A K = zX d 33 13 [v0, zI x] (zI x :: st) A K := zx_iload_n z33 dX0_componentOf_12 rfl rfl
theorem s33_13 (h : tg A a = 20) (h0 : 0 ≤ x) (h1 : x.toNat < (ia A a).length) : zX d 33 13 ls (zI x :: zO (some a) :: st) A K = zX d 33 14 ls (zI ((ia A a).getD x.toNat 0) :: st) A K := zx_iald z33 dX0_componentOf_13 rfl h h0 h1
theorem s33_13s (h : tg A a = 30) (h0 : 0 ≤ x) (h1 : x.toNat < (ia A a).length) : zX d 33 13 ls (zI x :: zO (some a) :: st) A K = zX d 33 14 ls (zI ((ia A a).getD x.toNat 0) :: st) A K := zx_sald z33 dX0_componentOf_13 rfl h h0 h1
theorem s33_14 : zX d 33 14 ls st A K = zX d 33 18 ls st A K := zx_goto z33 dX0_componentOf_14 rfl
theorem s33_17 : zX d 33 17 ls st A K = zX d 33 18 ls (zI (-1) :: st) A K := zx_const z33 dX0_componentOf_17 (by decide) rfl
theorem s33_18 : zX d 33 18 ls [zI x] A K = K (Sum.inl (some (zI x))) A := zx_iret z33 dX0_componentOf_18 zk33 rfl
theorem s34_0 : zX d 34 0 [zO o, v1, v2, v3, v4, v5] st A K = zX d 34 1 [zO o, v1, v2, v3, v4, v5] (zO o :: st) A K := zx_aload_n z34 dX0_sizeRelation_0 rfl rfl
theorem s34_1 : zX d 34 1 [v0, zI x, v2, v3, v4, v5] st A K = zX d 34 2 [v0, zI x, v2, v3, v4, v5] (zI x :: st) A K := zx_iload_n z34 dX0_sizeRelation_1 rfl rfl
theorem s34_2 (h : tg A a = 1)  : zX (d + 1) 34 2 ls (zI i0 :: zO (some a) :: []) A K = zX d 25 0 [zO (some a), zI i0] [] A (zK (d + 1) 34 2 5 ls [] K) := zx_callV (t := 1) z34 zo34 dX0_sizeRelation_2 rfl C2_243 rfl rfl zm25 rfl rfl (zwt_le (Nat.le_of_ble_eq_true rfl)) rfl h
theorem s34_5 : zX d 34 5 ls (zI x :: st) A K = (if x ≠ 0 then zX d 34 10 ls st A K else zX d 34 8 ls st A K) := zx_if_ne z34 dX0_sizeRelation_5 rfl rfl
theorem s34_8 : zX d 34 8 ls st A K = zX d 34 9 ls (zI (-1) :: st) A K := zx_const z34 dX0_sizeRelation_8 (by decide) rfl
theorem s34_9 : zX d 34 9 ls [zI x] A K = K (Sum.inl (some (zI x))) A := zx_iret z34 dX0_sizeRelation_9 zk34 rfl
theorem s34_10 : zX d 34 10 [zO o, v1, v2, v3, v4, v5] st A K = zX d 34 11 [zO o, v1, v2, v3, v4, v5] (zO o :: st) A K := zx_aload_n z34 dX0_sizeRelation_10 rfl rfl
theorem s34_11 (h : tg A a = 1) : zX d 34 11 ls (zO (some a) :: st) A K = zX d 34 14 ls (fd A a 10 :: st) A K := zx_getf z34 zo34 dX0_sizeRelation_11 F2_47 rfl h
theorem s34_14 : zX d 34 14 [v0, zI x, v2, v3, v4, v5] st A K = zX d 34 15 [v0, zI x, v2, v3, v4, v5] (zI x :: st) A K := zx_iload_n z34 dX0_sizeRelation_14 rfl rfl
theorem s34_15 (h : zarr (tg A a) = 3) (h0 : 0 ≤ x) (h1 : x.toNat < (ra A a).length) : zX d 34 15 ls (zI x :: zO (some a) :: st) A K = zX d 34 16 ls (zO ((ra A a).getD x.toNat none) :: st) A K := zx_aald z34 dX0_sizeRelation_15 rfl h h0 h1
theorem s34_16 : zX d 34 16 [v0, v1, v2, v3, v4, v5] (zO o :: st) A K = zX d 34 18 [v0, v1, v2, v3, zO o, v5] st A K := zx_astore z34 dX0_sizeRelation_16 (Nat.le_of_ble_eq_true rfl) rfl rfl
theorem s34_18 : zX d 34 18 [v0, v1, zI x, v3, v4, v5] st A K = zX d 34 19 [v0, v1, zI x, v3, v4, v5] (zI x :: st) A K := zx_iload_n z34 dX0_sizeRelation_18 rfl rfl
theorem s34_19 : zX d 34 19 ls (zI x :: st) A K = zX d 34 20 ls (zL x :: st) A K := zx_i2l z34 dX0_sizeRelation_19 rfl
theorem s34_20 : zX d 34 20 ls st A K = zX d 34 21 ls (zL 0 :: st) A K := zx_lconst z34 dX0_sizeRelation_20 rfl
theorem s34_21 : zX d 34 21 [zO o, v1, v2, v3, v4, v5] st A K = zX d 34 22 [zO o, v1, v2, v3, v4, v5] (zO o :: st) A K := zx_aload_n z34 dX0_sizeRelation_21 rfl rfl
theorem s34_22 (h : tg A a = 1) : zX d 34 22 ls (zO (some a) :: st) A K = zX d 34 25 ls (fd A a 0 :: st) A K := zx_getf z34 zo34 dX0_sizeRelation_22 F2_7 rfl h
theorem s34_25 : zX d 34 25 [v0, v1, v2, v3, zO o, v5] st A K = zX d 34 27 [v0, v1, v2, v3, zO o, v5] (zO o :: st) A K := zx_aload z34 dX0_sizeRelation_25 rfl rfl
theorem s34_27 (h : tg A a = 7) : zX d 34 27 ls (zO (some a) :: st) A K = zX d 34 30 ls (fd A a 4 :: st) A K := zx_getf z34 zo34 dX0_sizeRelation_27 F2_283 rfl h
theorem s34_30 (h : tg A a = 3) : zX d 34 30 ls (zO (some a) :: st) A K = zX d 34 33 ls (fd A a 0 :: st) A K := zx_getf z34 zo34 dX0_sizeRelation_30 F2_286 rfl h
theorem s34_33 (h : tg A a = 20) (h0 : 0 ≤ x) (h1 : x.toNat < (ia A a).length) : zX d 34 33 ls (zI x :: zO (some a) :: st) A K = zX d 34 34 ls (zI ((ia A a).getD x.toNat 0) :: st) A K := zx_iald z34 dX0_sizeRelation_33 rfl h h0 h1
theorem s34_33s (h : tg A a = 30) (h0 : 0 ≤ x) (h1 : x.toNat < (ia A a).length) : zX d 34 33 ls (zI x :: zO (some a) :: st) A K = zX d 34 34 ls (zI ((ia A a).getD x.toNat 0) :: st) A K := zx_sald z34 dX0_sizeRelation_33 rfl h h0 h1
theorem s34_34 : zX d 34 34 ls st A K = zX d 34 35 ls (zI 1 :: st) A K := zx_const z34 dX0_sizeRelation_34 (by decide) rfl
theorem s34_35 : zX d 34 35 ls (zI y :: zI x :: st) A K = zX d 34 36 ls (zI (zw (x - y)) :: st) A K := zx_isub z34 dX0_sizeRelation_35 rfl
theorem s34_36 : zX d 34 36 ls (zI x :: st) A K = zX d 34 37 ls (zL x :: st) A K := zx_i2l z34 dX0_sizeRelation_36 rfl
theorem s34_37 : zX d 34 37 ls (zL y :: zL x :: zL w :: []) A K = zX d 34 40 ls (zI (zb (decide (x ≤ w ∧ w ≤ y))) :: []) A K := zx_inS z34 zo34 dX0_sizeRelation_37 rfl rfl rfl (zin_2 (zwt_le (Nat.le_of_ble_eq_true rfl)))
theorem s34_40 : zX d 34 40 ls (zI x :: st) A K = (if x = 0 then zX d 34 72 ls st A K else zX d 34 43 ls st A K) := zx_if_eq z34 dX0_sizeRelation_40 rfl rfl
theorem s34_43 : zX d 34 43 [v0, v1, v2, zI x, v4, v5] st A K = zX d 34 44 [v0, v1, v2, zI x, v4, v5] (zI x :: st) A K := zx_iload_n z34 dX0_sizeRelation_43 rfl rfl
theorem s34_44 : zX d 34 44 ls (zI x :: st) A K = zX d 34 45 ls (zL x :: st) A K := zx_i2l z34 dX0_sizeRelation_44 rfl
theorem s34_45 : zX d 34 45 ls st A K = zX d 34 46 ls (zL 0 :: st) A K := zx_lconst z34 dX0_sizeRelation_45 rfl
theorem s34_46 : zX d 34 46 [zO o, v1, v2, v3, v4, v5] st A K = zX d 34 47 [zO o, v1, v2, v3, v4, v5] (zO o :: st) A K := zx_aload_n z34 dX0_sizeRelation_46 rfl rfl
theorem s34_47 (h : tg A a = 1) : zX d 34 47 ls (zO (some a) :: st) A K = zX d 34 50 ls (fd A a 0 :: st) A K := zx_getf z34 zo34 dX0_sizeRelation_47 F2_7 rfl h
theorem s34_50 : zX d 34 50 [v0, v1, v2, v3, zO o, v5] st A K = zX d 34 52 [v0, v1, v2, v3, zO o, v5] (zO o :: st) A K := zx_aload z34 dX0_sizeRelation_50 rfl rfl
theorem s34_52 (h : tg A a = 7) : zX d 34 52 ls (zO (some a) :: st) A K = zX d 34 55 ls (fd A a 4 :: st) A K := zx_getf z34 zo34 dX0_sizeRelation_52 F2_283 rfl h
theorem s34_55 (h : tg A a = 3) : zX d 34 55 ls (zO (some a) :: st) A K = zX d 34 58 ls (fd A a 1 :: st) A K := zx_getf z34 zo34 dX0_sizeRelation_55 F2_289 rfl h
theorem s34_58 (h : tg A a = 20) (h0 : 0 ≤ x) (h1 : x.toNat < (ia A a).length) : zX d 34 58 ls (zI x :: zO (some a) :: st) A K = zX d 34 59 ls (zI ((ia A a).getD x.toNat 0) :: st) A K := zx_iald z34 dX0_sizeRelation_58 rfl h h0 h1
theorem s34_58s (h : tg A a = 30) (h0 : 0 ≤ x) (h1 : x.toNat < (ia A a).length) : zX d 34 58 ls (zI x :: zO (some a) :: st) A K = zX d 34 59 ls (zI ((ia A a).getD x.toNat 0) :: st) A K := zx_sald z34 dX0_sizeRelation_58 rfl h h0 h1
theorem s34_59 : zX d 34 59 ls st A K = zX d 34 60 ls (zI 1 :: st) A K := zx_const z34 dX0_sizeRelation_59 (by decide) rfl
theorem s34_60 : zX d 34 60 ls (zI y :: zI x :: st) A K = zX d 34 61 ls (zI (zw (x - y)) :: st) A K := zx_isub z34 dX0_sizeRelation_60 rfl
theorem s34_61 : zX d 34 61 ls (zI x :: st) A K = zX d 34 62 ls (zL x :: st) A K := zx_i2l z34 dX0_sizeRelation_61 rfl
theorem s34_62 : zX d 34 62 ls (zL y :: zL x :: zL w :: []) A K = zX d 34 65 ls (zI (zb (decide (x ≤ w ∧ w ≤ y))) :: []) A K := zx_inS z34 zo34 dX0_sizeRelation_62 rfl rfl rfl (zin_2 (zwt_le (Nat.le_of_ble_eq_true rfl)))
theorem s34_65 : zX d 34 65 ls (zI x :: st) A K = (if x = 0 then zX d 34 72 ls st A K else zX d 34 68 ls st A K) := zx_if_eq z34 dX0_sizeRelation_65 rfl rfl
theorem s34_68 : zX d 34 68 ls st A K = zX d 34 69 ls (zI 1 :: st) A K := zx_const z34 dX0_sizeRelation_68 (by decide) rfl
theorem s34_69 : zX d 34 69 ls st A K = zX d 34 73 ls st A K := zx_goto z34 dX0_sizeRelation_69 rfl
theorem s34_72 : zX d 34 72 ls st A K = zX d 34 73 ls (zI 0 :: st) A K := zx_const z34 dX0_sizeRelation_72 (by decide) rfl
theorem s34_73 : zX d 34 73 [v0, v1, v2, v3, v4, v5] (zI x :: st) A K = zX d 34 75 [v0, v1, v2, v3, v4, zI x] st A K := zx_istore z34 dX0_sizeRelation_73 (Nat.le_of_ble_eq_true rfl) rfl rfl
theorem s34_75 : zX d 34 75 [v0, v1, v2, v3, v4, zI x] st A K = zX d 34 77 [v0, v1, v2, v3, v4, zI x] (zI x :: st) A K := zx_iload z34 dX0_sizeRelation_75 rfl rfl
theorem s34_77 : zX d 34 77 ls (zI x :: st) A K = (if x = 0 then zX d 34 90 ls st A K else zX d 34 80 ls st A K) := zx_if_eq z34 dX0_sizeRelation_77 rfl rfl
theorem s34_80 : zX d 34 80 [v0, v1, v2, v3, zO o, v5] st A K = zX d 34 82 [v0, v1, v2, v3, zO o, v5] (zO o :: st) A K := zx_aload z34 dX0_sizeRelation_80 rfl rfl
theorem s34_82 : zX d 34 82 [v0, v1, zI x, v3, v4, v5] st A K = zX d 34 83 [v0, v1, zI x, v3, v4, v5] (zI x :: st) A K := zx_iload_n z34 dX0_sizeRelation_82 rfl rfl
theorem s34_83 : zX d 34 83 [v0, v1, v2, zI x, v4, v5] st A K = zX d 34 84 [v0, v1, v2, zI x, v4, v5] (zI x :: st) A K := zx_iload_n z34 dX0_sizeRelation_83 rfl rfl
theorem s34_84 (h : tg A a = 7)  : zX (d + 1) 34 84 ls (zI i1 :: zI i0 :: zO (some a) :: []) A K = zX d 122 0 [zO (some a), zI i0, zI i1] [] A (zK (d + 1) 34 84 87 ls [] K) := zx_callV (t := 7) z34 zo34 dX0_sizeRelation_84 rfl C2_292 rfl rfl zm122 rfl rfl (zwt_le (Nat.le_of_ble_eq_true rfl)) rfl h
theorem s34_87 : zX d 34 87 ls st A K = zX d 34 91 ls st A K := zx_goto z34 dX0_sizeRelation_87 rfl
theorem s34_90 : zX d 34 90 ls st A K = zX d 34 91 ls (zI (-1) :: st) A K := zx_const z34 dX0_sizeRelation_90 (by decide) rfl
theorem s34_91 : zX d 34 91 ls [zI x] A K = K (Sum.inl (some (zI x))) A := zx_iret z34 dX0_sizeRelation_91 zk34 rfl
theorem s35_0 : zX d 35 0 [zO o] st A K = zX d 35 1 [zO o] (zO o :: st) A K := zx_aload_n z35 dX0_closureSize_0 rfl rfl
theorem s35_1 (h : tg A a = 1)  : zX (d + 1) 35 1 ls (zO (some a) :: []) A K = zX d 36 0 [zO (some a), zU, zU, zU] [] A (zK (d + 1) 35 1 4 ls [] K) := zx_callV (t := 1) z35 zo35 dX0_closureSize_1 rfl C2_326 rfl rfl zm36 rfl rfl (zwt_le (Nat.le_of_ble_eq_true rfl)) rfl h
theorem s35_4 : zX d 35 4 ls (zI x :: st) A K = (if x = 0 then zX d 35 17 ls st A K else zX d 35 7 ls st A K) := zx_if_eq z35 dX0_closureSize_4 rfl rfl
theorem s35_7 : zX d 35 7 [zO o] st A K = zX d 35 8 [zO o] (zO o :: st) A K := zx_aload_n z35 dX0_closureSize_7 rfl rfl
theorem s35_8 (h : tg A a = 1) : zX d 35 8 ls (zO (some a) :: st) A K = zX d 35 11 ls (fd A a 18 :: st) A K := zx_getf z35 zo35 dX0_closureSize_8 F2_76 rfl h
theorem s35_11 (h : tg A a = 14)  : zX (d + 1) 35 11 ls (zO (some a) :: []) A K = zX d 264 0 [zO (some a)] [] A (zK (d + 1) 35 11 14 ls [] K) := zx_callV (t := 14) z35 zo35 dX0_closureSize_11 rfl C2_330 rfl rfl zm264 rfl rfl (zwt_le (Nat.le_of_ble_eq_true rfl)) rfl h
theorem s35_14 : zX d 35 14 ls st A K = zX d 35 19 ls st A K := zx_goto z35 dX0_closureSize_14 rfl
theorem s35_17 : zX d 35 17 ls st A K = zX d 35 19 ls (zI (-8) :: st) A K := zx_bipush z35 dX0_closureSize_17 (by decide) rfl
theorem s35_19 : zX d 35 19 ls [zI x] A K = K (Sum.inl (some (zI x))) A := zx_iret z35 dX0_closureSize_19 zk35 rfl
theorem s36_0 : zX d 36 0 [zO o, v1, v2, v3] st A K = zX d 36 1 [zO o, v1, v2, v3] (zO o :: st) A K := zx_aload_n z36 dX0_computeClosure_0 rfl rfl
theorem s36_1 (h : tg A a = 1)  : zX (d + 1) 36 1 ls (zO (some a) :: []) A K = zX d 19 0 [zO (some a), zU, zU, zU] [] A (zK (d + 1) 36 1 4 ls [] K) := zx_callV (t := 1) z36 zo36 dX0_computeClosure_1 rfl C2_240 rfl rfl zm19 rfl rfl (zwt_le (Nat.le_of_ble_eq_true rfl)) rfl h
theorem s36_4 : zX d 36 4 [zO o, v1, v2, v3] st A K = zX d 36 5 [zO o, v1, v2, v3] (zO o :: st) A K := zx_aload_n z36 dX0_computeClosure_4 rfl rfl
theorem s36_5 (h : tg A a = 1) : zX d 36 5 ls (zO (some a) :: st) A K = zX d 36 8 ls (fd A a 21 :: st) A K := zx_getf z36 zo36 dX0_computeClosure_5 F2_216 rfl h
theorem s36_8 : zX d 36 8 ls (zI x :: st) A K = (if x = 0 then zX d 36 16 ls st A K else zX d 36 11 ls st A K) := zx_if_eq z36 dX0_computeClosure_8 rfl rfl
theorem s36_11 : zX d 36 11 [zO o, v1, v2, v3] st A K = zX d 36 12 [zO o, v1, v2, v3] (zO o :: st) A K := zx_aload_n z36 dX0_computeClosure_11 rfl rfl
theorem s36_12 (h : tg A a = 1) : zX d 36 12 ls (zO (some a) :: st) A K = zX d 36 15 ls (fd A a 22 :: st) A K := zx_getf z36 zo36 dX0_computeClosure_12 F2_318 rfl h
theorem s36_15 (h : x = 0 ∨ x = 1) : zX d 36 15 ls [zI x] A K = K (Sum.inl (some (zI x))) A := zx_iret z36 dX0_computeClosure_15 zk36 (by rcases h with q | q <;> subst q <;> rfl)
theorem s36_16 : zX d 36 16 [zO o, v1, v2, v3] st A K = zX d 36 17 [zO o, v1, v2, v3] (zO o :: st) A K := zx_aload_n z36 dX0_computeClosure_16 rfl rfl
theorem s36_17 (h : tg A a = 1) : zX d 36 17 ls (zO (some a) :: st) A K = zX d 36 20 ls (fd A a 18 :: st) A K := zx_getf z36 zo36 dX0_computeClosure_17 F2_76 rfl h
theorem s36_20 (h : tg A a = 14)  : zX (d + 1) 36 20 ls (zO (some a) :: []) A K = zX d 261 0 [zO (some a)] [] A (zK (d + 1) 36 20 23 ls [] K) := zx_callV (t := 14) z36 zo36 dX0_computeClosure_20 rfl C2_321 rfl rfl zm261 rfl rfl (zwt_le (Nat.le_of_ble_eq_true rfl)) rfl h
theorem s36_23 : zX d 36 23 ls st A K = zX d 36 24 ls (zI 0 :: st) A K := zx_const z36 dX0_computeClosure_23 (by decide) rfl
theorem s36_24 : zX d 36 24 [v0, v1, v2, v3] (zI x :: st) A K = zX d 36 25 [v0, zI x, v2, v3] st A K := zx_istore_n z36 dX0_computeClosure_24 (Nat.le_of_ble_eq_true rfl) rfl rfl
theorem s36_25 : zX d 36 25 ls st A K = zX d 36 26 ls (zI 0 :: st) A K := zx_const z36 dX0_computeClosure_25 (by decide) rfl
theorem s36_26 : zX d 36 26 [v0, v1, v2, v3] (zI x :: st) A K = zX d 36 27 [v0, v1, zI x, v3] st A K := zx_istore_n z36 dX0_computeClosure_26 (Nat.le_of_ble_eq_true rfl) rfl rfl
theorem s36_27 : zX d 36 27 [v0, v1, zI x, v3] st A K = zX d 36 28 [v0, v1, zI x, v3] (zI x :: st) A K := zx_iload_n z36 dX0_computeClosure_27 rfl rfl
theorem s36_28 : zX d 36 28 [zO o, v1, v2, v3] st A K = zX d 36 29 [zO o, v1, v2, v3] (zO o :: st) A K := zx_aload_n z36 dX0_computeClosure_28 rfl rfl
theorem s36_29 (h : tg A a = 1) : zX d 36 29 ls (zO (some a) :: st) A K = zX d 36 32 ls (fd A a 11 :: st) A K := zx_getf z36 zo36 dX0_computeClosure_29 F2_219 rfl h
theorem s36_32 : zX d 36 32 ls (zI y :: zI x :: st) A K = (if y ≤ x then zX d 36 56 ls st A K else zX d 36 35 ls st A K) := zx_ic_ge z36 dX0_computeClosure_32 rfl rfl
theorem s36_35 : zX d 36 35 [zO o, v1, v2, v3] st A K = zX d 36 36 [zO o, v1, v2, v3] (zO o :: st) A K := zx_aload_n z36 dX0_computeClosure_35 rfl rfl
theorem s36_36 : zX d 36 36 [zO o, v1, v2, v3] st A K = zX d 36 37 [zO o, v1, v2, v3] (zO o :: st) A K := zx_aload_n z36 dX0_computeClosure_36 rfl rfl
theorem s36_37 (h : tg A a = 1) : zX d 36 37 ls (zO (some a) :: st) A K = zX d 36 40 ls (fd A a 10 :: st) A K := zx_getf z36 zo36 dX0_computeClosure_37 F2_47 rfl h
theorem s36_40 : zX d 36 40 [v0, v1, zI x, v3] st A K = zX d 36 41 [v0, v1, zI x, v3] (zI x :: st) A K := zx_iload_n z36 dX0_computeClosure_40 rfl rfl
theorem s36_41 (h : zarr (tg A a) = 3) (h0 : 0 ≤ x) (h1 : x.toNat < (ra A a).length) : zX d 36 41 ls (zI x :: zO (some a) :: st) A K = zX d 36 42 ls (zO ((ra A a).getD x.toNat none) :: st) A K := zx_aald z36 dX0_computeClosure_41 rfl h h0 h1
theorem s36_42 (h : tg A a = 7) : zX d 36 42 ls (zO (some a) :: st) A K = zX d 36 45 ls (fd A a 4 :: st) A K := zx_getf z36 zo36 dX0_computeClosure_42 F2_283 rfl h
theorem s36_45 : zX d 36 45 [v0, zI x, v2, v3] st A K = zX d 36 46 [v0, zI x, v2, v3] (zI x :: st) A K := zx_iload_n z36 dX0_computeClosure_45 rfl rfl
theorem s36_46 (h : tg A a = 1)  : zX (d + 1) 36 46 ls (zI i1 :: zO o0 :: zO (some a) :: []) A K = zX d 37 0 [zO (some a), zO o0, zI i1] [] A (zK (d + 1) 36 46 49 ls [] K) := zx_callV (t := 1) z36 zo36 dX0_computeClosure_46 rfl C2_310 rfl rfl zm37 rfl rfl (zwt_le (Nat.le_of_ble_eq_true rfl)) rfl h
theorem s36_49 : zX d 36 49 [v0, v1, v2, v3] (zI x :: st) A K = zX d 36 50 [v0, zI x, v2, v3] st A K := zx_istore_n z36 dX0_computeClosure_49 (Nat.le_of_ble_eq_true rfl) rfl rfl
theorem s36_50 : zX d 36 50 [v0, v1, zI x, v3] st A K = zX d 36 53 [v0, v1, zI (zw (x + 1)), v3] st A K := zx_iinc z36 dX0_computeClosure_50 rfl rfl rfl
theorem s36_53 : zX d 36 53 ls st A K = zX d 36 27 ls st A K := zx_goto z36 dX0_computeClosure_53 rfl
theorem s36_56 : zX d 36 56 ls st A K = zX d 36 57 ls (zI 0 :: st) A K := zx_const z36 dX0_computeClosure_56 (by decide) rfl
theorem s36_57 : zX d 36 57 [v0, v1, v2, v3] (zI x :: st) A K = zX d 36 58 [v0, v1, zI x, v3] st A K := zx_istore_n z36 dX0_computeClosure_57 (Nat.le_of_ble_eq_true rfl) rfl rfl
theorem s36_58 : zX d 36 58 [v0, v1, zI x, v3] st A K = zX d 36 59 [v0, v1, zI x, v3] (zI x :: st) A K := zx_iload_n z36 dX0_computeClosure_58 rfl rfl
theorem s36_59 : zX d 36 59 [v0, zI x, v2, v3] st A K = zX d 36 60 [v0, zI x, v2, v3] (zI x :: st) A K := zx_iload_n z36 dX0_computeClosure_59 rfl rfl
theorem s36_60 : zX d 36 60 ls (zI y :: zI x :: st) A K = (if y ≤ x then zX d 36 132 ls st A K else zX d 36 63 ls st A K) := zx_ic_ge z36 dX0_computeClosure_60 rfl rfl
theorem s36_63 : zX d 36 63 [v0, zI x, v2, v3] st A K = zX d 36 64 [v0, zI x, v2, v3] (zI x :: st) A K := zx_iload_n z36 dX0_computeClosure_63 rfl rfl
theorem s36_64 : zX d 36 64 ls st A K = zX d 36 67 ls (zI (400) :: st) A K := zx_sipush z36 dX0_computeClosure_64 (by decide) rfl
theorem s36_67 : zX d 36 67 ls (zI y :: zI x :: st) A K = (if y < x then zX d 36 132 ls st A K else zX d 36 70 ls st A K) := zx_ic_gt z36 dX0_computeClosure_67 rfl rfl
theorem s36_70 : zX d 36 70 ls st A K = zX d 36 71 ls (zI 0 :: st) A K := zx_const z36 dX0_computeClosure_70 (by decide) rfl
theorem s36_71 : zX d 36 71 [v0, v1, v2, v3] (zI x :: st) A K = zX d 36 72 [v0, v1, v2, zI x] st A K := zx_istore_n z36 dX0_computeClosure_71 (Nat.le_of_ble_eq_true rfl) rfl rfl
theorem s36_72 : zX d 36 72 [v0, v1, v2, zI x] st A K = zX d 36 73 [v0, v1, v2, zI x] (zI x :: st) A K := zx_iload_n z36 dX0_computeClosure_72 rfl rfl
theorem s36_73 : zX d 36 73 [v0, v1, zI x, v3] st A K = zX d 36 74 [v0, v1, zI x, v3] (zI x :: st) A K := zx_iload_n z36 dX0_computeClosure_73 rfl rfl
theorem s36_74 : zX d 36 74 ls (zI y :: zI x :: st) A K = (if y < x then zX d 36 126 ls st A K else zX d 36 77 ls st A K) := zx_ic_gt z36 dX0_computeClosure_74 rfl rfl
theorem s36_77 : zX d 36 77 [v0, zI x, v2, v3] st A K = zX d 36 78 [v0, zI x, v2, v3] (zI x :: st) A K := zx_iload_n z36 dX0_computeClosure_77 rfl rfl
theorem s36_78 : zX d 36 78 ls st A K = zX d 36 81 ls (zI (400) :: st) A K := zx_sipush z36 dX0_computeClosure_78 (by decide) rfl
theorem s36_81 : zX d 36 81 ls (zI y :: zI x :: st) A K = (if y < x then zX d 36 126 ls st A K else zX d 36 84 ls st A K) := zx_ic_gt z36 dX0_computeClosure_81 rfl rfl
theorem s36_84 : zX d 36 84 [zO o, v1, v2, v3] st A K = zX d 36 85 [zO o, v1, v2, v3] (zO o :: st) A K := zx_aload_n z36 dX0_computeClosure_84 rfl rfl
theorem s36_85 : zX d 36 85 [zO o, v1, v2, v3] st A K = zX d 36 86 [zO o, v1, v2, v3] (zO o :: st) A K := zx_aload_n z36 dX0_computeClosure_85 rfl rfl
theorem s36_86 (h : tg A a = 1) : zX d 36 86 ls (zO (some a) :: st) A K = zX d 36 89 ls (fd A a 19 :: st) A K := zx_getf z36 zo36 dX0_computeClosure_86 F2_82 rfl h
theorem s36_89 : zX d 36 89 [v0, v1, zI x, v3] st A K = zX d 36 90 [v0, v1, zI x, v3] (zI x :: st) A K := zx_iload_n z36 dX0_computeClosure_89 rfl rfl
theorem s36_90 (h : zarr (tg A a) = 3) (h0 : 0 ≤ x) (h1 : x.toNat < (ra A a).length) : zX d 36 90 ls (zI x :: zO (some a) :: st) A K = zX d 36 91 ls (zO ((ra A a).getD x.toNat none) :: st) A K := zx_aald z36 dX0_computeClosure_90 rfl h h0 h1
theorem s36_91 : zX d 36 91 [zO o, v1, v2, v3] st A K = zX d 36 92 [zO o, v1, v2, v3] (zO o :: st) A K := zx_aload_n z36 dX0_computeClosure_91 rfl rfl
theorem s36_92 (h : tg A a = 1) : zX d 36 92 ls (zO (some a) :: st) A K = zX d 36 95 ls (fd A a 19 :: st) A K := zx_getf z36 zo36 dX0_computeClosure_92 F2_82 rfl h
theorem s36_95 : zX d 36 95 [v0, v1, v2, zI x] st A K = zX d 36 96 [v0, v1, v2, zI x] (zI x :: st) A K := zx_iload_n z36 dX0_computeClosure_95 rfl rfl
theorem s36_96 (h : zarr (tg A a) = 3) (h0 : 0 ≤ x) (h1 : x.toNat < (ra A a).length) : zX d 36 96 ls (zI x :: zO (some a) :: st) A K = zX d 36 97 ls (zO ((ra A a).getD x.toNat none) :: st) A K := zx_aald z36 dX0_computeClosure_96 rfl h h0 h1
theorem s36_97 : zX d 36 97 [v0, zI x, v2, v3] st A K = zX d 36 98 [v0, zI x, v2, v3] (zI x :: st) A K := zx_iload_n z36 dX0_computeClosure_97 rfl rfl
theorem s36_98 (h : tg A a = 1)  : zX (d + 1) 36 98 ls (zI i2 :: zO o1 :: zO o0 :: zO (some a) :: []) A K = zX d 38 0 [zO (some a), zO o0, zO o1, zI i2] [] A (zK (d + 1) 36 98 101 ls [] K) := zx_callV (t := 1) z36 zo36 dX0_computeClosure_98 rfl C2_322 rfl rfl zm38 rfl rfl (zwt_le (Nat.le_of_ble_eq_true rfl)) rfl h
theorem s36_101 : zX d 36 101 [v0, v1, v2, v3] (zI x :: st) A K = zX d 36 102 [v0, zI x, v2, v3] st A K := zx_istore_n z36 dX0_computeClosure_101 (Nat.le_of_ble_eq_true rfl) rfl rfl
theorem s36_102 : zX d 36 102 [zO o, v1, v2, v3] st A K = zX d 36 103 [zO o, v1, v2, v3] (zO o :: st) A K := zx_aload_n z36 dX0_computeClosure_102 rfl rfl
theorem s36_103 : zX d 36 103 [zO o, v1, v2, v3] st A K = zX d 36 104 [zO o, v1, v2, v3] (zO o :: st) A K := zx_aload_n z36 dX0_computeClosure_103 rfl rfl
theorem s36_104 (h : tg A a = 1) : zX d 36 104 ls (zO (some a) :: st) A K = zX d 36 107 ls (fd A a 19 :: st) A K := zx_getf z36 zo36 dX0_computeClosure_104 F2_82 rfl h
theorem s36_107 : zX d 36 107 [v0, v1, v2, zI x] st A K = zX d 36 108 [v0, v1, v2, zI x] (zI x :: st) A K := zx_iload_n z36 dX0_computeClosure_107 rfl rfl
theorem s36_108 (h : zarr (tg A a) = 3) (h0 : 0 ≤ x) (h1 : x.toNat < (ra A a).length) : zX d 36 108 ls (zI x :: zO (some a) :: st) A K = zX d 36 109 ls (zO ((ra A a).getD x.toNat none) :: st) A K := zx_aald z36 dX0_computeClosure_108 rfl h h0 h1
theorem s36_109 : zX d 36 109 [zO o, v1, v2, v3] st A K = zX d 36 110 [zO o, v1, v2, v3] (zO o :: st) A K := zx_aload_n z36 dX0_computeClosure_109 rfl rfl
theorem s36_110 (h : tg A a = 1) : zX d 36 110 ls (zO (some a) :: st) A K = zX d 36 113 ls (fd A a 19 :: st) A K := zx_getf z36 zo36 dX0_computeClosure_110 F2_82 rfl h
theorem s36_113 : zX d 36 113 [v0, v1, zI x, v3] st A K = zX d 36 114 [v0, v1, zI x, v3] (zI x :: st) A K := zx_iload_n z36 dX0_computeClosure_113 rfl rfl
theorem s36_114 (h : zarr (tg A a) = 3) (h0 : 0 ≤ x) (h1 : x.toNat < (ra A a).length) : zX d 36 114 ls (zI x :: zO (some a) :: st) A K = zX d 36 115 ls (zO ((ra A a).getD x.toNat none) :: st) A K := zx_aald z36 dX0_computeClosure_114 rfl h h0 h1
theorem s36_115 : zX d 36 115 [v0, zI x, v2, v3] st A K = zX d 36 116 [v0, zI x, v2, v3] (zI x :: st) A K := zx_iload_n z36 dX0_computeClosure_115 rfl rfl
theorem s36_116 (h : tg A a = 1)  : zX (d + 1) 36 116 ls (zI i2 :: zO o1 :: zO o0 :: zO (some a) :: []) A K = zX d 38 0 [zO (some a), zO o0, zO o1, zI i2] [] A (zK (d + 1) 36 116 119 ls [] K) := zx_callV (t := 1) z36 zo36 dX0_computeClosure_116 rfl C2_322 rfl rfl zm38 rfl rfl (zwt_le (Nat.le_of_ble_eq_true rfl)) rfl h
theorem s36_119 : zX d 36 119 [v0, v1, v2, v3] (zI x :: st) A K = zX d 36 120 [v0, zI x, v2, v3] st A K := zx_istore_n z36 dX0_computeClosure_119 (Nat.le_of_ble_eq_true rfl) rfl rfl
theorem s36_120 : zX d 36 120 [v0, v1, v2, zI x] st A K = zX d 36 123 [v0, v1, v2, zI (zw (x + 1))] st A K := zx_iinc z36 dX0_computeClosure_120 rfl rfl rfl
theorem s36_123 : zX d 36 123 ls st A K = zX d 36 72 ls st A K := zx_goto z36 dX0_computeClosure_123 rfl
theorem s36_126 : zX d 36 126 [v0, v1, zI x, v3] st A K = zX d 36 129 [v0, v1, zI (zw (x + 1)), v3] st A K := zx_iinc z36 dX0_computeClosure_126 rfl rfl rfl
theorem s36_129 : zX d 36 129 ls st A K = zX d 36 58 ls st A K := zx_goto z36 dX0_computeClosure_129 rfl
theorem s36_132 : zX d 36 132 [zO o, v1, v2, v3] st A K = zX d 36 133 [zO o, v1, v2, v3] (zO o :: st) A K := zx_aload_n z36 dX0_computeClosure_132 rfl rfl
theorem s36_133 : zX d 36 133 ls st A K = zX d 36 134 ls (zI 1 :: st) A K := zx_const z36 dX0_computeClosure_133 (by decide) rfl
theorem s36_134 (h : tg A a = 1) (h2 : x = 0 ∨ x = 1) : zX d 36 134 ls (zI x :: zO (some a) :: st) A K = zX d 36 137 ls st (pF A a 21 (zI x)) K := zx_putf (q := 1) z36 zo36 dX0_computeClosure_134 F2_216 rfl rfl rfl h (by rcases h2 with q | q <;> subst q <;> rfl)
theorem s36_137 : zX d 36 137 [zO o, v1, v2, v3] st A K = zX d 36 138 [zO o, v1, v2, v3] (zO o :: st) A K := zx_aload_n z36 dX0_computeClosure_137 rfl rfl
theorem s36_138 : zX d 36 138 [v0, zI x, v2, v3] st A K = zX d 36 139 [v0, zI x, v2, v3] (zI x :: st) A K := zx_iload_n z36 dX0_computeClosure_138 rfl rfl
theorem s36_139 : zX d 36 139 ls st A K = zX d 36 142 ls (zI (400) :: st) A K := zx_sipush z36 dX0_computeClosure_139 (by decide) rfl
theorem s36_142 : zX d 36 142 ls (zI y :: zI x :: st) A K = (if y < x then zX d 36 149 ls st A K else zX d 36 145 ls st A K) := zx_ic_gt z36 dX0_computeClosure_142 rfl rfl
theorem s36_145 : zX d 36 145 ls st A K = zX d 36 146 ls (zI 1 :: st) A K := zx_const z36 dX0_computeClosure_145 (by decide) rfl
theorem s36_146 : zX d 36 146 ls st A K = zX d 36 150 ls st A K := zx_goto z36 dX0_computeClosure_146 rfl
theorem s36_149 : zX d 36 149 ls st A K = zX d 36 150 ls (zI 0 :: st) A K := zx_const z36 dX0_computeClosure_149 (by decide) rfl
theorem s36_150 (h : tg A a = 1) (h2 : x = 0 ∨ x = 1) : zX d 36 150 ls (zI x :: zO (some a) :: st) A K = zX d 36 153 ls st (pF A a 22 (zI x)) K := zx_putf (q := 1) z36 zo36 dX0_computeClosure_150 F2_318 rfl rfl rfl h (by rcases h2 with q | q <;> subst q <;> rfl)
theorem s36_153 : zX d 36 153 [zO o, v1, v2, v3] st A K = zX d 36 154 [zO o, v1, v2, v3] (zO o :: st) A K := zx_aload_n z36 dX0_computeClosure_153 rfl rfl
theorem s36_154 (h : tg A a = 1) : zX d 36 154 ls (zO (some a) :: st) A K = zX d 36 157 ls (fd A a 22 :: st) A K := zx_getf z36 zo36 dX0_computeClosure_154 F2_318 rfl h
theorem s36_157 (h : x = 0 ∨ x = 1) : zX d 36 157 ls [zI x] A K = K (Sum.inl (some (zI x))) A := zx_iret z36 dX0_computeClosure_157 zk36 (by rcases h with q | q <;> subst q <;> rfl)
theorem s37_0 : zX d 37 0 [v0, v1, zI x] st A K = zX d 37 1 [v0, v1, zI x] (zI x :: st) A K := zx_iload_n z37 dX0_addToClosure_0 rfl rfl
theorem s37_1 : zX d 37 1 ls st A K = zX d 37 4 ls (zI (400) :: st) A K := zx_sipush z37 dX0_addToClosure_1 (by decide) rfl
theorem s37_4 : zX d 37 4 ls (zI y :: zI x :: st) A K = (if y < x then zX d 37 18 ls st A K else zX d 37 7 ls st A K) := zx_ic_gt z37 dX0_addToClosure_4 rfl rfl
theorem s37_7 : zX d 37 7 [zO o, v1, v2] st A K = zX d 37 8 [zO o, v1, v2] (zO o :: st) A K := zx_aload_n z37 dX0_addToClosure_7 rfl rfl
theorem s37_8 (h : tg A a = 1) : zX d 37 8 ls (zO (some a) :: st) A K = zX d 37 11 ls (fd A a 18 :: st) A K := zx_getf z37 zo37 dX0_addToClosure_8 F2_76 rfl h
theorem s37_11 : zX d 37 11 [v0, zO o, v2] st A K = zX d 37 12 [v0, zO o, v2] (zO o :: st) A K := zx_aload_n z37 dX0_addToClosure_11 rfl rfl
theorem s37_12 (h : tg A a = 14)  : zX (d + 1) 37 12 ls (zO o0 :: zO (some a) :: []) A K = zX d 262 0 [zO (some a), zO o0] [] A (zK (d + 1) 37 12 15 ls [] K) := zx_callV (t := 14) z37 zo37 dX0_addToClosure_12 rfl C2_295 rfl rfl zm262 rfl rfl (zwt_le (Nat.le_of_ble_eq_true rfl)) rfl h
theorem s37_15 : zX d 37 15 ls (zI x :: st) A K = (if x = 0 then zX d 37 20 ls st A K else zX d 37 18 ls st A K) := zx_if_eq z37 dX0_addToClosure_15 rfl rfl
theorem s37_18 : zX d 37 18 [v0, v1, zI x] st A K = zX d 37 19 [v0, v1, zI x] (zI x :: st) A K := zx_iload_n z37 dX0_addToClosure_18 rfl rfl
theorem s37_19 : zX d 37 19 ls [zI x] A K = K (Sum.inl (some (zI x))) A := zx_iret z37 dX0_addToClosure_19 zk37 rfl
theorem s37_20 : zX d 37 20 [zO o, v1, v2] st A K = zX d 37 21 [zO o, v1, v2] (zO o :: st) A K := zx_aload_n z37 dX0_addToClosure_20 rfl rfl
theorem s37_21 (h : tg A a = 1) : zX d 37 21 ls (zO (some a) :: st) A K = zX d 37 24 ls (fd A a 19 :: st) A K := zx_getf z37 zo37 dX0_addToClosure_21 F2_82 rfl h
theorem s37_24 : zX d 37 24 [v0, v1, zI x] st A K = zX d 37 25 [v0, v1, zI x] (zI x :: st) A K := zx_iload_n z37 dX0_addToClosure_24 rfl rfl
theorem s37_25 : zX d 37 25 [v0, zO o, v2] st A K = zX d 37 26 [v0, zO o, v2] (zO o :: st) A K := zx_aload_n z37 dX0_addToClosure_25 rfl rfl
theorem s37_26 (h : tg A a = 3)  : zX (d + 1) 37 26 ls (zO (some a) :: [w0, w1]) A K = zX d 101 0 [zO (some a)] [] A (zK (d + 1) 37 26 29 ls [w0, w1] K) := zx_callV (t := 3) z37 zo37 dX0_addToClosure_26 rfl C2_299 rfl rfl zm101 rfl rfl (zwt_le (Nat.le_of_ble_eq_true rfl)) rfl h
theorem s37_29 (h : 24 ≤ tg A a) (h4 : tg A a ≤ 28) (h0 : 0 ≤ x) (h1 : x.toNat < (ra A a).length) (h2 : ∀ b, o = some b → zel (tg A a) (tg A b) = true) : zX d 37 29 ls (zO o :: zI x :: zO (some a) :: st) A K = zX d 37 30 ls st (pR A a ((ra A a).set x.toNat o)) K := zx_aast z37 dX0_addToClosure_29 rfl h h4 h0 h1 h2
theorem s37_30 : zX d 37 30 [zO o, v1, v2] st A K = zX d 37 31 [zO o, v1, v2] (zO o :: st) A K := zx_aload_n z37 dX0_addToClosure_30 rfl rfl
theorem s37_31 (h : tg A a = 1) : zX d 37 31 ls (zO (some a) :: st) A K = zX d 37 34 ls (fd A a 18 :: st) A K := zx_getf z37 zo37 dX0_addToClosure_31 F2_76 rfl h
theorem s37_34 : zX d 37 34 [zO o, v1, v2] st A K = zX d 37 35 [zO o, v1, v2] (zO o :: st) A K := zx_aload_n z37 dX0_addToClosure_34 rfl rfl
theorem s37_35 (h : tg A a = 1) : zX d 37 35 ls (zO (some a) :: st) A K = zX d 37 38 ls (fd A a 19 :: st) A K := zx_getf z37 zo37 dX0_addToClosure_35 F2_82 rfl h
theorem s37_38 : zX d 37 38 [v0, v1, zI x] st A K = zX d 37 39 [v0, v1, zI x] (zI x :: st) A K := zx_iload_n z37 dX0_addToClosure_38 rfl rfl
theorem s37_39 (h : zarr (tg A a) = 3) (h0 : 0 ≤ x) (h1 : x.toNat < (ra A a).length) : zX d 37 39 ls (zI x :: zO (some a) :: st) A K = zX d 37 40 ls (zO ((ra A a).getD x.toNat none) :: st) A K := zx_aald z37 dX0_addToClosure_39 rfl h h0 h1
theorem s37_40 (h : tg A a = 14)  : zX (d + 1) 37 40 ls (zO o0 :: zO (some a) :: []) A K = zX d 263 0 [zO (some a), zO o0] [] A (zK (d + 1) 37 40 43 ls [] K) := zx_callV (t := 14) z37 zo37 dX0_addToClosure_40 rfl C2_303 rfl rfl zm263 rfl rfl (zwt_le (Nat.le_of_ble_eq_true rfl)) rfl h
theorem s37_43 (h : zc v = true) : zX d 37 43 ls (v :: st) A K = zX d 37 44 ls st A K := zx_pop z37 dX0_addToClosure_43 rfl h
theorem s37_44 : zX d 37 44 [v0, v1, zI x] st A K = zX d 37 45 [v0, v1, zI x] (zI x :: st) A K := zx_iload_n z37 dX0_addToClosure_44 rfl rfl
theorem s37_45 : zX d 37 45 ls st A K = zX d 37 46 ls (zI 1 :: st) A K := zx_const z37 dX0_addToClosure_45 (by decide) rfl
theorem s37_46 : zX d 37 46 ls (zI y :: zI x :: st) A K = zX d 37 47 ls (zI (zw (x + y)) :: st) A K := zx_iadd z37 dX0_addToClosure_46 rfl
theorem s37_47 : zX d 37 47 ls [zI x] A K = K (Sum.inl (some (zI x))) A := zx_iret z37 dX0_addToClosure_47 zk37 rfl
theorem s38_0 : zX d 38 0 [v0, zO o, v2, v3] st A K = zX d 38 1 [v0, zO o, v2, v3] (zO o :: st) A K := zx_aload_n z38 dX0_addComposition_0 rfl rfl
theorem s38_1 (h : tg A a = 3) : zX d 38 1 ls (zO (some a) :: st) A K = zX d 38 4 ls (fd A a 1 :: st) A K := zx_getf z38 zo38 dX0_addComposition_1 F2_289 rfl h
theorem s38_4 : zX d 38 4 [v0, v1, zO o, v3] st A K = zX d 38 5 [v0, v1, zO o, v3] (zO o :: st) A K := zx_aload_n z38 dX0_addComposition_4 rfl rfl
theorem s38_5 (h : tg A a = 3) : zX d 38 5 ls (zO (some a) :: st) A K = zX d 38 8 ls (fd A a 0 :: st) A K := zx_getf z38 zo38 dX0_addComposition_5 F2_286 rfl h
theorem s38_8 : zX d 38 8 ls (zI y :: zI x :: st) A K = (if x = y then zX d 38 13 ls st A K else zX d 38 11 ls st A K) := zx_ic_eq z38 dX0_addComposition_8 rfl rfl
theorem s38_11 : zX d 38 11 [v0, v1, v2, zI x] st A K = zX d 38 12 [v0, v1, v2, zI x] (zI x :: st) A K := zx_iload_n z38 dX0_addComposition_11 rfl rfl
theorem s38_12 : zX d 38 12 ls [zI x] A K = K (Sum.inl (some (zI x))) A := zx_iret z38 dX0_addComposition_12 zk38 rfl
theorem s38_13 : zX d 38 13 [zO o, v1, v2, v3] st A K = zX d 38 14 [zO o, v1, v2, v3] (zO o :: st) A K := zx_aload_n z38 dX0_addComposition_13 rfl rfl
theorem s38_14 (h : tg A a = 1) : zX d 38 14 ls (zO (some a) :: st) A K = zX d 38 17 ls (fd A a 20 :: st) A K := zx_getf z38 zo38 dX0_addComposition_14 F2_89 rfl h
theorem s38_17 : zX d 38 17 [v0, zO o, v2, v3] st A K = zX d 38 18 [v0, zO o, v2, v3] (zO o :: st) A K := zx_aload_n z38 dX0_addComposition_17 rfl rfl
theorem s38_18 : zX d 38 18 [v0, v1, zO o, v3] st A K = zX d 38 19 [v0, v1, zO o, v3] (zO o :: st) A K := zx_aload_n z38 dX0_addComposition_18 rfl rfl
theorem s38_19 (h : tg A a = 3)  : zX (d + 1) 38 19 ls (zO o1 :: zO o0 :: zO (some a) :: []) A K = zX d 102 0 [zO (some a), zO o0, zO o1, zU, zU, zU, zU, zU, zU, zU] [] A (zK (d + 1) 38 19 22 ls [] K) := zx_callV (t := 3) z38 zo38 dX0_addComposition_19 rfl C2_306 rfl rfl zm102 rfl rfl (zwt_le (Nat.le_of_ble_eq_true rfl)) rfl h
theorem s38_22 : zX d 38 22 [zO o, v1, v2, v3] st A K = zX d 38 23 [zO o, v1, v2, v3] (zO o :: st) A K := zx_aload_n z38 dX0_addComposition_22 rfl rfl
theorem s38_23 : zX d 38 23 [zO o, v1, v2, v3] st A K = zX d 38 24 [zO o, v1, v2, v3] (zO o :: st) A K := zx_aload_n z38 dX0_addComposition_23 rfl rfl
theorem s38_24 (h : tg A a = 1) : zX d 38 24 ls (zO (some a) :: st) A K = zX d 38 27 ls (fd A a 20 :: st) A K := zx_getf z38 zo38 dX0_addComposition_24 F2_89 rfl h
theorem s38_27 : zX d 38 27 [v0, v1, v2, zI x] st A K = zX d 38 28 [v0, v1, v2, zI x] (zI x :: st) A K := zx_iload_n z38 dX0_addComposition_27 rfl rfl
theorem s38_28 (h : tg A a = 1)  : zX (d + 1) 38 28 ls (zI i1 :: zO o0 :: zO (some a) :: []) A K = zX d 37 0 [zO (some a), zO o0, zI i1] [] A (zK (d + 1) 38 28 31 ls [] K) := zx_callV (t := 1) z38 zo38 dX0_addComposition_28 rfl C2_310 rfl rfl zm37 rfl rfl (zwt_le (Nat.le_of_ble_eq_true rfl)) rfl h
theorem s38_31 : zX d 38 31 ls [zI x] A K = K (Sum.inl (some (zI x))) A := zx_iret z38 dX0_addComposition_31 zk38 rfl
theorem s39_0 : zX d 39 0 [zO o, v1, v2, v3] st A K = zX d 39 1 [zO o, v1, v2, v3] (zO o :: st) A K := zx_aload_n z39 dX0_idempotentCount_0 rfl rfl
theorem s39_1 (h : tg A a = 1)  : zX (d + 1) 39 1 ls (zO (some a) :: []) A K = zX d 36 0 [zO (some a), zU, zU, zU] [] A (zK (d + 1) 39 1 4 ls [] K) := zx_callV (t := 1) z39 zo39 dX0_idempotentCount_1 rfl C2_326 rfl rfl zm36 rfl rfl (zwt_le (Nat.le_of_ble_eq_true rfl)) rfl h
theorem s39_4 : zX d 39 4 ls (zI x :: st) A K = (if x ≠ 0 then zX d 39 10 ls st A K else zX d 39 7 ls st A K) := zx_if_ne z39 dX0_idempotentCount_4 rfl rfl
theorem s39_7 : zX d 39 7 ls st A K = zX d 39 9 ls (zI (-8) :: st) A K := zx_bipush z39 dX0_idempotentCount_7 (by decide) rfl
theorem s39_9 : zX d 39 9 ls [zI x] A K = K (Sum.inl (some (zI x))) A := zx_iret z39 dX0_idempotentCount_9 zk39 rfl
theorem s39_10 : zX d 39 10 ls st A K = zX d 39 11 ls (zI 0 :: st) A K := zx_const z39 dX0_idempotentCount_10 (by decide) rfl
theorem s39_11 : zX d 39 11 [v0, v1, v2, v3] (zI x :: st) A K = zX d 39 12 [v0, zI x, v2, v3] st A K := zx_istore_n z39 dX0_idempotentCount_11 (Nat.le_of_ble_eq_true rfl) rfl rfl
theorem s39_12 : zX d 39 12 [zO o, v1, v2, v3] st A K = zX d 39 13 [zO o, v1, v2, v3] (zO o :: st) A K := zx_aload_n z39 dX0_idempotentCount_12 rfl rfl
theorem s39_13 (h : tg A a = 1) : zX d 39 13 ls (zO (some a) :: st) A K = zX d 39 16 ls (fd A a 18 :: st) A K := zx_getf z39 zo39 dX0_idempotentCount_13 F2_76 rfl h
theorem s39_16 (h : tg A a = 14)  : zX (d + 1) 39 16 ls (zO (some a) :: []) A K = zX d 265 0 [zO (some a)] [] A (zK (d + 1) 39 16 19 ls [] K) := zx_callV (t := 14) z39 zo39 dX0_idempotentCount_16 rfl C2_331 rfl rfl zm265 rfl rfl (zwt_le (Nat.le_of_ble_eq_true rfl)) rfl h
theorem s39_19 : zX d 39 19 [v0, v1, v2, v3] (zO o :: st) A K = zX d 39 20 [v0, v1, zO o, v3] st A K := zx_astore_n z39 dX0_idempotentCount_19 (Nat.le_of_ble_eq_true rfl) rfl rfl
theorem s39_20 : zX d 39 20 [v0, v1, zO o, v3] st A K = zX d 39 21 [v0, v1, zO o, v3] (zO o :: st) A K := zx_aload_n z39 dX0_idempotentCount_20 rfl rfl
theorem s39_21 (h : tg A a = 13)  : zX (d + 1) 39 21 ls (zO (some a) :: []) A K = zX d 285 0 [zO (some a)] [] A (zK (d + 1) 39 21 26 ls [] K) := zx_callF (t := 13) z39 zo39 dX0_idempotentCount_21 rfl C2_335 rfl rfl zm285 rfl rfl (zwt_le (Nat.le_of_ble_eq_true rfl)) rfl h
theorem s39_26 : zX d 39 26 ls (zI x :: st) A K = (if x = 0 then zX d 39 53 ls st A K else zX d 39 29 ls st A K) := zx_if_eq z39 dX0_idempotentCount_26 rfl rfl
theorem s39_29 : zX d 39 29 [v0, v1, zO o, v3] st A K = zX d 39 30 [v0, v1, zO o, v3] (zO o :: st) A K := zx_aload_n z39 dX0_idempotentCount_29 rfl rfl
theorem s39_30 (h : tg A a = 13)  : zX (d + 1) 39 30 ls (zO (some a) :: []) A K = zX d 288 0 [zO (some a)] [] A (zK (d + 1) 39 30 35 ls [] K) := zx_callF (t := 13) z39 zo39 dX0_idempotentCount_30 rfl C2_340 rfl rfl zm288 rfl rfl (zwt_le (Nat.le_of_ble_eq_true rfl)) rfl h
theorem s39_35 (h : ([3] : List Nat).contains (tg A a) = true) : zX d 39 35 ls (zO (some a) :: st) A K = zX d 39 38 ls (zO (some a) :: st) A K := zx_cast z39 zo39 dX0_idempotentCount_35 rfl rfl h
theorem s39_35n : zX d 39 35 ls (zO none :: st) A K = zX d 39 38 ls (zO none :: st) A K := zx_castN z39 zo39 dX0_idempotentCount_35 rfl rfl
theorem s39_38 : zX d 39 38 [v0, v1, v2, v3] (zO o :: st) A K = zX d 39 39 [v0, v1, v2, zO o] st A K := zx_astore_n z39 dX0_idempotentCount_38 (Nat.le_of_ble_eq_true rfl) rfl rfl
theorem s39_39 : zX d 39 39 [v0, zI x, v2, v3] st A K = zX d 39 40 [v0, zI x, v2, v3] (zI x :: st) A K := zx_iload_n z39 dX0_idempotentCount_39 rfl rfl
theorem s39_40 : zX d 39 40 [zO o, v1, v2, v3] st A K = zX d 39 41 [zO o, v1, v2, v3] (zO o :: st) A K := zx_aload_n z39 dX0_idempotentCount_40 rfl rfl
theorem s39_41 : zX d 39 41 [v0, v1, v2, zO o] st A K = zX d 39 42 [v0, v1, v2, zO o] (zO o :: st) A K := zx_aload_n z39 dX0_idempotentCount_41 rfl rfl
theorem s39_42 (h : tg A a = 1)  : zX (d + 1) 39 42 ls (zO o0 :: zO (some a) :: [w0]) A K = zX d 40 0 [zO (some a), zO o0] [] A (zK (d + 1) 39 42 45 ls [w0] K) := zx_callV (t := 1) z39 zo39 dX0_idempotentCount_42 rfl C2_344 rfl rfl zm40 rfl rfl (zwt_le (Nat.le_of_ble_eq_true rfl)) rfl h
theorem s39_45 : zX (d + 1) 39 45 ls (zI i0 :: [w0]) A K = zX d 30 0 [zI i0] [] A (zK (d + 1) 39 45 48 ls [w0] K) := zx_callS z39 zo39 dX0_idempotentCount_45 rfl C2_252 rfl rfl zm30 rfl rfl (zwt_le (Nat.le_of_ble_eq_true rfl)) rfl
theorem s39_48 : zX d 39 48 ls (zI y :: zI x :: st) A K = zX d 39 49 ls (zI (zw (x + y)) :: st) A K := zx_iadd z39 dX0_idempotentCount_48 rfl
theorem s39_49 : zX d 39 49 [v0, v1, v2, v3] (zI x :: st) A K = zX d 39 50 [v0, zI x, v2, v3] st A K := zx_istore_n z39 dX0_idempotentCount_49 (Nat.le_of_ble_eq_true rfl) rfl rfl
theorem s39_50 : zX d 39 50 ls st A K = zX d 39 20 ls st A K := zx_goto z39 dX0_idempotentCount_50 rfl
theorem s39_53 : zX d 39 53 [v0, zI x, v2, v3] st A K = zX d 39 54 [v0, zI x, v2, v3] (zI x :: st) A K := zx_iload_n z39 dX0_idempotentCount_53 rfl rfl
theorem s39_54 : zX d 39 54 ls [zI x] A K = K (Sum.inl (some (zI x))) A := zx_iret z39 dX0_idempotentCount_54 zk39 rfl
theorem s40_0 : zX d 40 0 [zO o, v1] st A K = zX d 40 1 [zO o, v1] (zO o :: st) A K := zx_aload_n z40 dX0_isIdempotent_0 rfl rfl
theorem s40_1 (h : tg A a = 1) : zX d 40 1 ls (zO (some a) :: st) A K = zX d 40 4 ls (fd A a 20 :: st) A K := zx_getf z40 zo40 dX0_isIdempotent_1 F2_89 rfl h
theorem s40_4 : zX d 40 4 [v0, zO o] st A K = zX d 40 5 [v0, zO o] (zO o :: st) A K := zx_aload_n z40 dX0_isIdempotent_4 rfl rfl
theorem s40_5 : zX d 40 5 [v0, zO o] st A K = zX d 40 6 [v0, zO o] (zO o :: st) A K := zx_aload_n z40 dX0_isIdempotent_5 rfl rfl
theorem s40_6 (h : tg A a = 3)  : zX (d + 1) 40 6 ls (zO o1 :: zO o0 :: zO (some a) :: []) A K = zX d 102 0 [zO (some a), zO o0, zO o1, zU, zU, zU, zU, zU, zU, zU] [] A (zK (d + 1) 40 6 9 ls [] K) := zx_callV (t := 3) z40 zo40 dX0_isIdempotent_6 rfl C2_306 rfl rfl zm102 rfl rfl (zwt_le (Nat.le_of_ble_eq_true rfl)) rfl h
theorem s40_9 : zX d 40 9 [v0, zO o] st A K = zX d 40 10 [v0, zO o] (zO o :: st) A K := zx_aload_n z40 dX0_isIdempotent_9 rfl rfl
theorem s40_10 (h : tg A a = 3) : zX d 40 10 ls (zO (some a) :: st) A K = zX d 40 13 ls (fd A a 0 :: st) A K := zx_getf z40 zo40 dX0_isIdempotent_10 F2_286 rfl h
theorem s40_13 : zX d 40 13 [v0, zO o] st A K = zX d 40 14 [v0, zO o] (zO o :: st) A K := zx_aload_n z40 dX0_isIdempotent_13 rfl rfl
theorem s40_14 (h : tg A a = 3) : zX d 40 14 ls (zO (some a) :: st) A K = zX d 40 17 ls (fd A a 1 :: st) A K := zx_getf z40 zo40 dX0_isIdempotent_14 F2_289 rfl h
theorem s40_17 : zX d 40 17 ls (zI y :: zI x :: st) A K = (if x ≠ y then zX d 40 35 ls st A K else zX d 40 20 ls st A K) := zx_ic_ne z40 dX0_isIdempotent_17 rfl rfl
theorem s40_20 : zX d 40 20 [zO o, v1] st A K = zX d 40 21 [zO o, v1] (zO o :: st) A K := zx_aload_n z40 dX0_isIdempotent_20 rfl rfl
theorem s40_21 (h : tg A a = 1) : zX d 40 21 ls (zO (some a) :: st) A K = zX d 40 24 ls (fd A a 20 :: st) A K := zx_getf z40 zo40 dX0_isIdempotent_21 F2_89 rfl h
theorem s40_24 : zX d 40 24 [v0, zO o] st A K = zX d 40 25 [v0, zO o] (zO o :: st) A K := zx_aload_n z40 dX0_isIdempotent_24 rfl rfl
theorem s40_25 (h : tg A a = 3)  : zX (d + 1) 40 25 ls (zO o0 :: zO (some a) :: []) A K = zX d 100 0 [zO (some a), zO o0, zU] [] A (zK (d + 1) 40 25 28 ls [] K) := zx_callV (t := 3) z40 zo40 dX0_isIdempotent_25 rfl C2_314 rfl rfl zm100 rfl rfl (zwt_le (Nat.le_of_ble_eq_true rfl)) rfl h
theorem s40_28 : zX d 40 28 ls (zI x :: st) A K = (if x ≠ 0 then zX d 40 35 ls st A K else zX d 40 31 ls st A K) := zx_if_ne z40 dX0_isIdempotent_28 rfl rfl
theorem s40_31 : zX d 40 31 ls st A K = zX d 40 32 ls (zI 1 :: st) A K := zx_const z40 dX0_isIdempotent_31 (by decide) rfl
theorem s40_32 : zX d 40 32 ls st A K = zX d 40 36 ls st A K := zx_goto z40 dX0_isIdempotent_32 rfl
theorem s40_35 : zX d 40 35 ls st A K = zX d 40 36 ls (zI 0 :: st) A K := zx_const z40 dX0_isIdempotent_35 (by decide) rfl
theorem s40_36 (h : x = 0 ∨ x = 1) : zX d 40 36 ls [zI x] A K = K (Sum.inl (some (zI x))) A := zx_iret z40 dX0_isIdempotent_36 zk40 (by rcases h with q | q <;> subst q <;> rfl)
theorem s41_0 : zX d 41 0 [zO o, v1, v2] st A K = zX d 41 1 [zO o, v1, v2] (zO o :: st) A K := zx_aload_n z41 dX0_terminatesBySizeChange_0 rfl rfl
theorem s41_1 (h : tg A a = 1)  : zX (d + 1) 41 1 ls (zO (some a) :: []) A K = zX d 36 0 [zO (some a), zU, zU, zU] [] A (zK (d + 1) 41 1 4 ls [] K) := zx_callV (t := 1) z41 zo41 dX0_terminatesBySizeChange_1 rfl C2_326 rfl rfl zm36 rfl rfl (zwt_le (Nat.le_of_ble_eq_true rfl)) rfl h
theorem s41_4 : zX d 41 4 ls (zI x :: st) A K = (if x ≠ 0 then zX d 41 10 ls st A K else zX d 41 7 ls st A K) := zx_if_ne z41 dX0_terminatesBySizeChange_4 rfl rfl
theorem s41_7 : zX d 41 7 ls st A K = zX d 41 9 ls (zI (-8) :: st) A K := zx_bipush z41 dX0_terminatesBySizeChange_7 (by decide) rfl
theorem s41_9 : zX d 41 9 ls [zI x] A K = K (Sum.inl (some (zI x))) A := zx_iret z41 dX0_terminatesBySizeChange_9 zk41 rfl
theorem s41_10 : zX d 41 10 [zO o, v1, v2] st A K = zX d 41 11 [zO o, v1, v2] (zO o :: st) A K := zx_aload_n z41 dX0_terminatesBySizeChange_10 rfl rfl
theorem s41_11 (h : tg A a = 1) : zX d 41 11 ls (zO (some a) :: st) A K = zX d 41 14 ls (fd A a 18 :: st) A K := zx_getf z41 zo41 dX0_terminatesBySizeChange_11 F2_76 rfl h
theorem s41_14 (h : tg A a = 14)  : zX (d + 1) 41 14 ls (zO (some a) :: []) A K = zX d 265 0 [zO (some a)] [] A (zK (d + 1) 41 14 17 ls [] K) := zx_callV (t := 14) z41 zo41 dX0_terminatesBySizeChange_14 rfl C2_331 rfl rfl zm265 rfl rfl (zwt_le (Nat.le_of_ble_eq_true rfl)) rfl h
theorem s41_17 : zX d 41 17 [v0, v1, v2] (zO o :: st) A K = zX d 41 18 [v0, zO o, v2] st A K := zx_astore_n z41 dX0_terminatesBySizeChange_17 (Nat.le_of_ble_eq_true rfl) rfl rfl
theorem s41_18 : zX d 41 18 [v0, zO o, v2] st A K = zX d 41 19 [v0, zO o, v2] (zO o :: st) A K := zx_aload_n z41 dX0_terminatesBySizeChange_18 rfl rfl
theorem s41_19 (h : tg A a = 13)  : zX (d + 1) 41 19 ls (zO (some a) :: []) A K = zX d 285 0 [zO (some a)] [] A (zK (d + 1) 41 19 24 ls [] K) := zx_callF (t := 13) z41 zo41 dX0_terminatesBySizeChange_19 rfl C2_335 rfl rfl zm285 rfl rfl (zwt_le (Nat.le_of_ble_eq_true rfl)) rfl h
theorem s41_24 : zX d 41 24 ls (zI x :: st) A K = (if x = 0 then zX d 41 57 ls st A K else zX d 41 27 ls st A K) := zx_if_eq z41 dX0_terminatesBySizeChange_24 rfl rfl
theorem s41_27 : zX d 41 27 [v0, zO o, v2] st A K = zX d 41 28 [v0, zO o, v2] (zO o :: st) A K := zx_aload_n z41 dX0_terminatesBySizeChange_27 rfl rfl
theorem s41_28 (h : tg A a = 13)  : zX (d + 1) 41 28 ls (zO (some a) :: []) A K = zX d 288 0 [zO (some a)] [] A (zK (d + 1) 41 28 33 ls [] K) := zx_callF (t := 13) z41 zo41 dX0_terminatesBySizeChange_28 rfl C2_340 rfl rfl zm288 rfl rfl (zwt_le (Nat.le_of_ble_eq_true rfl)) rfl h
theorem s41_33 (h : ([3] : List Nat).contains (tg A a) = true) : zX d 41 33 ls (zO (some a) :: st) A K = zX d 41 36 ls (zO (some a) :: st) A K := zx_cast z41 zo41 dX0_terminatesBySizeChange_33 rfl rfl h
theorem s41_33n : zX d 41 33 ls (zO none :: st) A K = zX d 41 36 ls (zO none :: st) A K := zx_castN z41 zo41 dX0_terminatesBySizeChange_33 rfl rfl
theorem s41_36 : zX d 41 36 [v0, v1, v2] (zO o :: st) A K = zX d 41 37 [v0, v1, zO o] st A K := zx_astore_n z41 dX0_terminatesBySizeChange_36 (Nat.le_of_ble_eq_true rfl) rfl rfl
theorem s41_37 : zX d 41 37 [zO o, v1, v2] st A K = zX d 41 38 [zO o, v1, v2] (zO o :: st) A K := zx_aload_n z41 dX0_terminatesBySizeChange_37 rfl rfl
theorem s41_38 : zX d 41 38 [v0, v1, zO o] st A K = zX d 41 39 [v0, v1, zO o] (zO o :: st) A K := zx_aload_n z41 dX0_terminatesBySizeChange_38 rfl rfl
theorem s41_39 (h : tg A a = 1)  : zX (d + 1) 41 39 ls (zO o0 :: zO (some a) :: []) A K = zX d 40 0 [zO (some a), zO o0] [] A (zK (d + 1) 41 39 42 ls [] K) := zx_callV (t := 1) z41 zo41 dX0_terminatesBySizeChange_39 rfl C2_344 rfl rfl zm40 rfl rfl (zwt_le (Nat.le_of_ble_eq_true rfl)) rfl h
theorem s41_42 : zX d 41 42 ls (zI x :: st) A K = (if x = 0 then zX d 41 54 ls st A K else zX d 41 45 ls st A K) := zx_if_eq z41 dX0_terminatesBySizeChange_42 rfl rfl
theorem s41_45 : zX d 41 45 [v0, v1, zO o] st A K = zX d 41 46 [v0, v1, zO o] (zO o :: st) A K := zx_aload_n z41 dX0_terminatesBySizeChange_45 rfl rfl
theorem s41_46 (h : tg A a = 3)  : zX (d + 1) 41 46 ls (zO (some a) :: []) A K = zX d 103 0 [zO (some a)] [] A (zK (d + 1) 41 46 49 ls [] K) := zx_callV (t := 3) z41 zo41 dX0_terminatesBySizeChange_46 rfl C2_348 rfl rfl zm103 rfl rfl (zwt_le (Nat.le_of_ble_eq_true rfl)) rfl h
theorem s41_49 : zX d 41 49 ls (zI x :: st) A K = (if x ≠ 0 then zX d 41 54 ls st A K else zX d 41 52 ls st A K) := zx_if_ne z41 dX0_terminatesBySizeChange_49 rfl rfl
theorem s41_52 : zX d 41 52 ls st A K = zX d 41 53 ls (zI 0 :: st) A K := zx_const z41 dX0_terminatesBySizeChange_52 (by decide) rfl
theorem s41_53 : zX d 41 53 ls [zI x] A K = K (Sum.inl (some (zI x))) A := zx_iret z41 dX0_terminatesBySizeChange_53 zk41 rfl
theorem s41_54 : zX d 41 54 ls st A K = zX d 41 18 ls st A K := zx_goto z41 dX0_terminatesBySizeChange_54 rfl
theorem s41_57 : zX d 41 57 ls st A K = zX d 41 58 ls (zI 1 :: st) A K := zx_const z41 dX0_terminatesBySizeChange_57 (by decide) rfl
theorem s41_58 : zX d 41 58 ls [zI x] A K = K (Sum.inl (some (zI x))) A := zx_iret z41 dX0_terminatesBySizeChange_58 zk41 rfl
theorem s42_0 : zX d 42 0 [zO o, v1] st A K = zX d 42 1 [zO o, v1] (zO o :: st) A K := zx_aload_n z42 dX0_projection_0 rfl rfl
theorem s42_1 (h : tg A a = 1)  : zX (d + 1) 42 1 ls (zO (some a) :: []) A K = zX d 19 0 [zO (some a), zU, zU, zU] [] A (zK (d + 1) 42 1 4 ls [] K) := zx_callV (t := 1) z42 zo42 dX0_projection_1 rfl C2_240 rfl rfl zm19 rfl rfl (zwt_le (Nat.le_of_ble_eq_true rfl)) rfl h
theorem s42_4 : zX d 42 4 [v0, zI x] st A K = zX d 42 5 [v0, zI x] (zI x :: st) A K := zx_iload_n z42 dX0_projection_4 rfl rfl
theorem s42_5 : zX d 42 5 ls (zI x :: st) A K = zX d 42 6 ls (zL x :: st) A K := zx_i2l z42 dX0_projection_5 rfl
theorem s42_6 : zX d 42 6 ls st A K = zX d 42 7 ls (zL 0 :: st) A K := zx_lconst z42 dX0_projection_6 rfl
theorem s42_7 : zX d 42 7 [zO o, v1] st A K = zX d 42 8 [zO o, v1] (zO o :: st) A K := zx_aload_n z42 dX0_projection_7 rfl rfl
theorem s42_8 (h : tg A a = 1) : zX d 42 8 ls (zO (some a) :: st) A K = zX d 42 11 ls (fd A a 14 :: st) A K := zx_getf z42 zo42 dX0_projection_8 F2_237 rfl h
theorem s42_11 : zX d 42 11 ls st A K = zX d 42 12 ls (zI 1 :: st) A K := zx_const z42 dX0_projection_11 (by decide) rfl
theorem s42_12 : zX d 42 12 ls (zI y :: zI x :: st) A K = zX d 42 13 ls (zI (zw (x - y)) :: st) A K := zx_isub z42 dX0_projection_12 rfl
theorem s42_13 : zX d 42 13 ls (zI x :: st) A K = zX d 42 14 ls (zL x :: st) A K := zx_i2l z42 dX0_projection_13 rfl
theorem s42_14 : zX d 42 14 ls (zL y :: zL x :: zL w :: []) A K = zX d 42 17 ls (zI (zb (decide (x ≤ w ∧ w ≤ y))) :: []) A K := zx_inS z42 zo42 dX0_projection_14 rfl rfl rfl (zin_2 (zwt_le (Nat.le_of_ble_eq_true rfl)))
theorem s42_17 : zX d 42 17 ls (zI x :: st) A K = (if x = 0 then zX d 42 34 ls st A K else zX d 42 20 ls st A K) := zx_if_eq z42 dX0_projection_17 rfl rfl
theorem s42_20 : zX d 42 20 [zO o, v1] st A K = zX d 42 21 [zO o, v1] (zO o :: st) A K := zx_aload_n z42 dX0_projection_20 rfl rfl
theorem s42_21 : zX d 42 21 [zO o, v1] st A K = zX d 42 22 [zO o, v1] (zO o :: st) A K := zx_aload_n z42 dX0_projection_21 rfl rfl
theorem s42_22 (h : tg A a = 1) : zX d 42 22 ls (zO (some a) :: st) A K = zX d 42 25 ls (fd A a 13 :: st) A K := zx_getf z42 zo42 dX0_projection_22 F2_56 rfl h
theorem s42_25 : zX d 42 25 [v0, zI x] st A K = zX d 42 26 [v0, zI x] (zI x :: st) A K := zx_iload_n z42 dX0_projection_25 rfl rfl
theorem s42_26 : zX d 42 26 ls st A K = zX d 42 27 ls (zI 0 :: st) A K := zx_const z42 dX0_projection_26 (by decide) rfl
theorem s42_27 : zX d 42 27 ls st A K = zX d 42 28 ls (zI 0 :: st) A K := zx_const z42 dX0_projection_27 (by decide) rfl
theorem s42_28 (h : tg A a = 1)  : zX (d + 1) 42 28 ls (zI i3 :: zI i2 :: zI i1 :: zO o0 :: zO (some a) :: []) A K = zX d 43 0 [zO (some a), zO o0, zI i1, zI i2, zI i3, zU, zU, zU] [] A (zK (d + 1) 42 28 31 ls [] K) := zx_callV (t := 1) z42 zo42 dX0_projection_28 rfl C2_362 rfl rfl zm43 rfl rfl (zwt_le (Nat.le_of_ble_eq_true rfl)) rfl h
theorem s42_31 : zX d 42 31 ls st A K = zX d 42 35 ls st A K := zx_goto z42 dX0_projection_31 rfl
theorem s42_34 : zX d 42 34 ls st A K = zX d 42 35 ls (zI (-1) :: st) A K := zx_const z42 dX0_projection_34 (by decide) rfl
theorem s42_35 : zX d 42 35 ls [zI x] A K = K (Sum.inl (some (zI x))) A := zx_iret z42 dX0_projection_35 zk42 rfl
theorem s43_0 : zX d 43 0 [v0, v1, v2, zI x, v4, v5, v6, v7] st A K = zX d 43 1 [v0, v1, v2, zI x, v4, v5, v6, v7] (zI x :: st) A K := zx_iload_n z43 dX0_lowestProjection_0 rfl rfl
theorem s43_1 : zX d 43 1 ls st A K = zX d 43 2 ls (zI 3 :: st) A K := zx_const z43 dX0_lowestProjection_1 (by decide) rfl
theorem s43_2 : zX d 43 2 ls (zI y :: zI x :: st) A K = (if x ≠ y then zX d 43 22 ls st A K else zX d 43 5 ls st A K) := zx_ic_ne z43 dX0_lowestProjection_2 rfl rfl
theorem s43_5 : zX d 43 5 [zO o, v1, v2, v3, v4, v5, v6, v7] st A K = zX d 43 6 [zO o, v1, v2, v3, v4, v5, v6, v7] (zO o :: st) A K := zx_aload_n z43 dX0_lowestProjection_5 rfl rfl
theorem s43_6 : zX d 43 6 [v0, zO o, v2, v3, v4, v5, v6, v7] st A K = zX d 43 7 [v0, zO o, v2, v3, v4, v5, v6, v7] (zO o :: st) A K := zx_aload_n z43 dX0_lowestProjection_6 rfl rfl
theorem s43_7 : zX d 43 7 [v0, v1, zI x, v3, v4, v5, v6, v7] st A K = zX d 43 8 [v0, v1, zI x, v3, v4, v5, v6, v7] (zI x :: st) A K := zx_iload_n z43 dX0_lowestProjection_7 rfl rfl
theorem s43_8 (h : tg A a = 1)  : zX (d + 1) 43 8 ls (zI i1 :: zO o0 :: zO (some a) :: []) A K = zX d 44 0 [zO (some a), zO o0, zI i1, zU, zU, zU] [] A (zK (d + 1) 43 8 11 ls [] K) := zx_callV (t := 1) z43 zo43 dX0_lowestProjection_8 rfl C2_355 rfl rfl zm44 rfl rfl (zwt_le (Nat.le_of_ble_eq_true rfl)) rfl h
theorem s43_11 : zX d 43 11 ls (zI x :: st) A K = (if x = 0 then zX d 43 19 ls st A K else zX d 43 14 ls st A K) := zx_if_eq z43 dX0_lowestProjection_11 rfl rfl
theorem s43_14 : zX d 43 14 [v0, v1, v2, v3, zI x, v5, v6, v7] st A K = zX d 43 16 [v0, v1, v2, v3, zI x, v5, v6, v7] (zI x :: st) A K := zx_iload z43 dX0_lowestProjection_14 rfl rfl
theorem s43_16 : zX d 43 16 ls st A K = zX d 43 21 ls st A K := zx_goto z43 dX0_lowestProjection_16 rfl
theorem s43_19 : zX d 43 19 ls st A K = zX d 43 21 ls (zI (-5) :: st) A K := zx_bipush z43 dX0_lowestProjection_19 (by decide) rfl
theorem s43_21 : zX d 43 21 ls [zI x] A K = K (Sum.inl (some (zI x))) A := zx_iret z43 dX0_lowestProjection_21 zk43 rfl
theorem s43_22 : zX d 43 22 [zO o, v1, v2, v3, v4, v5, v6, v7] st A K = zX d 43 23 [zO o, v1, v2, v3, v4, v5, v6, v7] (zO o :: st) A K := zx_aload_n z43 dX0_lowestProjection_22 rfl rfl
theorem s43_23 : zX d 43 23 [v0, zO o, v2, v3, v4, v5, v6, v7] st A K = zX d 43 24 [v0, zO o, v2, v3, v4, v5, v6, v7] (zO o :: st) A K := zx_aload_n z43 dX0_lowestProjection_23 rfl rfl
theorem s43_24 : zX d 43 24 [v0, v1, zI x, v3, v4, v5, v6, v7] st A K = zX d 43 25 [v0, v1, zI x, v3, v4, v5, v6, v7] (zI x :: st) A K := zx_iload_n z43 dX0_lowestProjection_24 rfl rfl
theorem s43_25 : zX d 43 25 [v0, v1, v2, zI x, v4, v5, v6, v7] st A K = zX d 43 26 [v0, v1, v2, zI x, v4, v5, v6, v7] (zI x :: st) A K := zx_iload_n z43 dX0_lowestProjection_25 rfl rfl
theorem s43_26 (h : tg A a = 1)  : zX (d + 1) 43 26 ls (zI i2 :: zI i1 :: zO o0 :: zO (some a) :: []) A K = zX d 46 0 [zO (some a), zO o0, zI i1, zI i2, zU] [] A (zK (d + 1) 43 26 29 ls [] K) := zx_callV (t := 1) z43 zo43 dX0_lowestProjection_26 rfl C2_359 rfl rfl zm46 rfl rfl (zwt_le (Nat.le_of_ble_eq_true rfl)) rfl h
theorem s43_29 : zX d 43 29 ls (zI x :: st) A K = (if x = 0 then zX d 43 41 ls st A K else zX d 43 32 ls st A K) := zx_if_eq z43 dX0_lowestProjection_29 rfl rfl
theorem s43_32 : zX d 43 32 [zO o, v1, v2, v3, v4, v5, v6, v7] st A K = zX d 43 33 [zO o, v1, v2, v3, v4, v5, v6, v7] (zO o :: st) A K := zx_aload_n z43 dX0_lowestProjection_32 rfl rfl
theorem s43_33 (h : tg A a = 1) : zX d 43 33 ls (zO (some a) :: st) A K = zX d 43 36 ls (fd A a 0 :: st) A K := zx_getf z43 zo43 dX0_lowestProjection_33 F2_7 rfl h
theorem s43_36 : zX d 43 36 [v0, v1, v2, zI x, v4, v5, v6, v7] st A K = zX d 43 37 [v0, v1, v2, zI x, v4, v5, v6, v7] (zI x :: st) A K := zx_iload_n z43 dX0_lowestProjection_36 rfl rfl
theorem s43_37 (h : tg A a = 20) (h0 : 0 ≤ x) (h1 : x.toNat < (ia A a).length) : zX d 43 37 ls (zI x :: zO (some a) :: st) A K = zX d 43 38 ls (zI ((ia A a).getD x.toNat 0) :: st) A K := zx_iald z43 dX0_lowestProjection_37 rfl h h0 h1
theorem s43_37s (h : tg A a = 30) (h0 : 0 ≤ x) (h1 : x.toNat < (ia A a).length) : zX d 43 37 ls (zI x :: zO (some a) :: st) A K = zX d 43 38 ls (zI ((ia A a).getD x.toNat 0) :: st) A K := zx_sald z43 dX0_lowestProjection_37 rfl h h0 h1
theorem s43_38 : zX d 43 38 ls st A K = zX d 43 42 ls st A K := zx_goto z43 dX0_lowestProjection_38 rfl
theorem s43_41 : zX d 43 41 ls st A K = zX d 43 42 ls (zI 1 :: st) A K := zx_const z43 dX0_lowestProjection_41 (by decide) rfl
theorem s43_42 : zX d 43 42 [v0, v1, v2, v3, v4, v5, v6, v7] (zI x :: st) A K = zX d 43 44 [v0, v1, v2, v3, v4, zI x, v6, v7] st A K := zx_istore z43 dX0_lowestProjection_42 (Nat.le_of_ble_eq_true rfl) rfl rfl
theorem s43_44 : zX d 43 44 ls st A K = zX d 43 45 ls (zI 0 :: st) A K := zx_const z43 dX0_lowestProjection_44 (by decide) rfl
theorem s43_45 : zX d 43 45 [v0, v1, v2, v3, v4, v5, v6, v7] (zI x :: st) A K = zX d 43 47 [v0, v1, v2, v3, v4, v5, zI x, v7] st A K := zx_istore z43 dX0_lowestProjection_45 (Nat.le_of_ble_eq_true rfl) rfl rfl
theorem s43_47 : zX d 43 47 [v0, v1, v2, v3, v4, v5, zI x, v7] st A K = zX d 43 49 [v0, v1, v2, v3, v4, v5, zI x, v7] (zI x :: st) A K := zx_iload z43 dX0_lowestProjection_47 rfl rfl
theorem s43_49 : zX d 43 49 [v0, v1, v2, v3, v4, zI x, v6, v7] st A K = zX d 43 51 [v0, v1, v2, v3, v4, zI x, v6, v7] (zI x :: st) A K := zx_iload z43 dX0_lowestProjection_49 rfl rfl
theorem s43_51 : zX d 43 51 ls (zI y :: zI x :: st) A K = (if y ≤ x then zX d 43 99 ls st A K else zX d 43 54 ls st A K) := zx_ic_ge z43 dX0_lowestProjection_51 rfl rfl
theorem s43_54 : zX d 43 54 [zO o, v1, v2, v3, v4, v5, v6, v7] st A K = zX d 43 55 [zO o, v1, v2, v3, v4, v5, v6, v7] (zO o :: st) A K := zx_aload_n z43 dX0_lowestProjection_54 rfl rfl
theorem s43_55 (h : tg A a = 1) : zX d 43 55 ls (zO (some a) :: st) A K = zX d 43 58 ls (fd A a 23 :: st) A K := zx_getf z43 zo43 dX0_lowestProjection_55 F2_93 rfl h
theorem s43_58 : zX d 43 58 [v0, v1, v2, zI x, v4, v5, v6, v7] st A K = zX d 43 59 [v0, v1, v2, zI x, v4, v5, v6, v7] (zI x :: st) A K := zx_iload_n z43 dX0_lowestProjection_58 rfl rfl
theorem s43_59 : zX d 43 59 [v0, v1, v2, v3, v4, v5, zI x, v7] st A K = zX d 43 61 [v0, v1, v2, v3, v4, v5, zI x, v7] (zI x :: st) A K := zx_iload z43 dX0_lowestProjection_59 rfl rfl
theorem s43_61 (h : tg A a = 20) (h0 : 0 ≤ x) (h1 : x.toNat < (ia A a).length) : zX d 43 61 ls (zI y :: zI x :: zO (some a) :: st) A K = zX d 43 62 ls st (pI A a ((ia A a).set x.toNat y)) K := zx_iast z43 dX0_lowestProjection_61 rfl h h0 h1
theorem s43_62 : zX d 43 62 [zO o, v1, v2, v3, v4, v5, v6, v7] st A K = zX d 43 63 [zO o, v1, v2, v3, v4, v5, v6, v7] (zO o :: st) A K := zx_aload_n z43 dX0_lowestProjection_62 rfl rfl
theorem s43_63 : zX d 43 63 [v0, zO o, v2, v3, v4, v5, v6, v7] st A K = zX d 43 64 [v0, zO o, v2, v3, v4, v5, v6, v7] (zO o :: st) A K := zx_aload_n z43 dX0_lowestProjection_63 rfl rfl
theorem s43_64 : zX d 43 64 [v0, v1, zI x, v3, v4, v5, v6, v7] st A K = zX d 43 65 [v0, v1, zI x, v3, v4, v5, v6, v7] (zI x :: st) A K := zx_iload_n z43 dX0_lowestProjection_64 rfl rfl
theorem s43_65 : zX d 43 65 [v0, v1, v2, zI x, v4, v5, v6, v7] st A K = zX d 43 66 [v0, v1, v2, zI x, v4, v5, v6, v7] (zI x :: st) A K := zx_iload_n z43 dX0_lowestProjection_65 rfl rfl
theorem s43_66 : zX d 43 66 ls st A K = zX d 43 67 ls (zI 1 :: st) A K := zx_const z43 dX0_lowestProjection_66 (by decide) rfl
theorem s43_67 : zX d 43 67 ls (zI y :: zI x :: st) A K = zX d 43 68 ls (zI (zw (x + y)) :: st) A K := zx_iadd z43 dX0_lowestProjection_67 rfl
theorem s43_68 : zX d 43 68 ls st A K = zX d 43 70 ls (zI (10) :: st) A K := zx_bipush z43 dX0_lowestProjection_68 (by decide) rfl
theorem s43_70 : zX d 43 70 [v0, v1, v2, v3, zI x, v5, v6, v7] st A K = zX d 43 72 [v0, v1, v2, v3, zI x, v5, v6, v7] (zI x :: st) A K := zx_iload z43 dX0_lowestProjection_70 rfl rfl
theorem s43_72 : zX d 43 72 ls (zI y :: zI x :: st) A K = zX d 43 73 ls (zI (zw (x * y)) :: st) A K := zx_imul z43 dX0_lowestProjection_72 rfl
theorem s43_73 : zX d 43 73 [v0, v1, v2, v3, v4, v5, zI x, v7] st A K = zX d 43 75 [v0, v1, v2, v3, v4, v5, zI x, v7] (zI x :: st) A K := zx_iload z43 dX0_lowestProjection_73 rfl rfl
theorem s43_75 : zX d 43 75 ls (zI y :: zI x :: st) A K = zX d 43 76 ls (zI (zw (x + y)) :: st) A K := zx_iadd z43 dX0_lowestProjection_75 rfl
theorem s43_76 : zX d 43 76 ls st A K = zX d 43 77 ls (zI 1 :: st) A K := zx_const z43 dX0_lowestProjection_76 (by decide) rfl
theorem s43_77 : zX d 43 77 ls (zI y :: zI x :: st) A K = zX d 43 78 ls (zI (zw (x + y)) :: st) A K := zx_iadd z43 dX0_lowestProjection_77 rfl
theorem s43_78 (h : tg A a = 1)  : zX (d + 1) 43 78 ls (zI i3 :: zI i2 :: zI i1 :: zO o0 :: zO (some a) :: []) A K = zX d 43 0 [zO (some a), zO o0, zI i1, zI i2, zI i3, zU, zU, zU] [] A (zK (d + 1) 43 78 81 ls [] K) := zx_callV (t := 1) z43 zo43 dX0_lowestProjection_78 rfl C2_362 rfl rfl zm43 rfl rfl (zwt_le (Nat.le_of_ble_eq_true rfl)) rfl h
theorem s43_81 : zX d 43 81 [v0, v1, v2, v3, v4, v5, v6, v7] (zI x :: st) A K = zX d 43 83 [v0, v1, v2, v3, v4, v5, v6, zI x] st A K := zx_istore z43 dX0_lowestProjection_81 (Nat.le_of_ble_eq_true rfl) rfl rfl
theorem s43_83 : zX d 43 83 [v0, v1, v2, v3, v4, v5, v6, zI x] st A K = zX d 43 85 [v0, v1, v2, v3, v4, v5, v6, zI x] (zI x :: st) A K := zx_iload z43 dX0_lowestProjection_83 rfl rfl
theorem s43_85 : zX d 43 85 ls st A K = zX d 43 87 ls (zI (-5) :: st) A K := zx_bipush z43 dX0_lowestProjection_85 (by decide) rfl
theorem s43_87 : zX d 43 87 ls (zI y :: zI x :: st) A K = (if x = y then zX d 43 93 ls st A K else zX d 43 90 ls st A K) := zx_ic_eq z43 dX0_lowestProjection_87 rfl rfl
theorem s43_90 : zX d 43 90 [v0, v1, v2, v3, v4, v5, v6, zI x] st A K = zX d 43 92 [v0, v1, v2, v3, v4, v5, v6, zI x] (zI x :: st) A K := zx_iload z43 dX0_lowestProjection_90 rfl rfl
theorem s43_92 : zX d 43 92 ls [zI x] A K = K (Sum.inl (some (zI x))) A := zx_iret z43 dX0_lowestProjection_92 zk43 rfl
theorem s43_93 : zX d 43 93 [v0, v1, v2, v3, v4, v5, zI x, v7] st A K = zX d 43 96 [v0, v1, v2, v3, v4, v5, zI (zw (x + 1)), v7] st A K := zx_iinc z43 dX0_lowestProjection_93 rfl rfl rfl
theorem s43_96 : zX d 43 96 ls st A K = zX d 43 47 ls st A K := zx_goto z43 dX0_lowestProjection_96 rfl
theorem s43_99 : zX d 43 99 ls st A K = zX d 43 101 ls (zI (-5) :: st) A K := zx_bipush z43 dX0_lowestProjection_99 (by decide) rfl
theorem s43_101 : zX d 43 101 ls [zI x] A K = K (Sum.inl (some (zI x))) A := zx_iret z43 dX0_lowestProjection_101 zk43 rfl
theorem s44_0 : zX d 44 0 ls st A K = zX d 44 1 ls (zI 0 :: st) A K := zx_const z44 dX0_isValidProjection_0 (by decide) rfl
theorem s44_1 : zX d 44 1 [v0, v1, v2, v3, v4, v5] (zI x :: st) A K = zX d 44 2 [v0, v1, v2, zI x, v4, v5] st A K := zx_istore_n z44 dX0_isValidProjection_1 (Nat.le_of_ble_eq_true rfl) rfl rfl
theorem s44_2 : zX d 44 2 ls st A K = zX d 44 3 ls (zI 0 :: st) A K := zx_const z44 dX0_isValidProjection_2 (by decide) rfl
theorem s44_3 : zX d 44 3 [v0, v1, v2, v3, v4, v5] (zI x :: st) A K = zX d 44 5 [v0, v1, v2, v3, zI x, v5] st A K := zx_istore z44 dX0_isValidProjection_3 (Nat.le_of_ble_eq_true rfl) rfl rfl
theorem s44_5 : zX d 44 5 [v0, v1, v2, v3, zI x, v5] st A K = zX d 44 7 [v0, v1, v2, v3, zI x, v5] (zI x :: st) A K := zx_iload z44 dX0_isValidProjection_5 rfl rfl
theorem s44_7 : zX d 44 7 [zO o, v1, v2, v3, v4, v5] st A K = zX d 44 8 [zO o, v1, v2, v3, v4, v5] (zO o :: st) A K := zx_aload_n z44 dX0_isValidProjection_7 rfl rfl
theorem s44_8 (h : tg A a = 1) : zX d 44 8 ls (zO (some a) :: st) A K = zX d 44 11 ls (fd A a 11 :: st) A K := zx_getf z44 zo44 dX0_isValidProjection_8 F2_219 rfl h
theorem s44_11 : zX d 44 11 ls (zI y :: zI x :: st) A K = (if y ≤ x then zX d 44 62 ls st A K else zX d 44 14 ls st A K) := zx_ic_ge z44 dX0_isValidProjection_11 rfl rfl
theorem s44_14 : zX d 44 14 [v0, zO o, v2, v3, v4, v5] st A K = zX d 44 15 [v0, zO o, v2, v3, v4, v5] (zO o :: st) A K := zx_aload_n z44 dX0_isValidProjection_14 rfl rfl
theorem s44_15 : zX d 44 15 [v0, v1, v2, v3, zI x, v5] st A K = zX d 44 17 [v0, v1, v2, v3, zI x, v5] (zI x :: st) A K := zx_iload z44 dX0_isValidProjection_15 rfl rfl
theorem s44_17 (h : tg A a = 20) (h0 : 0 ≤ x) (h1 : x.toNat < (ia A a).length) : zX d 44 17 ls (zI x :: zO (some a) :: st) A K = zX d 44 18 ls (zI ((ia A a).getD x.toNat 0) :: st) A K := zx_iald z44 dX0_isValidProjection_17 rfl h h0 h1
theorem s44_17s (h : tg A a = 30) (h0 : 0 ≤ x) (h1 : x.toNat < (ia A a).length) : zX d 44 17 ls (zI x :: zO (some a) :: st) A K = zX d 44 18 ls (zI ((ia A a).getD x.toNat 0) :: st) A K := zx_sald z44 dX0_isValidProjection_17 rfl h h0 h1
theorem s44_18 : zX d 44 18 [v0, v1, zI x, v3, v4, v5] st A K = zX d 44 19 [v0, v1, zI x, v3, v4, v5] (zI x :: st) A K := zx_iload_n z44 dX0_isValidProjection_18 rfl rfl
theorem s44_19 : zX d 44 19 ls (zI y :: zI x :: st) A K = (if x ≠ y then zX d 44 56 ls st A K else zX d 44 22 ls st A K) := zx_ic_ne z44 dX0_isValidProjection_19 rfl rfl
theorem s44_22 : zX d 44 22 [zO o, v1, v2, v3, v4, v5] st A K = zX d 44 23 [zO o, v1, v2, v3, v4, v5] (zO o :: st) A K := zx_aload_n z44 dX0_isValidProjection_22 rfl rfl
theorem s44_23 : zX d 44 23 [zO o, v1, v2, v3, v4, v5] st A K = zX d 44 24 [zO o, v1, v2, v3, v4, v5] (zO o :: st) A K := zx_aload_n z44 dX0_isValidProjection_23 rfl rfl
theorem s44_24 (h : tg A a = 1) : zX d 44 24 ls (zO (some a) :: st) A K = zX d 44 27 ls (fd A a 10 :: st) A K := zx_getf z44 zo44 dX0_isValidProjection_24 F2_47 rfl h
theorem s44_27 : zX d 44 27 [v0, v1, v2, v3, zI x, v5] st A K = zX d 44 29 [v0, v1, v2, v3, zI x, v5] (zI x :: st) A K := zx_iload z44 dX0_isValidProjection_27 rfl rfl
theorem s44_29 (h : zarr (tg A a) = 3) (h0 : 0 ≤ x) (h1 : x.toNat < (ra A a).length) : zX d 44 29 ls (zI x :: zO (some a) :: st) A K = zX d 44 30 ls (zO ((ra A a).getD x.toNat none) :: st) A K := zx_aald z44 dX0_isValidProjection_29 rfl h h0 h1
theorem s44_30 (h : tg A a = 1)  : zX (d + 1) 44 30 ls (zO o0 :: zO (some a) :: []) A K = zX d 45 0 [zO (some a), zO o0] [] A (zK (d + 1) 44 30 33 ls [] K) := zx_callV (t := 1) z44 zo44 dX0_isValidProjection_30 rfl C2_351 rfl rfl zm45 rfl rfl (zwt_le (Nat.le_of_ble_eq_true rfl)) rfl h
theorem s44_33 : zX d 44 33 [v0, v1, v2, v3, v4, v5] (zI x :: st) A K = zX d 44 35 [v0, v1, v2, v3, v4, zI x] st A K := zx_istore z44 dX0_isValidProjection_33 (Nat.le_of_ble_eq_true rfl) rfl rfl
theorem s44_35 : zX d 44 35 [v0, v1, v2, v3, v4, zI x] st A K = zX d 44 37 [v0, v1, v2, v3, v4, zI x] (zI x :: st) A K := zx_iload z44 dX0_isValidProjection_35 rfl rfl
theorem s44_37 : zX d 44 37 ls (zI x :: st) A K = (if x ≠ 0 then zX d 44 42 ls st A K else zX d 44 40 ls st A K) := zx_if_ne z44 dX0_isValidProjection_37 rfl rfl
theorem s44_40 : zX d 44 40 ls st A K = zX d 44 41 ls (zI 0 :: st) A K := zx_const z44 dX0_isValidProjection_40 (by decide) rfl
theorem s44_41 (h : x = 0 ∨ x = 1) : zX d 44 41 ls [zI x] A K = K (Sum.inl (some (zI x))) A := zx_iret z44 dX0_isValidProjection_41 zk44 (by rcases h with q | q <;> subst q <;> rfl)
theorem s44_42 : zX d 44 42 [v0, v1, v2, zI x, v4, v5] st A K = zX d 44 43 [v0, v1, v2, zI x, v4, v5] (zI x :: st) A K := zx_iload_n z44 dX0_isValidProjection_42 rfl rfl
theorem s44_43 : zX d 44 43 [v0, v1, v2, v3, v4, zI x] st A K = zX d 44 45 [v0, v1, v2, v3, v4, zI x] (zI x :: st) A K := zx_iload z44 dX0_isValidProjection_43 rfl rfl
theorem s44_45 : zX d 44 45 ls st A K = zX d 44 46 ls (zI 2 :: st) A K := zx_const z44 dX0_isValidProjection_45 (by decide) rfl
theorem s44_46 : zX d 44 46 ls (zI y :: zI x :: st) A K = (if x ≠ y then zX d 44 53 ls st A K else zX d 44 49 ls st A K) := zx_ic_ne z44 dX0_isValidProjection_46 rfl rfl
theorem s44_49 : zX d 44 49 ls st A K = zX d 44 50 ls (zI 1 :: st) A K := zx_const z44 dX0_isValidProjection_49 (by decide) rfl
theorem s44_50 : zX d 44 50 ls st A K = zX d 44 54 ls st A K := zx_goto z44 dX0_isValidProjection_50 rfl
theorem s44_53 : zX d 44 53 ls st A K = zX d 44 54 ls (zI 0 :: st) A K := zx_const z44 dX0_isValidProjection_53 (by decide) rfl
theorem s44_54 : zX d 44 54 ls (zI y :: zI x :: st) A K = zX d 44 55 ls (zI ((Int32.ofInt x ||| Int32.ofInt y).toInt) :: st) A K := zx_ior z44 dX0_isValidProjection_54 rfl
theorem s44_55 : zX d 44 55 [v0, v1, v2, v3, v4, v5] (zI x :: st) A K = zX d 44 56 [v0, v1, v2, zI x, v4, v5] st A K := zx_istore_n z44 dX0_isValidProjection_55 (Nat.le_of_ble_eq_true rfl) rfl rfl
theorem s44_56 : zX d 44 56 [v0, v1, v2, v3, zI x, v5] st A K = zX d 44 59 [v0, v1, v2, v3, zI (zw (x + 1)), v5] st A K := zx_iinc z44 dX0_isValidProjection_56 rfl rfl rfl
theorem s44_59 : zX d 44 59 ls st A K = zX d 44 5 ls st A K := zx_goto z44 dX0_isValidProjection_59 rfl
theorem s44_62 : zX d 44 62 [v0, v1, v2, zI x, v4, v5] st A K = zX d 44 63 [v0, v1, v2, zI x, v4, v5] (zI x :: st) A K := zx_iload_n z44 dX0_isValidProjection_62 rfl rfl
theorem s44_63 (h : x = 0 ∨ x = 1) : zX d 44 63 ls [zI x] A K = K (Sum.inl (some (zI x))) A := zx_iret z44 dX0_isValidProjection_63 zk44 (by rcases h with q | q <;> subst q <;> rfl)
theorem s45_0 : zX d 45 0 [v0, zO o] st A K = zX d 45 1 [v0, zO o] (zO o :: st) A K := zx_aload_n z45 dX0_chosenRelation_0 rfl rfl
theorem s45_1 : zX d 45 1 [zO o, v1] st A K = zX d 45 2 [zO o, v1] (zO o :: st) A K := zx_aload_n z45 dX0_chosenRelation_1 rfl rfl
theorem s45_2 (h : tg A a = 1) : zX d 45 2 ls (zO (some a) :: st) A K = zX d 45 5 ls (fd A a 23 :: st) A K := zx_getf z45 zo45 dX0_chosenRelation_2 F2_93 rfl h
theorem s45_5 : zX d 45 5 [v0, zO o] st A K = zX d 45 6 [v0, zO o] (zO o :: st) A K := zx_aload_n z45 dX0_chosenRelation_5 rfl rfl
theorem s45_6 (h : tg A a = 7) : zX d 45 6 ls (zO (some a) :: st) A K = zX d 45 9 ls (fd A a 4 :: st) A K := zx_getf z45 zo45 dX0_chosenRelation_6 F2_283 rfl h
theorem s45_9 (h : tg A a = 3) : zX d 45 9 ls (zO (some a) :: st) A K = zX d 45 12 ls (fd A a 0 :: st) A K := zx_getf z45 zo45 dX0_chosenRelation_9 F2_286 rfl h
theorem s45_12 (h : tg A a = 20) (h0 : 0 ≤ x) (h1 : x.toNat < (ia A a).length) : zX d 45 12 ls (zI x :: zO (some a) :: st) A K = zX d 45 13 ls (zI ((ia A a).getD x.toNat 0) :: st) A K := zx_iald z45 dX0_chosenRelation_12 rfl h h0 h1
theorem s45_12s (h : tg A a = 30) (h0 : 0 ≤ x) (h1 : x.toNat < (ia A a).length) : zX d 45 12 ls (zI x :: zO (some a) :: st) A K = zX d 45 13 ls (zI ((ia A a).getD x.toNat 0) :: st) A K := zx_sald z45 dX0_chosenRelation_12 rfl h h0 h1
theorem s45_13 : zX d 45 13 [zO o, v1] st A K = zX d 45 14 [zO o, v1] (zO o :: st) A K := zx_aload_n z45 dX0_chosenRelation_13 rfl rfl
theorem s45_14 (h : tg A a = 1) : zX d 45 14 ls (zO (some a) :: st) A K = zX d 45 17 ls (fd A a 23 :: st) A K := zx_getf z45 zo45 dX0_chosenRelation_14 F2_93 rfl h
theorem s45_17 : zX d 45 17 [v0, zO o] st A K = zX d 45 18 [v0, zO o] (zO o :: st) A K := zx_aload_n z45 dX0_chosenRelation_17 rfl rfl
theorem s45_18 (h : tg A a = 7) : zX d 45 18 ls (zO (some a) :: st) A K = zX d 45 21 ls (fd A a 4 :: st) A K := zx_getf z45 zo45 dX0_chosenRelation_18 F2_283 rfl h
theorem s45_21 (h : tg A a = 3) : zX d 45 21 ls (zO (some a) :: st) A K = zX d 45 24 ls (fd A a 1 :: st) A K := zx_getf z45 zo45 dX0_chosenRelation_21 F2_289 rfl h
theorem s45_24 (h : tg A a = 20) (h0 : 0 ≤ x) (h1 : x.toNat < (ia A a).length) : zX d 45 24 ls (zI x :: zO (some a) :: st) A K = zX d 45 25 ls (zI ((ia A a).getD x.toNat 0) :: st) A K := zx_iald z45 dX0_chosenRelation_24 rfl h h0 h1
theorem s45_24s (h : tg A a = 30) (h0 : 0 ≤ x) (h1 : x.toNat < (ia A a).length) : zX d 45 24 ls (zI x :: zO (some a) :: st) A K = zX d 45 25 ls (zI ((ia A a).getD x.toNat 0) :: st) A K := zx_sald z45 dX0_chosenRelation_24 rfl h h0 h1
theorem s45_25 (h : tg A a = 7)  : zX (d + 1) 45 25 ls (zI i1 :: zI i0 :: zO (some a) :: []) A K = zX d 122 0 [zO (some a), zI i0, zI i1] [] A (zK (d + 1) 45 25 28 ls [] K) := zx_callV (t := 7) z45 zo45 dX0_chosenRelation_25 rfl C2_292 rfl rfl zm122 rfl rfl (zwt_le (Nat.le_of_ble_eq_true rfl)) rfl h
theorem s45_28 : zX d 45 28 ls [zI x] A K = K (Sum.inl (some (zI x))) A := zx_iret z45 dX0_chosenRelation_28 zk45 rfl
theorem s46_0 : zX d 46 0 ls st A K = zX d 46 1 ls (zI 0 :: st) A K := zx_const z46 dX0_contains_0 (by decide) rfl
theorem s46_1 : zX d 46 1 [v0, v1, v2, v3, v4] (zI x :: st) A K = zX d 46 3 [v0, v1, v2, v3, zI x] st A K := zx_istore z46 dX0_contains_1 (Nat.le_of_ble_eq_true rfl) rfl rfl
theorem s46_3 : zX d 46 3 [v0, v1, v2, v3, zI x] st A K = zX d 46 5 [v0, v1, v2, v3, zI x] (zI x :: st) A K := zx_iload z46 dX0_contains_3 rfl rfl
theorem s46_5 : zX d 46 5 [zO o, v1, v2, v3, v4] st A K = zX d 46 6 [zO o, v1, v2, v3, v4] (zO o :: st) A K := zx_aload_n z46 dX0_contains_5 rfl rfl
theorem s46_6 (h : tg A a = 1) : zX d 46 6 ls (zO (some a) :: st) A K = zX d 46 9 ls (fd A a 11 :: st) A K := zx_getf z46 zo46 dX0_contains_6 F2_219 rfl h
theorem s46_9 : zX d 46 9 ls (zI y :: zI x :: st) A K = (if y ≤ x then zX d 46 62 ls st A K else zX d 46 12 ls st A K) := zx_ic_ge z46 dX0_contains_9 rfl rfl
theorem s46_12 : zX d 46 12 [v0, zO o, v2, v3, v4] st A K = zX d 46 13 [v0, zO o, v2, v3, v4] (zO o :: st) A K := zx_aload_n z46 dX0_contains_12 rfl rfl
theorem s46_13 : zX d 46 13 [v0, v1, v2, v3, zI x] st A K = zX d 46 15 [v0, v1, v2, v3, zI x] (zI x :: st) A K := zx_iload z46 dX0_contains_13 rfl rfl
theorem s46_15 (h : tg A a = 20) (h0 : 0 ≤ x) (h1 : x.toNat < (ia A a).length) : zX d 46 15 ls (zI x :: zO (some a) :: st) A K = zX d 46 16 ls (zI ((ia A a).getD x.toNat 0) :: st) A K := zx_iald z46 dX0_contains_15 rfl h h0 h1
theorem s46_15s (h : tg A a = 30) (h0 : 0 ≤ x) (h1 : x.toNat < (ia A a).length) : zX d 46 15 ls (zI x :: zO (some a) :: st) A K = zX d 46 16 ls (zI ((ia A a).getD x.toNat 0) :: st) A K := zx_sald z46 dX0_contains_15 rfl h h0 h1
theorem s46_16 : zX d 46 16 [v0, v1, zI x, v3, v4] st A K = zX d 46 17 [v0, v1, zI x, v3, v4] (zI x :: st) A K := zx_iload_n z46 dX0_contains_16 rfl rfl
theorem s46_17 : zX d 46 17 ls (zI y :: zI x :: st) A K = (if x ≠ y then zX d 46 56 ls st A K else zX d 46 20 ls st A K) := zx_ic_ne z46 dX0_contains_17 rfl rfl
theorem s46_20 : zX d 46 20 [zO o, v1, v2, v3, v4] st A K = zX d 46 21 [zO o, v1, v2, v3, v4] (zO o :: st) A K := zx_aload_n z46 dX0_contains_20 rfl rfl
theorem s46_21 (h : tg A a = 1) : zX d 46 21 ls (zO (some a) :: st) A K = zX d 46 24 ls (fd A a 10 :: st) A K := zx_getf z46 zo46 dX0_contains_21 F2_47 rfl h
theorem s46_24 : zX d 46 24 [v0, v1, v2, v3, zI x] st A K = zX d 46 26 [v0, v1, v2, v3, zI x] (zI x :: st) A K := zx_iload z46 dX0_contains_24 rfl rfl
theorem s46_26 (h : zarr (tg A a) = 3) (h0 : 0 ≤ x) (h1 : x.toNat < (ra A a).length) : zX d 46 26 ls (zI x :: zO (some a) :: st) A K = zX d 46 27 ls (zO ((ra A a).getD x.toNat none) :: st) A K := zx_aald z46 dX0_contains_26 rfl h h0 h1
theorem s46_27 (h : tg A a = 7) : zX d 46 27 ls (zO (some a) :: st) A K = zX d 46 30 ls (fd A a 4 :: st) A K := zx_getf z46 zo46 dX0_contains_27 F2_283 rfl h
theorem s46_30 (h : tg A a = 3) : zX d 46 30 ls (zO (some a) :: st) A K = zX d 46 33 ls (fd A a 0 :: st) A K := zx_getf z46 zo46 dX0_contains_30 F2_286 rfl h
theorem s46_33 : zX d 46 33 [v0, v1, v2, zI x, v4] st A K = zX d 46 34 [v0, v1, v2, zI x, v4] (zI x :: st) A K := zx_iload_n z46 dX0_contains_33 rfl rfl
theorem s46_34 : zX d 46 34 ls (zI y :: zI x :: st) A K = (if x = y then zX d 46 54 ls st A K else zX d 46 37 ls st A K) := zx_ic_eq z46 dX0_contains_34 rfl rfl
theorem s46_37 : zX d 46 37 [zO o, v1, v2, v3, v4] st A K = zX d 46 38 [zO o, v1, v2, v3, v4] (zO o :: st) A K := zx_aload_n z46 dX0_contains_37 rfl rfl
theorem s46_38 (h : tg A a = 1) : zX d 46 38 ls (zO (some a) :: st) A K = zX d 46 41 ls (fd A a 10 :: st) A K := zx_getf z46 zo46 dX0_contains_38 F2_47 rfl h
theorem s46_41 : zX d 46 41 [v0, v1, v2, v3, zI x] st A K = zX d 46 43 [v0, v1, v2, v3, zI x] (zI x :: st) A K := zx_iload z46 dX0_contains_41 rfl rfl
theorem s46_43 (h : zarr (tg A a) = 3) (h0 : 0 ≤ x) (h1 : x.toNat < (ra A a).length) : zX d 46 43 ls (zI x :: zO (some a) :: st) A K = zX d 46 44 ls (zO ((ra A a).getD x.toNat none) :: st) A K := zx_aald z46 dX0_contains_43 rfl h h0 h1
theorem s46_44 (h : tg A a = 7) : zX d 46 44 ls (zO (some a) :: st) A K = zX d 46 47 ls (fd A a 4 :: st) A K := zx_getf z46 zo46 dX0_contains_44 F2_283 rfl h
theorem s46_47 (h : tg A a = 3) : zX d 46 47 ls (zO (some a) :: st) A K = zX d 46 50 ls (fd A a 1 :: st) A K := zx_getf z46 zo46 dX0_contains_47 F2_289 rfl h
theorem s46_50 : zX d 46 50 [v0, v1, v2, zI x, v4] st A K = zX d 46 51 [v0, v1, v2, zI x, v4] (zI x :: st) A K := zx_iload_n z46 dX0_contains_50 rfl rfl
theorem s46_51 : zX d 46 51 ls (zI y :: zI x :: st) A K = (if x ≠ y then zX d 46 56 ls st A K else zX d 46 54 ls st A K) := zx_ic_ne z46 dX0_contains_51 rfl rfl
theorem s46_54 : zX d 46 54 ls st A K = zX d 46 55 ls (zI 1 :: st) A K := zx_const z46 dX0_contains_54 (by decide) rfl
theorem s46_55 (h : x = 0 ∨ x = 1) : zX d 46 55 ls [zI x] A K = K (Sum.inl (some (zI x))) A := zx_iret z46 dX0_contains_55 zk46 (by rcases h with q | q <;> subst q <;> rfl)
theorem s46_56 : zX d 46 56 [v0, v1, v2, v3, zI x] st A K = zX d 46 59 [v0, v1, v2, v3, zI (zw (x + 1))] st A K := zx_iinc z46 dX0_contains_56 rfl rfl rfl
theorem s46_59 : zX d 46 59 ls st A K = zX d 46 3 ls st A K := zx_goto z46 dX0_contains_59 rfl
theorem s46_62 : zX d 46 62 ls st A K = zX d 46 63 ls (zI 0 :: st) A K := zx_const z46 dX0_contains_62 (by decide) rfl
theorem s46_63 (h : x = 0 ∨ x = 1) : zX d 46 63 ls [zI x] A K = K (Sum.inl (some (zI x))) A := zx_iret z46 dX0_contains_63 zk46 (by rcases h with q | q <;> subst q <;> rfl)
theorem s47_0 : zX d 47 0 [zO o] st A K = zX d 47 1 [zO o] (zO o :: st) A K := zx_aload_n z47 dX0_eliminationRounds_0 rfl rfl
theorem s47_1 (h : tg A a = 1)  : zX (d + 1) 47 1 ls (zO (some a) :: []) A K = zX d 48 0 [zO (some a), zU, zU, zU, zU] [] A (zK (d + 1) 47 1 4 ls [] K) := zx_callV (t := 1) z47 zo47 dX0_eliminationRounds_1 rfl C2_369 rfl rfl zm48 rfl rfl (zwt_le (Nat.le_of_ble_eq_true rfl)) rfl h
theorem s47_4 : zX d 47 4 ls [zI x] A K = K (Sum.inl (some (zI x))) A := zx_iret z47 dX0_eliminationRounds_4 zk47 rfl
theorem s48_0 : zX d 48 0 [zO o, v1, v2, v3, v4] st A K = zX d 48 1 [zO o, v1, v2, v3, v4] (zO o :: st) A K := zx_aload_n z48 dX0_eliminate_0 rfl rfl
theorem s48_1 (h : tg A a = 1)  : zX (d + 1) 48 1 ls (zO (some a) :: []) A K = zX d 19 0 [zO (some a), zU, zU, zU] [] A (zK (d + 1) 48 1 4 ls [] K) := zx_callV (t := 1) z48 zo48 dX0_eliminate_1 rfl C2_240 rfl rfl zm19 rfl rfl (zwt_le (Nat.le_of_ble_eq_true rfl)) rfl h
theorem s48_4 : zX d 48 4 ls st A K = zX d 48 5 ls (zI 0 :: st) A K := zx_const z48 dX0_eliminate_4 (by decide) rfl
theorem s48_5 : zX d 48 5 [v0, v1, v2, v3, v4] (zI x :: st) A K = zX d 48 6 [v0, zI x, v2, v3, v4] st A K := zx_istore_n z48 dX0_eliminate_5 (Nat.le_of_ble_eq_true rfl) rfl rfl
theorem s48_6 : zX d 48 6 [v0, zI x, v2, v3, v4] st A K = zX d 48 7 [v0, zI x, v2, v3, v4] (zI x :: st) A K := zx_iload_n z48 dX0_eliminate_6 rfl rfl
theorem s48_7 : zX d 48 7 [zO o, v1, v2, v3, v4] st A K = zX d 48 8 [zO o, v1, v2, v3, v4] (zO o :: st) A K := zx_aload_n z48 dX0_eliminate_7 rfl rfl
theorem s48_8 (h : tg A a = 1) : zX d 48 8 ls (zO (some a) :: st) A K = zX d 48 11 ls (fd A a 11 :: st) A K := zx_getf z48 zo48 dX0_eliminate_8 F2_219 rfl h
theorem s48_11 : zX d 48 11 ls (zI y :: zI x :: st) A K = (if y ≤ x then zX d 48 27 ls st A K else zX d 48 14 ls st A K) := zx_ic_ge z48 dX0_eliminate_11 rfl rfl
theorem s48_14 : zX d 48 14 [zO o, v1, v2, v3, v4] st A K = zX d 48 15 [zO o, v1, v2, v3, v4] (zO o :: st) A K := zx_aload_n z48 dX0_eliminate_14 rfl rfl
theorem s48_15 (h : tg A a = 1) : zX d 48 15 ls (zO (some a) :: st) A K = zX d 48 18 ls (fd A a 15 :: st) A K := zx_getf z48 zo48 dX0_eliminate_15 F2_59 rfl h
theorem s48_18 : zX d 48 18 [v0, zI x, v2, v3, v4] st A K = zX d 48 19 [v0, zI x, v2, v3, v4] (zI x :: st) A K := zx_iload_n z48 dX0_eliminate_18 rfl rfl
theorem s48_19 : zX d 48 19 ls st A K = zX d 48 20 ls (zI 1 :: st) A K := zx_const z48 dX0_eliminate_19 (by decide) rfl
theorem s48_20 (h : tg A a = 21) (h0 : 0 ≤ x) (h1 : x.toNat < (ia A a).length) : zX d 48 20 ls (zI y :: zI x :: zO (some a) :: st) A K = zX d 48 21 ls st (pI A a ((ia A a).set x.toNat (zhb y))) K := zx_bast z48 dX0_eliminate_20 rfl h h0 h1
theorem s48_20z (h : tg A a = 22) (h2 : y = 0 ∨ y = 1) (h0 : 0 ≤ x) (h1 : x.toNat < (ia A a).length) : zX d 48 20 ls (zI y :: zI x :: zO (some a) :: st) A K = zX d 48 21 ls st (pI A a ((ia A a).set x.toNat y)) K := zx_zast z48 dX0_eliminate_20 rfl h h2 h0 h1
theorem s48_21 : zX d 48 21 [v0, zI x, v2, v3, v4] st A K = zX d 48 24 [v0, zI (zw (x + 1)), v2, v3, v4] st A K := zx_iinc z48 dX0_eliminate_21 rfl rfl rfl
theorem s48_24 : zX d 48 24 ls st A K = zX d 48 6 ls st A K := zx_goto z48 dX0_eliminate_24 rfl
theorem s48_27 : zX d 48 27 ls st A K = zX d 48 28 ls (zI (-1) :: st) A K := zx_const z48 dX0_eliminate_27 (by decide) rfl
theorem s48_28 : zX d 48 28 [v0, v1, v2, v3, v4] (zI x :: st) A K = zX d 48 29 [v0, zI x, v2, v3, v4] st A K := zx_istore_n z48 dX0_eliminate_28 (Nat.le_of_ble_eq_true rfl) rfl rfl
theorem s48_29 : zX d 48 29 ls st A K = zX d 48 30 ls (zI 1 :: st) A K := zx_const z48 dX0_eliminate_29 (by decide) rfl
theorem s48_30 : zX d 48 30 [v0, v1, v2, v3, v4] (zI x :: st) A K = zX d 48 31 [v0, v1, zI x, v3, v4] st A K := zx_istore_n z48 dX0_eliminate_30 (Nat.le_of_ble_eq_true rfl) rfl rfl
theorem s48_31 : zX d 48 31 [v0, v1, zI x, v3, v4] st A K = zX d 48 32 [v0, v1, zI x, v3, v4] (zI x :: st) A K := zx_iload_n z48 dX0_eliminate_31 rfl rfl
theorem s48_32 : zX d 48 32 ls (zI x :: st) A K = (if x = 0 then zX d 48 100 ls st A K else zX d 48 35 ls st A K) := zx_if_eq z48 dX0_eliminate_32 rfl rfl
theorem s48_35 : zX d 48 35 [v0, zI x, v2, v3, v4] st A K = zX d 48 38 [v0, zI (zw (x + 1)), v2, v3, v4] st A K := zx_iinc z48 dX0_eliminate_35 rfl rfl rfl
theorem s48_38 : zX d 48 38 [zO o, v1, v2, v3, v4] st A K = zX d 48 39 [zO o, v1, v2, v3, v4] (zO o :: st) A K := zx_aload_n z48 dX0_eliminate_38 rfl rfl
theorem s48_39 : zX d 48 39 [zO o, v1, v2, v3, v4] st A K = zX d 48 40 [zO o, v1, v2, v3, v4] (zO o :: st) A K := zx_aload_n z48 dX0_eliminate_39 rfl rfl
theorem s48_40 (h : tg A a = 1) : zX d 48 40 ls (zO (some a) :: st) A K = zX d 48 43 ls (fd A a 24 :: st) A K := zx_getf z48 zo48 dX0_eliminate_40 F2_96 rfl h
theorem s48_43 (h : tg A a = 1)  : zX (d + 1) 48 43 ls (zO o0 :: zO (some a) :: []) A K = zX d 22 0 [zO (some a), zO o0, zU, zU, zU] [] A (zK (d + 1) 48 43 46 ls [] K) := zx_callV (t := 1) z48 zo48 dX0_eliminate_43 rfl C2_229 rfl rfl zm22 rfl rfl (zwt_le (Nat.le_of_ble_eq_true rfl)) rfl h
theorem s48_46 : zX d 48 46 [zO o, v1, v2, v3, v4] st A K = zX d 48 47 [zO o, v1, v2, v3, v4] (zO o :: st) A K := zx_aload_n z48 dX0_eliminate_46 rfl rfl
theorem s48_47 : zX d 48 47 [zO o, v1, v2, v3, v4] st A K = zX d 48 48 [zO o, v1, v2, v3, v4] (zO o :: st) A K := zx_aload_n z48 dX0_eliminate_47 rfl rfl
theorem s48_48 (h : tg A a = 1) : zX d 48 48 ls (zO (some a) :: st) A K = zX d 48 51 ls (fd A a 24 :: st) A K := zx_getf z48 zo48 dX0_eliminate_48 F2_96 rfl h
theorem s48_51 (h : tg A a = 1)  : zX (d + 1) 48 51 ls (zO o0 :: zO (some a) :: []) A K = zX d 23 0 [zO (some a), zO o0, zU, zU] [] A (zK (d + 1) 48 51 54 ls [] K) := zx_callV (t := 1) z48 zo48 dX0_eliminate_51 rfl C2_233 rfl rfl zm23 rfl rfl (zwt_le (Nat.le_of_ble_eq_true rfl)) rfl h
theorem s48_54 : zX d 48 54 [v0, v1, v2, v3, v4] (zI x :: st) A K = zX d 48 55 [v0, v1, v2, zI x, v4] st A K := zx_istore_n z48 dX0_eliminate_54 (Nat.le_of_ble_eq_true rfl) rfl rfl
theorem s48_55 : zX d 48 55 ls st A K = zX d 48 56 ls (zI 0 :: st) A K := zx_const z48 dX0_eliminate_55 (by decide) rfl
theorem s48_56 : zX d 48 56 [v0, v1, v2, v3, v4] (zI x :: st) A K = zX d 48 57 [v0, v1, zI x, v3, v4] st A K := zx_istore_n z48 dX0_eliminate_56 (Nat.le_of_ble_eq_true rfl) rfl rfl
theorem s48_57 : zX d 48 57 ls st A K = zX d 48 58 ls (zI 0 :: st) A K := zx_const z48 dX0_eliminate_57 (by decide) rfl
theorem s48_58 : zX d 48 58 [v0, v1, v2, v3, v4] (zI x :: st) A K = zX d 48 60 [v0, v1, v2, v3, zI x] st A K := zx_istore z48 dX0_eliminate_58 (Nat.le_of_ble_eq_true rfl) rfl rfl
theorem s48_60 : zX d 48 60 [v0, v1, v2, v3, zI x] st A K = zX d 48 62 [v0, v1, v2, v3, zI x] (zI x :: st) A K := zx_iload z48 dX0_eliminate_60 rfl rfl
theorem s48_62 : zX d 48 62 [v0, v1, v2, zI x, v4] st A K = zX d 48 63 [v0, v1, v2, zI x, v4] (zI x :: st) A K := zx_iload_n z48 dX0_eliminate_62 rfl rfl
theorem s48_63 : zX d 48 63 ls (zI y :: zI x :: st) A K = (if y ≤ x then zX d 48 97 ls st A K else zX d 48 66 ls st A K) := zx_ic_ge z48 dX0_eliminate_63 rfl rfl
theorem s48_66 : zX d 48 66 [zO o, v1, v2, v3, v4] st A K = zX d 48 67 [zO o, v1, v2, v3, v4] (zO o :: st) A K := zx_aload_n z48 dX0_eliminate_66 rfl rfl
theorem s48_67 : zX d 48 67 [zO o, v1, v2, v3, v4] st A K = zX d 48 68 [zO o, v1, v2, v3, v4] (zO o :: st) A K := zx_aload_n z48 dX0_eliminate_67 rfl rfl
theorem s48_68 (h : tg A a = 1) : zX d 48 68 ls (zO (some a) :: st) A K = zX d 48 71 ls (fd A a 24 :: st) A K := zx_getf z48 zo48 dX0_eliminate_68 F2_96 rfl h
theorem s48_71 : zX d 48 71 [v0, v1, v2, v3, zI x] st A K = zX d 48 73 [v0, v1, v2, v3, zI x] (zI x :: st) A K := zx_iload z48 dX0_eliminate_71 rfl rfl
theorem s48_73 : zX d 48 73 ls st A K = zX d 48 74 ls (zI 0 :: st) A K := zx_const z48 dX0_eliminate_73 (by decide) rfl
theorem s48_74 : zX d 48 74 ls st A K = zX d 48 75 ls (zI 0 :: st) A K := zx_const z48 dX0_eliminate_74 (by decide) rfl
theorem s48_75 (h : tg A a = 1)  : zX (d + 1) 48 75 ls (zI i3 :: zI i2 :: zI i1 :: zO o0 :: zO (some a) :: []) A K = zX d 43 0 [zO (some a), zO o0, zI i1, zI i2, zI i3, zU, zU, zU] [] A (zK (d + 1) 48 75 78 ls [] K) := zx_callV (t := 1) z48 zo48 dX0_eliminate_75 rfl C2_362 rfl rfl zm43 rfl rfl (zwt_le (Nat.le_of_ble_eq_true rfl)) rfl h
theorem s48_78 : zX d 48 78 ls st A K = zX d 48 80 ls (zI (-5) :: st) A K := zx_bipush z48 dX0_eliminate_78 (by decide) rfl
theorem s48_80 : zX d 48 80 ls (zI y :: zI x :: st) A K = (if x = y then zX d 48 91 ls st A K else zX d 48 83 ls st A K) := zx_ic_eq z48 dX0_eliminate_80 rfl rfl
theorem s48_83 : zX d 48 83 ls st A K = zX d 48 84 ls (zI 1 :: st) A K := zx_const z48 dX0_eliminate_83 (by decide) rfl
theorem s48_84 : zX d 48 84 [v0, v1, v2, v3, v4] (zI x :: st) A K = zX d 48 85 [v0, v1, zI x, v3, v4] st A K := zx_istore_n z48 dX0_eliminate_84 (Nat.le_of_ble_eq_true rfl) rfl rfl
theorem s48_85 : zX d 48 85 [zO o, v1, v2, v3, v4] st A K = zX d 48 86 [zO o, v1, v2, v3, v4] (zO o :: st) A K := zx_aload_n z48 dX0_eliminate_85 rfl rfl
theorem s48_86 : zX d 48 86 [v0, v1, v2, v3, zI x] st A K = zX d 48 88 [v0, v1, v2, v3, zI x] (zI x :: st) A K := zx_iload z48 dX0_eliminate_86 rfl rfl
theorem s48_88 (h : tg A a = 1)  : zX (d + 1) 48 88 ls (zI i0 :: zO (some a) :: []) A K = zX d 49 0 [zO (some a), zI i0, zU] [] A (zK (d + 1) 48 88 91 ls [] K) := zx_callV (t := 1) z48 zo48 dX0_eliminate_88 rfl C2_366 rfl rfl zm49 rfl rfl (zwt_le (Nat.le_of_ble_eq_true rfl)) rfl h
theorem s48_91 : zX d 48 91 [v0, v1, v2, v3, zI x] st A K = zX d 48 94 [v0, v1, v2, v3, zI (zw (x + 1))] st A K := zx_iinc z48 dX0_eliminate_91 rfl rfl rfl
theorem s48_94 : zX d 48 94 ls st A K = zX d 48 60 ls st A K := zx_goto z48 dX0_eliminate_94 rfl
theorem s48_97 : zX d 48 97 ls st A K = zX d 48 31 ls st A K := zx_goto z48 dX0_eliminate_97 rfl
theorem s48_100 : zX d 48 100 [v0, zI x, v2, v3, v4] st A K = zX d 48 101 [v0, zI x, v2, v3, v4] (zI x :: st) A K := zx_iload_n z48 dX0_eliminate_100 rfl rfl
theorem s48_101 : zX d 48 101 ls [zI x] A K = K (Sum.inl (some (zI x))) A := zx_iret z48 dX0_eliminate_101 zk48 rfl
theorem s49_0 : zX d 49 0 ls st A K = zX d 49 1 ls (zI 0 :: st) A K := zx_const z49 dX0_removeDecreasing_0 (by decide) rfl
theorem s49_1 : zX d 49 1 [v0, v1, v2] (zI x :: st) A K = zX d 49 2 [v0, v1, zI x] st A K := zx_istore_n z49 dX0_removeDecreasing_1 (Nat.le_of_ble_eq_true rfl) rfl rfl
theorem s49_2 : zX d 49 2 [v0, v1, zI x] st A K = zX d 49 3 [v0, v1, zI x] (zI x :: st) A K := zx_iload_n z49 dX0_removeDecreasing_2 rfl rfl
theorem s49_3 : zX d 49 3 [zO o, v1, v2] st A K = zX d 49 4 [zO o, v1, v2] (zO o :: st) A K := zx_aload_n z49 dX0_removeDecreasing_3 rfl rfl
theorem s49_4 (h : tg A a = 1) : zX d 49 4 ls (zO (some a) :: st) A K = zX d 49 7 ls (fd A a 11 :: st) A K := zx_getf z49 zo49 dX0_removeDecreasing_4 F2_219 rfl h
theorem s49_7 : zX d 49 7 ls (zI y :: zI x :: st) A K = (if y ≤ x then zX d 49 54 ls st A K else zX d 49 10 ls st A K) := zx_ic_ge z49 dX0_removeDecreasing_7 rfl rfl
theorem s49_10 : zX d 49 10 [zO o, v1, v2] st A K = zX d 49 11 [zO o, v1, v2] (zO o :: st) A K := zx_aload_n z49 dX0_removeDecreasing_10 rfl rfl
theorem s49_11 (h : tg A a = 1) : zX d 49 11 ls (zO (some a) :: st) A K = zX d 49 14 ls (fd A a 15 :: st) A K := zx_getf z49 zo49 dX0_removeDecreasing_11 F2_59 rfl h
theorem s49_14 : zX d 49 14 [v0, v1, zI x] st A K = zX d 49 15 [v0, v1, zI x] (zI x :: st) A K := zx_iload_n z49 dX0_removeDecreasing_14 rfl rfl
theorem s49_15 (h : zc v = true) (h2 : zc u = true) : zX d 49 15 ls (v :: u :: st) A K = zX d 49 16 ls (v :: u :: v :: u :: st) A K := zx_dup2 z49 dX0_removeDecreasing_15 rfl h h2
theorem s49_16 (h : tg A a = 21) (h0 : 0 ≤ x) (h1 : x.toNat < (ia A a).length) : zX d 49 16 ls (zI x :: zO (some a) :: st) A K = zX d 49 17 ls (zI ((ia A a).getD x.toNat 0) :: st) A K := zx_bald z49 dX0_removeDecreasing_16 rfl h h0 h1
theorem s49_16z (h : tg A a = 22) (h0 : 0 ≤ x) (h1 : x.toNat < (ia A a).length) : zX d 49 16 ls (zI x :: zO (some a) :: st) A K = zX d 49 17 ls (zI ((ia A a).getD x.toNat 0) :: st) A K := zx_zald z49 dX0_removeDecreasing_16 rfl h h0 h1
theorem s49_17 : zX d 49 17 [zO o, v1, v2] st A K = zX d 49 18 [zO o, v1, v2] (zO o :: st) A K := zx_aload_n z49 dX0_removeDecreasing_17 rfl rfl
theorem s49_18 (h : tg A a = 1) : zX d 49 18 ls (zO (some a) :: st) A K = zX d 49 21 ls (fd A a 24 :: st) A K := zx_getf z49 zo49 dX0_removeDecreasing_18 F2_96 rfl h
theorem s49_21 : zX d 49 21 [v0, v1, zI x] st A K = zX d 49 22 [v0, v1, zI x] (zI x :: st) A K := zx_iload_n z49 dX0_removeDecreasing_21 rfl rfl
theorem s49_22 (h : tg A a = 20) (h0 : 0 ≤ x) (h1 : x.toNat < (ia A a).length) : zX d 49 22 ls (zI x :: zO (some a) :: st) A K = zX d 49 23 ls (zI ((ia A a).getD x.toNat 0) :: st) A K := zx_iald z49 dX0_removeDecreasing_22 rfl h h0 h1
theorem s49_22s (h : tg A a = 30) (h0 : 0 ≤ x) (h1 : x.toNat < (ia A a).length) : zX d 49 22 ls (zI x :: zO (some a) :: st) A K = zX d 49 23 ls (zI ((ia A a).getD x.toNat 0) :: st) A K := zx_sald z49 dX0_removeDecreasing_22 rfl h h0 h1
theorem s49_23 : zX d 49 23 [v0, zI x, v2] st A K = zX d 49 24 [v0, zI x, v2] (zI x :: st) A K := zx_iload_n z49 dX0_removeDecreasing_23 rfl rfl
theorem s49_24 : zX d 49 24 ls (zI y :: zI x :: st) A K = (if x ≠ y then zX d 49 41 ls st A K else zX d 49 27 ls st A K) := zx_ic_ne z49 dX0_removeDecreasing_24 rfl rfl
theorem s49_27 : zX d 49 27 [zO o, v1, v2] st A K = zX d 49 28 [zO o, v1, v2] (zO o :: st) A K := zx_aload_n z49 dX0_removeDecreasing_27 rfl rfl
theorem s49_28 : zX d 49 28 [zO o, v1, v2] st A K = zX d 49 29 [zO o, v1, v2] (zO o :: st) A K := zx_aload_n z49 dX0_removeDecreasing_28 rfl rfl
theorem s49_29 (h : tg A a = 1) : zX d 49 29 ls (zO (some a) :: st) A K = zX d 49 32 ls (fd A a 10 :: st) A K := zx_getf z49 zo49 dX0_removeDecreasing_29 F2_47 rfl h
theorem s49_32 : zX d 49 32 [v0, v1, zI x] st A K = zX d 49 33 [v0, v1, zI x] (zI x :: st) A K := zx_iload_n z49 dX0_removeDecreasing_32 rfl rfl
theorem s49_33 (h : zarr (tg A a) = 3) (h0 : 0 ≤ x) (h1 : x.toNat < (ra A a).length) : zX d 49 33 ls (zI x :: zO (some a) :: st) A K = zX d 49 34 ls (zO ((ra A a).getD x.toNat none) :: st) A K := zx_aald z49 dX0_removeDecreasing_33 rfl h h0 h1
theorem s49_34 (h : tg A a = 1)  : zX (d + 1) 49 34 ls (zO o0 :: zO (some a) :: [w0, w1, w2]) A K = zX d 45 0 [zO (some a), zO o0] [] A (zK (d + 1) 49 34 37 ls [w0, w1, w2] K) := zx_callV (t := 1) z49 zo49 dX0_removeDecreasing_34 rfl C2_351 rfl rfl zm45 rfl rfl (zwt_le (Nat.le_of_ble_eq_true rfl)) rfl h
theorem s49_37 : zX d 49 37 ls st A K = zX d 49 38 ls (zI 2 :: st) A K := zx_const z49 dX0_removeDecreasing_37 (by decide) rfl
theorem s49_38 : zX d 49 38 ls (zI y :: zI x :: st) A K = (if x = y then zX d 49 45 ls st A K else zX d 49 41 ls st A K) := zx_ic_eq z49 dX0_removeDecreasing_38 rfl rfl
theorem s49_41 : zX d 49 41 ls st A K = zX d 49 42 ls (zI 1 :: st) A K := zx_const z49 dX0_removeDecreasing_41 (by decide) rfl
theorem s49_42 : zX d 49 42 ls st A K = zX d 49 46 ls st A K := zx_goto z49 dX0_removeDecreasing_42 rfl
theorem s49_45 : zX d 49 45 ls st A K = zX d 49 46 ls (zI 0 :: st) A K := zx_const z49 dX0_removeDecreasing_45 (by decide) rfl
theorem s49_46 : zX d 49 46 ls (zI y :: zI x :: st) A K = zX d 49 47 ls (zI ((Int32.ofInt x &&& Int32.ofInt y).toInt) :: st) A K := zx_iand z49 dX0_removeDecreasing_46 rfl
theorem s49_47 (h : tg A a = 21) (h0 : 0 ≤ x) (h1 : x.toNat < (ia A a).length) : zX d 49 47 ls (zI y :: zI x :: zO (some a) :: st) A K = zX d 49 48 ls st (pI A a ((ia A a).set x.toNat (zhb y))) K := zx_bast z49 dX0_removeDecreasing_47 rfl h h0 h1
theorem s49_47z (h : tg A a = 22) (h2 : y = 0 ∨ y = 1) (h0 : 0 ≤ x) (h1 : x.toNat < (ia A a).length) : zX d 49 47 ls (zI y :: zI x :: zO (some a) :: st) A K = zX d 49 48 ls st (pI A a ((ia A a).set x.toNat y)) K := zx_zast z49 dX0_removeDecreasing_47 rfl h h2 h0 h1
theorem s49_48 : zX d 49 48 [v0, v1, zI x] st A K = zX d 49 51 [v0, v1, zI (zw (x + 1))] st A K := zx_iinc z49 dX0_removeDecreasing_48 rfl rfl rfl
theorem s49_51 : zX d 49 51 ls st A K = zX d 49 2 ls st A K := zx_goto z49 dX0_removeDecreasing_51 rfl
theorem s49_54 : zX d 49 54 ls [] A K = K (Sum.inl none) A := zx_vret z49 dX0_removeDecreasing_54 rfl
theorem s50_0 : zX d 50 0 [zO o, v1, v2] st A K = zX d 50 1 [zO o, v1, v2] (zO o :: st) A K := zx_aload_n z50 dX0_remainingPairCount_0 rfl rfl
theorem s50_1 (h : tg A a = 1)  : zX (d + 1) 50 1 ls (zO (some a) :: []) A K = zX d 48 0 [zO (some a), zU, zU, zU, zU] [] A (zK (d + 1) 50 1 4 ls [] K) := zx_callV (t := 1) z50 zo50 dX0_remainingPairCount_1 rfl C2_369 rfl rfl zm48 rfl rfl (zwt_le (Nat.le_of_ble_eq_true rfl)) rfl h
theorem s50_4 (h : zc v = true) : zX d 50 4 ls (v :: st) A K = zX d 50 5 ls st A K := zx_pop z50 dX0_remainingPairCount_4 rfl h
theorem s50_5 : zX d 50 5 ls st A K = zX d 50 6 ls (zI 0 :: st) A K := zx_const z50 dX0_remainingPairCount_5 (by decide) rfl
theorem s50_6 : zX d 50 6 [v0, v1, v2] (zI x :: st) A K = zX d 50 7 [v0, zI x, v2] st A K := zx_istore_n z50 dX0_remainingPairCount_6 (Nat.le_of_ble_eq_true rfl) rfl rfl
theorem s50_7 : zX d 50 7 ls st A K = zX d 50 8 ls (zI 0 :: st) A K := zx_const z50 dX0_remainingPairCount_7 (by decide) rfl
theorem s50_8 : zX d 50 8 [v0, v1, v2] (zI x :: st) A K = zX d 50 9 [v0, v1, zI x] st A K := zx_istore_n z50 dX0_remainingPairCount_8 (Nat.le_of_ble_eq_true rfl) rfl rfl
theorem s50_9 : zX d 50 9 [v0, v1, zI x] st A K = zX d 50 10 [v0, v1, zI x] (zI x :: st) A K := zx_iload_n z50 dX0_remainingPairCount_9 rfl rfl
theorem s50_10 : zX d 50 10 [zO o, v1, v2] st A K = zX d 50 11 [zO o, v1, v2] (zO o :: st) A K := zx_aload_n z50 dX0_remainingPairCount_10 rfl rfl
theorem s50_11 (h : tg A a = 1) : zX d 50 11 ls (zO (some a) :: st) A K = zX d 50 14 ls (fd A a 11 :: st) A K := zx_getf z50 zo50 dX0_remainingPairCount_11 F2_219 rfl h
theorem s50_14 : zX d 50 14 ls (zI y :: zI x :: st) A K = (if y ≤ x then zX d 50 45 ls st A K else zX d 50 17 ls st A K) := zx_ic_ge z50 dX0_remainingPairCount_14 rfl rfl
theorem s50_17 : zX d 50 17 [v0, zI x, v2] st A K = zX d 50 18 [v0, zI x, v2] (zI x :: st) A K := zx_iload_n z50 dX0_remainingPairCount_17 rfl rfl
theorem s50_18 : zX d 50 18 [zO o, v1, v2] st A K = zX d 50 19 [zO o, v1, v2] (zO o :: st) A K := zx_aload_n z50 dX0_remainingPairCount_18 rfl rfl
theorem s50_19 (h : tg A a = 1) : zX d 50 19 ls (zO (some a) :: st) A K = zX d 50 22 ls (fd A a 24 :: st) A K := zx_getf z50 zo50 dX0_remainingPairCount_19 F2_96 rfl h
theorem s50_22 : zX d 50 22 [v0, v1, zI x] st A K = zX d 50 23 [v0, v1, zI x] (zI x :: st) A K := zx_iload_n z50 dX0_remainingPairCount_22 rfl rfl
theorem s50_23 (h : tg A a = 20) (h0 : 0 ≤ x) (h1 : x.toNat < (ia A a).length) : zX d 50 23 ls (zI x :: zO (some a) :: st) A K = zX d 50 24 ls (zI ((ia A a).getD x.toNat 0) :: st) A K := zx_iald z50 dX0_remainingPairCount_23 rfl h h0 h1
theorem s50_23s (h : tg A a = 30) (h0 : 0 ≤ x) (h1 : x.toNat < (ia A a).length) : zX d 50 23 ls (zI x :: zO (some a) :: st) A K = zX d 50 24 ls (zI ((ia A a).getD x.toNat 0) :: st) A K := zx_sald z50 dX0_remainingPairCount_23 rfl h h0 h1
theorem s50_24 : zX d 50 24 ls st A K = zX d 50 26 ls (zI (-5) :: st) A K := zx_bipush z50 dX0_remainingPairCount_24 (by decide) rfl
theorem s50_26 : zX d 50 26 ls (zI y :: zI x :: st) A K = (if x = y then zX d 50 33 ls st A K else zX d 50 29 ls st A K) := zx_ic_eq z50 dX0_remainingPairCount_26 rfl rfl
theorem s50_29 : zX d 50 29 ls st A K = zX d 50 30 ls (zI 1 :: st) A K := zx_const z50 dX0_remainingPairCount_29 (by decide) rfl
theorem s50_30 : zX d 50 30 ls st A K = zX d 50 34 ls st A K := zx_goto z50 dX0_remainingPairCount_30 rfl
theorem s50_33 : zX d 50 33 ls st A K = zX d 50 34 ls (zI 0 :: st) A K := zx_const z50 dX0_remainingPairCount_33 (by decide) rfl
theorem s50_34 : zX (d + 1) 50 34 ls (zI i0 :: [w0]) A K = zX d 30 0 [zI i0] [] A (zK (d + 1) 50 34 37 ls [w0] K) := zx_callS z50 zo50 dX0_remainingPairCount_34 rfl C2_252 rfl rfl zm30 rfl rfl (zwt_le (Nat.le_of_ble_eq_true rfl)) rfl
theorem s50_37 : zX d 50 37 ls (zI y :: zI x :: st) A K = zX d 50 38 ls (zI (zw (x + y)) :: st) A K := zx_iadd z50 dX0_remainingPairCount_37 rfl
theorem s50_38 : zX d 50 38 [v0, v1, v2] (zI x :: st) A K = zX d 50 39 [v0, zI x, v2] st A K := zx_istore_n z50 dX0_remainingPairCount_38 (Nat.le_of_ble_eq_true rfl) rfl rfl
theorem s50_39 : zX d 50 39 [v0, v1, zI x] st A K = zX d 50 42 [v0, v1, zI (zw (x + 1))] st A K := zx_iinc z50 dX0_remainingPairCount_39 rfl rfl rfl
theorem s50_42 : zX d 50 42 ls st A K = zX d 50 9 ls st A K := zx_goto z50 dX0_remainingPairCount_42 rfl
theorem s50_45 : zX d 50 45 [v0, zI x, v2] st A K = zX d 50 46 [v0, zI x, v2] (zI x :: st) A K := zx_iload_n z50 dX0_remainingPairCount_45 rfl rfl
theorem s50_46 : zX d 50 46 ls [zI x] A K = K (Sum.inl (some (zI x))) A := zx_iret z50 dX0_remainingPairCount_46 zk50 rfl
theorem s51_0 : zX d 51 0 [zO o] st A K = zX d 51 1 [zO o] (zO o :: st) A K := zx_aload_n z51 dX0_remainingComponentCount_0 rfl rfl
theorem s51_1 (h : tg A a = 1)  : zX (d + 1) 51 1 ls (zO (some a) :: []) A K = zX d 48 0 [zO (some a), zU, zU, zU, zU] [] A (zK (d + 1) 51 1 4 ls [] K) := zx_callV (t := 1) z51 zo51 dX0_remainingComponentCount_1 rfl C2_369 rfl rfl zm48 rfl rfl (zwt_le (Nat.le_of_ble_eq_true rfl)) rfl h
theorem s51_4 (h : zc v = true) : zX d 51 4 ls (v :: st) A K = zX d 51 5 ls st A K := zx_pop z51 dX0_remainingComponentCount_4 rfl h
theorem s51_5 : zX d 51 5 [zO o] st A K = zX d 51 6 [zO o] (zO o :: st) A K := zx_aload_n z51 dX0_remainingComponentCount_5 rfl rfl
theorem s51_6 : zX d 51 6 [zO o] st A K = zX d 51 7 [zO o] (zO o :: st) A K := zx_aload_n z51 dX0_remainingComponentCount_6 rfl rfl
theorem s51_7 (h : tg A a = 1) : zX d 51 7 ls (zO (some a) :: st) A K = zX d 51 10 ls (fd A a 24 :: st) A K := zx_getf z51 zo51 dX0_remainingComponentCount_7 F2_96 rfl h
theorem s51_10 (h : tg A a = 1)  : zX (d + 1) 51 10 ls (zO o0 :: zO (some a) :: []) A K = zX d 23 0 [zO (some a), zO o0, zU, zU] [] A (zK (d + 1) 51 10 13 ls [] K) := zx_callV (t := 1) z51 zo51 dX0_remainingComponentCount_10 rfl C2_233 rfl rfl zm23 rfl rfl (zwt_le (Nat.le_of_ble_eq_true rfl)) rfl h
theorem s51_13 : zX d 51 13 ls [zI x] A K = K (Sum.inl (some (zI x))) A := zx_iret z51 dX0_remainingComponentCount_13 zk51 rfl
theorem s52_0 : zX d 52 0 [zO o] st A K = zX d 52 1 [zO o] (zO o :: st) A K := zx_aload_n z52 dX0_terminatesBySubtermCriterion_0 rfl rfl
theorem s52_1 (h : tg A a = 1)  : zX (d + 1) 52 1 ls (zO (some a) :: []) A K = zX d 51 0 [zO (some a)] [] A (zK (d + 1) 52 1 4 ls [] K) := zx_callV (t := 1) z52 zo52 dX0_terminatesBySubtermCriterion_1 rfl C2_372 rfl rfl zm51 rfl rfl (zwt_le (Nat.le_of_ble_eq_true rfl)) rfl h
theorem s52_4 : zX d 52 4 ls (zI x :: st) A K = (if x ≠ 0 then zX d 52 11 ls st A K else zX d 52 7 ls st A K) := zx_if_ne z52 dX0_terminatesBySubtermCriterion_4 rfl rfl
theorem s52_7 : zX d 52 7 ls st A K = zX d 52 8 ls (zI 1 :: st) A K := zx_const z52 dX0_terminatesBySubtermCriterion_7 (by decide) rfl
theorem s52_8 : zX d 52 8 ls st A K = zX d 52 12 ls st A K := zx_goto z52 dX0_terminatesBySubtermCriterion_8 rfl
theorem s52_11 : zX d 52 11 ls st A K = zX d 52 12 ls (zI 0 :: st) A K := zx_const z52 dX0_terminatesBySubtermCriterion_11 (by decide) rfl
theorem s52_12 : zX (d + 1) 52 12 ls (zI i0 :: []) A K = zX d 30 0 [zI i0] [] A (zK (d + 1) 52 12 15 ls [] K) := zx_callS z52 zo52 dX0_terminatesBySubtermCriterion_12 rfl C2_252 rfl rfl zm30 rfl rfl (zwt_le (Nat.le_of_ble_eq_true rfl)) rfl
theorem s52_15 : zX d 52 15 ls [zI x] A K = K (Sum.inl (some (zI x))) A := zx_iret z52 dX0_terminatesBySubtermCriterion_15 zk52 rfl
theorem s53_0 : zX d 53 0 [v0, zI x, v2, v3, v4] st A K = zX d 53 1 [v0, zI x, v2, v3, v4] (zI x :: st) A K := zx_iload_n z53 dX0_parseTerm_0 rfl rfl
theorem s53_1 : zX (d + 1) 53 1 ls (zI i0 :: []) A K = zX d 54 0 [zI i0] [] A (zK (d + 1) 53 1 4 ls [] K) := zx_callS z53 zo53 dX0_parseTerm_1 rfl C2_408 rfl rfl zm54 rfl rfl (zwt_le (Nat.le_of_ble_eq_true rfl)) rfl
theorem s53_4 : zX d 53 4 ls (zI x :: st) A K = (if x ≠ 0 then zX d 53 9 ls st A K else zX d 53 7 ls st A K) := zx_if_ne z53 dX0_parseTerm_4 rfl rfl
theorem s53_7 : zX d 53 7 ls st A K = zX d 53 8 ls (zI (-1) :: st) A K := zx_const z53 dX0_parseTerm_7 (by decide) rfl
theorem s53_8 : zX d 53 8 ls [zI x] A K = K (Sum.inl (some (zI x))) A := zx_iret z53 dX0_parseTerm_8 zk53 rfl
theorem s53_9 : zX d 53 9 [zO o, v1, v2, v3, v4] st A K = zX d 53 10 [zO o, v1, v2, v3, v4] (zO o :: st) A K := zx_aload_n z53 dX0_parseTerm_9 rfl rfl
theorem s53_10 (h : tg A a = 1) : zX d 53 10 ls (zO (some a) :: st) A K = zX d 53 13 ls (fd A a 8 :: st) A K := zx_getf z53 zo53 dX0_parseTerm_10 F2_37 rfl h
theorem s53_13 (h : tg A a = 2)  : zX (d + 1) 53 13 ls (zO (some a) :: []) A K = zX d 97 0 [zO (some a), zU] [] A (zK (d + 1) 53 13 16 ls [] K) := zx_callV (t := 2) z53 zo53 dX0_parseTerm_13 rfl C2_411 rfl rfl zm97 rfl rfl (zwt_le (Nat.le_of_ble_eq_true rfl)) rfl h
theorem s53_16 : zX d 53 16 [v0, v1, v2, v3, v4] (zO o :: st) A K = zX d 53 17 [v0, v1, zO o, v3, v4] st A K := zx_astore_n z53 dX0_parseTerm_16 (Nat.le_of_ble_eq_true rfl) rfl rfl
theorem s53_17 : zX d 53 17 [v0, v1, zO o, v3, v4] st A K = zX d 53 18 [v0, v1, zO o, v3, v4] (zO o :: st) A K := zx_aload_n z53 dX0_parseTerm_17 rfl rfl
theorem s53_18 (h : tg A a = 4)  : zX (d + 1) 53 18 ls (zO (some a) :: []) A K = zX d 108 0 [zO (some a)] [] A (zK (d + 1) 53 18 21 ls [] K) := zx_callV (t := 4) z53 zo53 dX0_parseTerm_18 rfl C2_165 rfl rfl zm108 rfl rfl (zwt_le (Nat.le_of_ble_eq_true rfl)) rfl h
theorem s53_21 : zX d 53 21 ls st A K = zX d 53 23 ls (zI (40) :: st) A K := zx_bipush z53 dX0_parseTerm_21 (by decide) rfl
theorem s53_23 : zX d 53 23 ls (zI y :: zI x :: st) A K = (if x ≤ y then zX d 53 31 ls st A K else zX d 53 26 ls st A K) := zx_ic_le z53 dX0_parseTerm_23 rfl rfl
theorem s53_26 : zX d 53 26 ls st A K = zX d 53 28 ls (zI (-6) :: st) A K := zx_bipush z53 dX0_parseTerm_26 (by decide) rfl
theorem s53_28 : zX d 53 28 ls st A K = zX d 53 37 ls st A K := zx_goto z53 dX0_parseTerm_28 rfl
theorem s53_31 : zX d 53 31 [zO o, v1, v2, v3, v4] st A K = zX d 53 32 [zO o, v1, v2, v3, v4] (zO o :: st) A K := zx_aload_n z53 dX0_parseTerm_31 rfl rfl
theorem s53_32 : zX d 53 32 [v0, v1, zO o, v3, v4] st A K = zX d 53 33 [v0, v1, zO o, v3, v4] (zO o :: st) A K := zx_aload_n z53 dX0_parseTerm_32 rfl rfl
theorem s53_33 : zX d 53 33 [v0, zI x, v2, v3, v4] st A K = zX d 53 34 [v0, zI x, v2, v3, v4] (zI x :: st) A K := zx_iload_n z53 dX0_parseTerm_33 rfl rfl
theorem s53_34 (h : tg A a = 1)  : zX (d + 1) 53 34 ls (zI i1 :: zO o0 :: zO (some a) :: []) A K = zX d 55 0 [zO (some a), zO o0, zI i1] [] A (zK (d + 1) 53 34 37 ls [] K) := zx_callV (t := 1) z53 zo53 dX0_parseTerm_34 rfl C2_414 rfl rfl zm55 rfl rfl (zwt_le (Nat.le_of_ble_eq_true rfl)) rfl h
theorem s53_37 : zX d 53 37 [v0, v1, v2, v3, v4] (zI x :: st) A K = zX d 53 38 [v0, v1, v2, zI x, v4] st A K := zx_istore_n z53 dX0_parseTerm_37 (Nat.le_of_ble_eq_true rfl) rfl rfl
theorem s53_38 : zX d 53 38 [zO o, v1, v2, v3, v4] st A K = zX d 53 39 [zO o, v1, v2, v3, v4] (zO o :: st) A K := zx_aload_n z53 dX0_parseTerm_38 rfl rfl
theorem s53_39 : zX d 53 39 ls st A K = zX d 53 40 ls (zI 0 :: st) A K := zx_const z53 dX0_parseTerm_39 (by decide) rfl
theorem s53_40 (h : tg A a = 1) : zX d 53 40 ls (zI x :: zO (some a) :: st) A K = zX d 53 43 ls st (pF A a 7 (zI x)) K := zx_putf (q := 0) z53 zo53 dX0_parseTerm_40 F2_154 rfl rfl rfl h rfl
theorem s53_43 : zX d 53 43 [v0, v1, v2, zI x, v4] st A K = zX d 53 44 [v0, v1, v2, zI x, v4] (zI x :: st) A K := zx_iload_n z53 dX0_parseTerm_43 rfl rfl
theorem s53_44 : zX d 53 44 ls [zI x] A K = K (Sum.inl (some (zI x))) A := zx_iret z53 dX0_parseTerm_44 zk53 rfl
theorem s53_45 : zX d 53 45 [v0, v1, v2, v3, v4] (zO o :: st) A K = zX d 53 46 [v0, v1, zO o, v3, v4] st A K := zx_astore_n z53 dX0_parseTerm_45 (Nat.le_of_ble_eq_true rfl) rfl rfl
theorem s53_46 : zX d 53 46 ls st A K = zX d 53 48 ls (zI (-100) :: st) A K := zx_bipush z53 dX0_parseTerm_46 (by decide) rfl
theorem s53_48 : zX d 53 48 [v0, v1, zO o, v3, v4] st A K = zX d 53 49 [v0, v1, zO o, v3, v4] (zO o :: st) A K := zx_aload_n z53 dX0_parseTerm_48 rfl rfl
theorem s53_49 (h : tg A a = 5) : zX d 53 49 ls (zO (some a) :: st) A K = zX d 53 52 ls (fd A a 6 :: st) A K := zx_getf z53 zo53 dX0_parseTerm_49 F2_189 rfl h
theorem s53_52 : zX d 53 52 ls (zI y :: zI x :: st) A K = zX d 53 53 ls (zI (zw (x - y)) :: st) A K := zx_isub z53 dX0_parseTerm_52 rfl
theorem s53_53 : zX d 53 53 [v0, v1, v2, v3, v4] (zI x :: st) A K = zX d 53 54 [v0, v1, v2, zI x, v4] st A K := zx_istore_n z53 dX0_parseTerm_53 (Nat.le_of_ble_eq_true rfl) rfl rfl
theorem s53_54 : zX d 53 54 [zO o, v1, v2, v3, v4] st A K = zX d 53 55 [zO o, v1, v2, v3, v4] (zO o :: st) A K := zx_aload_n z53 dX0_parseTerm_54 rfl rfl
theorem s53_55 : zX d 53 55 ls st A K = zX d 53 56 ls (zI 0 :: st) A K := zx_const z53 dX0_parseTerm_55 (by decide) rfl
theorem s53_56 (h : tg A a = 1) : zX d 53 56 ls (zI x :: zO (some a) :: st) A K = zX d 53 59 ls st (pF A a 7 (zI x)) K := zx_putf (q := 0) z53 zo53 dX0_parseTerm_56 F2_154 rfl rfl rfl h rfl
theorem s53_59 : zX d 53 59 [v0, v1, v2, zI x, v4] st A K = zX d 53 60 [v0, v1, v2, zI x, v4] (zI x :: st) A K := zx_iload_n z53 dX0_parseTerm_59 rfl rfl
theorem s53_60 : zX d 53 60 ls [zI x] A K = K (Sum.inl (some (zI x))) A := zx_iret z53 dX0_parseTerm_60 zk53 rfl
theorem s53_61 : zX d 53 61 [v0, v1, v2, v3, v4] (zO o :: st) A K = zX d 53 63 [v0, v1, v2, v3, zO o] st A K := zx_astore z53 dX0_parseTerm_61 (Nat.le_of_ble_eq_true rfl) rfl rfl
theorem s53_63 : zX d 53 63 [zO o, v1, v2, v3, v4] st A K = zX d 53 64 [zO o, v1, v2, v3, v4] (zO o :: st) A K := zx_aload_n z53 dX0_parseTerm_63 rfl rfl
theorem s53_64 : zX d 53 64 ls st A K = zX d 53 65 ls (zI 0 :: st) A K := zx_const z53 dX0_parseTerm_64 (by decide) rfl
theorem s53_65 (h : tg A a = 1) : zX d 53 65 ls (zI x :: zO (some a) :: st) A K = zX d 53 68 ls st (pF A a 7 (zI x)) K := zx_putf (q := 0) z53 zo53 dX0_parseTerm_65 F2_154 rfl rfl rfl h rfl
theorem s53_68 : zX d 53 68 [v0, v1, v2, v3, zO o] st A K = zX d 53 70 [v0, v1, v2, v3, zO o] (zO o :: st) A K := zx_aload z53 dX0_parseTerm_68 rfl rfl
theorem s54_0 : zX d 54 0 [zI x] st A K = zX d 54 1 [zI x] (zI x :: st) A K := zx_iload_n z54 dX0_isRegister_0 rfl rfl
theorem s54_1 : zX d 54 1 ls (zI x :: st) A K = zX d 54 2 ls (zL x :: st) A K := zx_i2l z54 dX0_isRegister_1 rfl
theorem s54_2 : zX d 54 2 ls st A K = zX d 54 3 ls (zL 0 :: st) A K := zx_lconst z54 dX0_isRegister_2 rfl
theorem s54_3 : zX d 54 3 ls st A K = zX d 54 6 ls (zL (3) :: st) A K := zx_ldc2 z54 zo54 dX0_isRegister_3 rfl rfl
theorem s54_6 : zX d 54 6 ls (zL y :: zL x :: zL w :: []) A K = zX d 54 9 ls (zI (zb (decide (x ≤ w ∧ w ≤ y))) :: []) A K := zx_inS z54 zo54 dX0_isRegister_6 rfl rfl rfl (zin_2 (zwt_le (Nat.le_of_ble_eq_true rfl)))
theorem s54_9 (h : x = 0 ∨ x = 1) : zX d 54 9 ls [zI x] A K = K (Sum.inl (some (zI x))) A := zx_iret z54 dX0_isRegister_9 zk54 (by rcases h with q | q <;> subst q <;> rfl)
theorem s55_0 : zX d 55 0 [zO o, v1, v2] st A K = zX d 55 1 [zO o, v1, v2] (zO o :: st) A K := zx_aload_n z55 dX0_store_0 rfl rfl
theorem s55_1 (h : tg A a = 1) : zX d 55 1 ls (zO (some a) :: st) A K = zX d 55 4 ls (fd A a 3 :: st) A K := zx_getf z55 zo55 dX0_store_1 F2_21 rfl h
theorem s55_4 : zX d 55 4 [v0, v1, zI x] st A K = zX d 55 5 [v0, v1, zI x] (zI x :: st) A K := zx_iload_n z55 dX0_store_4 rfl rfl
theorem s55_5 : zX d 55 5 [v0, zO o, v2] st A K = zX d 55 6 [v0, zO o, v2] (zO o :: st) A K := zx_aload_n z55 dX0_store_5 rfl rfl
theorem s55_6 (h : 24 ≤ tg A a) (h4 : tg A a ≤ 28) (h0 : 0 ≤ x) (h1 : x.toNat < (ra A a).length) (h2 : ∀ b, o = some b → zel (tg A a) (tg A b) = true) : zX d 55 6 ls (zO o :: zI x :: zO (some a) :: st) A K = zX d 55 7 ls st (pR A a ((ra A a).set x.toNat o)) K := zx_aast z55 dX0_store_6 rfl h h4 h0 h1 h2
theorem s55_7 : zX d 55 7 [v0, zO o, v2] st A K = zX d 55 8 [v0, zO o, v2] (zO o :: st) A K := zx_aload_n z55 dX0_store_7 rfl rfl
theorem s55_8 (h : tg A a = 4)  : zX (d + 1) 55 8 ls (zO (some a) :: []) A K = zX d 108 0 [zO (some a)] [] A (zK (d + 1) 55 8 11 ls [] K) := zx_callV (t := 4) z55 zo55 dX0_store_8 rfl C2_165 rfl rfl zm108 rfl rfl (zwt_le (Nat.le_of_ble_eq_true rfl)) rfl h
theorem s55_11 : zX d 55 11 ls [zI x] A K = K (Sum.inl (some (zI x))) A := zx_iret z55 dX0_store_11 zk55 rfl
theorem s56_0 : zX d 56 0 [v0, zI x] st A K = zX d 56 1 [v0, zI x] (zI x :: st) A K := zx_iload_n z56 dX0_termSize_0 rfl rfl
theorem s56_1 : zX (d + 1) 56 1 ls (zI i0 :: []) A K = zX d 54 0 [zI i0] [] A (zK (d + 1) 56 1 4 ls [] K) := zx_callS z56 zo56 dX0_termSize_1 rfl C2_408 rfl rfl zm54 rfl rfl (zwt_le (Nat.le_of_ble_eq_true rfl)) rfl
theorem s56_4 : zX d 56 4 ls (zI x :: st) A K = (if x = 0 then zX d 56 19 ls st A K else zX d 56 7 ls st A K) := zx_if_eq z56 dX0_termSize_4 rfl rfl
theorem s56_7 : zX d 56 7 [zO o, v1] st A K = zX d 56 8 [zO o, v1] (zO o :: st) A K := zx_aload_n z56 dX0_termSize_7 rfl rfl
theorem s56_8 (h : tg A a = 1) : zX d 56 8 ls (zO (some a) :: st) A K = zX d 56 11 ls (fd A a 3 :: st) A K := zx_getf z56 zo56 dX0_termSize_8 F2_21 rfl h
theorem s56_11 : zX d 56 11 [v0, zI x] st A K = zX d 56 12 [v0, zI x] (zI x :: st) A K := zx_iload_n z56 dX0_termSize_11 rfl rfl
theorem s56_12 (h : zarr (tg A a) = 3) (h0 : 0 ≤ x) (h1 : x.toNat < (ra A a).length) : zX d 56 12 ls (zI x :: zO (some a) :: st) A K = zX d 56 13 ls (zO ((ra A a).getD x.toNat none) :: st) A K := zx_aald z56 dX0_termSize_12 rfl h h0 h1
theorem s56_13 (h : tg A a = 4)  : zX (d + 1) 56 13 ls (zO (some a) :: []) A K = zX d 108 0 [zO (some a)] [] A (zK (d + 1) 56 13 16 ls [] K) := zx_callV (t := 4) z56 zo56 dX0_termSize_13 rfl C2_165 rfl rfl zm108 rfl rfl (zwt_le (Nat.le_of_ble_eq_true rfl)) rfl h
theorem s56_16 : zX d 56 16 ls st A K = zX d 56 20 ls st A K := zx_goto z56 dX0_termSize_16 rfl
theorem s56_19 : zX d 56 19 ls st A K = zX d 56 20 ls (zI (-1) :: st) A K := zx_const z56 dX0_termSize_19 (by decide) rfl
theorem s56_20 : zX d 56 20 ls [zI x] A K = K (Sum.inl (some (zI x))) A := zx_iret z56 dX0_termSize_20 zk56 rfl
theorem s57_0 : zX d 57 0 [v0, zI x] st A K = zX d 57 1 [v0, zI x] (zI x :: st) A K := zx_iload_n z57 dX0_formattedLength_0 rfl rfl
theorem s57_1 : zX (d + 1) 57 1 ls (zI i0 :: []) A K = zX d 54 0 [zI i0] [] A (zK (d + 1) 57 1 4 ls [] K) := zx_callS z57 zo57 dX0_formattedLength_1 rfl C2_408 rfl rfl zm54 rfl rfl (zwt_le (Nat.le_of_ble_eq_true rfl)) rfl
theorem s57_4 : zX d 57 4 ls (zI x :: st) A K = (if x = 0 then zX d 57 22 ls st A K else zX d 57 7 ls st A K) := zx_if_eq z57 dX0_formattedLength_4 rfl rfl
theorem s57_7 : zX d 57 7 [zO o, v1] st A K = zX d 57 8 [zO o, v1] (zO o :: st) A K := zx_aload_n z57 dX0_formattedLength_7 rfl rfl
theorem s57_8 (h : tg A a = 1) : zX d 57 8 ls (zO (some a) :: st) A K = zX d 57 11 ls (fd A a 3 :: st) A K := zx_getf z57 zo57 dX0_formattedLength_8 F2_21 rfl h
theorem s57_11 : zX d 57 11 [v0, zI x] st A K = zX d 57 12 [v0, zI x] (zI x :: st) A K := zx_iload_n z57 dX0_formattedLength_11 rfl rfl
theorem s57_12 (h : zarr (tg A a) = 3) (h0 : 0 ≤ x) (h1 : x.toNat < (ra A a).length) : zX d 57 12 ls (zI x :: zO (some a) :: st) A K = zX d 57 13 ls (zO ((ra A a).getD x.toNat none) :: st) A K := zx_aald z57 dX0_formattedLength_12 rfl h h0 h1
theorem s57_13 : zX (d + 1) 57 13 ls (zO o0 :: []) A K = zX d 58 0 [zO o0, zU] [] A (zK (d + 1) 57 13 16 ls [] K) := zx_callS z57 zo57 dX0_formattedLength_13 rfl C2_424 rfl rfl zm58 rfl rfl (zwt_le (Nat.le_of_ble_eq_true rfl)) rfl
theorem s57_16 (h : tg A a = 16)  : zX (d + 1) 57 16 ls (zO (some a) :: []) A K = zX d 298 0 [zO (some a)] [] A (zK (d + 1) 57 16 19 ls [] K) := zx_callV (t := 16) z57 zo57 dX0_formattedLength_16 rfl C2_428 rfl rfl zm298 rfl rfl (zwt_le (Nat.le_of_ble_eq_true rfl)) rfl h
theorem s57_19 : zX d 57 19 ls st A K = zX d 57 23 ls st A K := zx_goto z57 dX0_formattedLength_19 rfl
theorem s57_22 : zX d 57 22 ls st A K = zX d 57 23 ls (zI (-1) :: st) A K := zx_const z57 dX0_formattedLength_22 (by decide) rfl
theorem s57_23 : zX d 57 23 ls [zI x] A K = K (Sum.inl (some (zI x))) A := zx_iret z57 dX0_formattedLength_23 zk57 rfl
theorem s58_0 : zX d 58 0 ls st A K = zX d 58 3 ls (zO (some (nx A)) :: st) (nO A 16) K := zx_new z58 zo58 dX0_format_0 rfl rfl
theorem s58_3 (h : zc v = true) : zX d 58 3 ls (v :: st) A K = zX d 58 4 ls (v :: v :: st) A K := zx_dup z58 dX0_format_3 rfl h
theorem s58_4 : zX (d + 1) 58 4 ls (zO (some a) :: [w0]) A K = zX d 296 0 [zO (some a)] [] A (zK (d + 1) 58 4 7 ls [w0] K) := zx_callI z58 zo58 dX0_format_4 rfl C2_419 rfl rfl zm296 rfl rfl (zwt_le (Nat.le_of_ble_eq_true rfl)) rfl
theorem s58_7 : zX d 58 7 [v0, v1] (zO o :: st) A K = zX d 58 8 [v0, zO o] st A K := zx_astore_n z58 dX0_format_7 (Nat.le_of_ble_eq_true rfl) rfl rfl
theorem s58_8 : zX d 58 8 [zO o, v1] st A K = zX d 58 9 [zO o, v1] (zO o :: st) A K := zx_aload_n z58 dX0_format_8 rfl rfl
theorem s58_9 : zX d 58 9 ls st A K = zX d 58 10 ls (zI 0 :: st) A K := zx_const z58 dX0_format_9 (by decide) rfl
theorem s58_10 : zX d 58 10 [v0, zO o] st A K = zX d 58 11 [v0, zO o] (zO o :: st) A K := zx_aload_n z58 dX0_format_10 rfl rfl
theorem s58_11 (h : tg A a = 4)  : zX (d + 1) 58 11 ls (zO o1 :: zI i0 :: zO (some a) :: []) A K = zX d 117 0 [zO (some a), zI i0, zO o1, zU] [] A (zK (d + 1) 58 11 14 ls [] K) := zx_callV (t := 4) z58 zo58 dX0_format_11 rfl C2_420 rfl rfl zm117 rfl rfl (zwt_le (Nat.le_of_ble_eq_true rfl)) rfl h
theorem s58_14 : zX d 58 14 [v0, zO o] st A K = zX d 58 15 [v0, zO o] (zO o :: st) A K := zx_aload_n z58 dX0_format_14 rfl rfl
theorem s58_15 : zX d 58 15 ls [zO o] A K = K (Sum.inl (some (zO o))) A := zx_aret z58 dX0_format_15 rfl
theorem s59_0 : zX d 59 0 [v0, zI x, v2, v3] st A K = zX d 59 1 [v0, zI x, v2, v3] (zI x :: st) A K := zx_iload_n z59 dX0_formattedCharacter_0 rfl rfl
theorem s59_1 : zX (d + 1) 59 1 ls (zI i0 :: []) A K = zX d 54 0 [zI i0] [] A (zK (d + 1) 59 1 4 ls [] K) := zx_callS z59 zo59 dX0_formattedCharacter_1 rfl C2_408 rfl rfl zm54 rfl rfl (zwt_le (Nat.le_of_ble_eq_true rfl)) rfl
theorem s59_4 : zX d 59 4 ls (zI x :: st) A K = (if x ≠ 0 then zX d 59 9 ls st A K else zX d 59 7 ls st A K) := zx_if_ne z59 dX0_formattedCharacter_4 rfl rfl
theorem s59_7 : zX d 59 7 ls st A K = zX d 59 8 ls (zI (-1) :: st) A K := zx_const z59 dX0_formattedCharacter_7 (by decide) rfl
theorem s59_8 : zX d 59 8 ls [zI x] A K = K (Sum.inl (some (zI x))) A := zx_iret z59 dX0_formattedCharacter_8 zk59 rfl
theorem s59_9 : zX d 59 9 [zO o, v1, v2, v3] st A K = zX d 59 10 [zO o, v1, v2, v3] (zO o :: st) A K := zx_aload_n z59 dX0_formattedCharacter_9 rfl rfl
theorem s59_10 (h : tg A a = 1) : zX d 59 10 ls (zO (some a) :: st) A K = zX d 59 13 ls (fd A a 3 :: st) A K := zx_getf z59 zo59 dX0_formattedCharacter_10 F2_21 rfl h
theorem s59_13 : zX d 59 13 [v0, zI x, v2, v3] st A K = zX d 59 14 [v0, zI x, v2, v3] (zI x :: st) A K := zx_iload_n z59 dX0_formattedCharacter_13 rfl rfl
theorem s59_14 (h : zarr (tg A a) = 3) (h0 : 0 ≤ x) (h1 : x.toNat < (ra A a).length) : zX d 59 14 ls (zI x :: zO (some a) :: st) A K = zX d 59 15 ls (zO ((ra A a).getD x.toNat none) :: st) A K := zx_aald z59 dX0_formattedCharacter_14 rfl h h0 h1
theorem s59_15 : zX (d + 1) 59 15 ls (zO o0 :: []) A K = zX d 58 0 [zO o0, zU] [] A (zK (d + 1) 59 15 18 ls [] K) := zx_callS z59 zo59 dX0_formattedCharacter_15 rfl C2_424 rfl rfl zm58 rfl rfl (zwt_le (Nat.le_of_ble_eq_true rfl)) rfl
theorem s59_18 : zX d 59 18 [v0, v1, v2, v3] (zO o :: st) A K = zX d 59 19 [v0, v1, v2, zO o] st A K := zx_astore_n z59 dX0_formattedCharacter_18 (Nat.le_of_ble_eq_true rfl) rfl rfl
theorem s59_19 : zX d 59 19 [v0, v1, zI x, v3] st A K = zX d 59 20 [v0, v1, zI x, v3] (zI x :: st) A K := zx_iload_n z59 dX0_formattedCharacter_19 rfl rfl
theorem s59_20 : zX d 59 20 ls (zI x :: st) A K = zX d 59 21 ls (zL x :: st) A K := zx_i2l z59 dX0_formattedCharacter_20 rfl
theorem s59_21 : zX d 59 21 ls st A K = zX d 59 22 ls (zL 0 :: st) A K := zx_lconst z59 dX0_formattedCharacter_21 rfl
theorem s59_22 : zX d 59 22 [v0, v1, v2, zO o] st A K = zX d 59 23 [v0, v1, v2, zO o] (zO o :: st) A K := zx_aload_n z59 dX0_formattedCharacter_22 rfl rfl
theorem s59_23 (h : tg A a = 16)  : zX (d + 1) 59 23 ls (zO (some a) :: [w0, w1]) A K = zX d 298 0 [zO (some a)] [] A (zK (d + 1) 59 23 26 ls [w0, w1] K) := zx_callV (t := 16) z59 zo59 dX0_formattedCharacter_23 rfl C2_428 rfl rfl zm298 rfl rfl (zwt_le (Nat.le_of_ble_eq_true rfl)) rfl h
theorem s59_26 : zX d 59 26 ls st A K = zX d 59 27 ls (zI 1 :: st) A K := zx_const z59 dX0_formattedCharacter_26 (by decide) rfl
theorem s59_27 : zX d 59 27 ls (zI y :: zI x :: st) A K = zX d 59 28 ls (zI (zw (x - y)) :: st) A K := zx_isub z59 dX0_formattedCharacter_27 rfl
theorem s59_28 : zX d 59 28 ls (zI x :: st) A K = zX d 59 29 ls (zL x :: st) A K := zx_i2l z59 dX0_formattedCharacter_28 rfl
theorem s59_29 : zX d 59 29 ls (zL y :: zL x :: zL w :: []) A K = zX d 59 32 ls (zI (zb (decide (x ≤ w ∧ w ≤ y))) :: []) A K := zx_inS z59 zo59 dX0_formattedCharacter_29 rfl rfl rfl (zin_2 (zwt_le (Nat.le_of_ble_eq_true rfl)))
theorem s59_32 : zX d 59 32 ls (zI x :: st) A K = (if x = 0 then zX d 59 43 ls st A K else zX d 59 35 ls st A K) := zx_if_eq z59 dX0_formattedCharacter_32 rfl rfl
theorem s59_35 : zX d 59 35 [v0, v1, v2, zO o] st A K = zX d 59 36 [v0, v1, v2, zO o] (zO o :: st) A K := zx_aload_n z59 dX0_formattedCharacter_35 rfl rfl
theorem s59_36 : zX d 59 36 [v0, v1, zI x, v3] st A K = zX d 59 37 [v0, v1, zI x, v3] (zI x :: st) A K := zx_iload_n z59 dX0_formattedCharacter_36 rfl rfl
theorem s59_37 (h : tg A a = 16)  : zX (d + 1) 59 37 ls (zI i0 :: zO (some a) :: []) A K = zX d 299 0 [zO (some a), zI i0] [] A (zK (d + 1) 59 37 40 ls [] K) := zx_callV (t := 16) z59 zo59 dX0_formattedCharacter_37 rfl C2_430 rfl rfl zm299 rfl rfl (zwt_le (Nat.le_of_ble_eq_true rfl)) rfl h
theorem s59_40 : zX d 59 40 ls st A K = zX d 59 44 ls st A K := zx_goto z59 dX0_formattedCharacter_40 rfl
theorem s59_43 : zX d 59 43 ls st A K = zX d 59 44 ls (zI (-1) :: st) A K := zx_const z59 dX0_formattedCharacter_43 (by decide) rfl
theorem s59_44 : zX d 59 44 ls [zI x] A K = K (Sum.inl (some (zI x))) A := zx_iret z59 dX0_formattedCharacter_44 zk59 rfl
theorem s60_0 : zX d 60 0 [v0, zI x, v2, v3] st A K = zX d 60 1 [v0, zI x, v2, v3] (zI x :: st) A K := zx_iload_n z60 dX0_compareTerms_0 rfl rfl
theorem s60_1 : zX (d + 1) 60 1 ls (zI i0 :: []) A K = zX d 54 0 [zI i0] [] A (zK (d + 1) 60 1 4 ls [] K) := zx_callS z60 zo60 dX0_compareTerms_1 rfl C2_408 rfl rfl zm54 rfl rfl (zwt_le (Nat.le_of_ble_eq_true rfl)) rfl
theorem s60_4 : zX d 60 4 ls (zI x :: st) A K = (if x = 0 then zX d 60 14 ls st A K else zX d 60 7 ls st A K) := zx_if_eq z60 dX0_compareTerms_4 rfl rfl
theorem s60_7 : zX d 60 7 [v0, v1, zI x, v3] st A K = zX d 60 8 [v0, v1, zI x, v3] (zI x :: st) A K := zx_iload_n z60 dX0_compareTerms_7 rfl rfl
theorem s60_8 : zX (d + 1) 60 8 ls (zI i0 :: []) A K = zX d 54 0 [zI i0] [] A (zK (d + 1) 60 8 11 ls [] K) := zx_callS z60 zo60 dX0_compareTerms_8 rfl C2_408 rfl rfl zm54 rfl rfl (zwt_le (Nat.le_of_ble_eq_true rfl)) rfl
theorem s60_11 : zX d 60 11 ls (zI x :: st) A K = (if x ≠ 0 then zX d 60 16 ls st A K else zX d 60 14 ls st A K) := zx_if_ne z60 dX0_compareTerms_11 rfl rfl
theorem s60_14 : zX d 60 14 ls st A K = zX d 60 15 ls (zI (-1) :: st) A K := zx_const z60 dX0_compareTerms_14 (by decide) rfl
theorem s60_15 : zX d 60 15 ls [zI x] A K = K (Sum.inl (some (zI x))) A := zx_iret z60 dX0_compareTerms_15 zk60 rfl
theorem s60_16 : zX d 60 16 [zO o, v1, v2, v3] st A K = zX d 60 17 [zO o, v1, v2, v3] (zO o :: st) A K := zx_aload_n z60 dX0_compareTerms_16 rfl rfl
theorem s60_17 (h : tg A a = 1) : zX d 60 17 ls (zO (some a) :: st) A K = zX d 60 20 ls (fd A a 3 :: st) A K := zx_getf z60 zo60 dX0_compareTerms_17 F2_21 rfl h
theorem s60_20 : zX d 60 20 [v0, zI x, v2, v3] st A K = zX d 60 21 [v0, zI x, v2, v3] (zI x :: st) A K := zx_iload_n z60 dX0_compareTerms_20 rfl rfl
theorem s60_21 (h : zarr (tg A a) = 3) (h0 : 0 ≤ x) (h1 : x.toNat < (ra A a).length) : zX d 60 21 ls (zI x :: zO (some a) :: st) A K = zX d 60 22 ls (zO ((ra A a).getD x.toNat none) :: st) A K := zx_aald z60 dX0_compareTerms_21 rfl h h0 h1
theorem s60_22 : zX d 60 22 [zO o, v1, v2, v3] st A K = zX d 60 23 [zO o, v1, v2, v3] (zO o :: st) A K := zx_aload_n z60 dX0_compareTerms_22 rfl rfl
theorem s60_23 (h : tg A a = 1) : zX d 60 23 ls (zO (some a) :: st) A K = zX d 60 26 ls (fd A a 3 :: st) A K := zx_getf z60 zo60 dX0_compareTerms_23 F2_21 rfl h
theorem s60_26 : zX d 60 26 [v0, v1, zI x, v3] st A K = zX d 60 27 [v0, v1, zI x, v3] (zI x :: st) A K := zx_iload_n z60 dX0_compareTerms_26 rfl rfl
theorem s60_27 (h : zarr (tg A a) = 3) (h0 : 0 ≤ x) (h1 : x.toNat < (ra A a).length) : zX d 60 27 ls (zI x :: zO (some a) :: st) A K = zX d 60 28 ls (zO ((ra A a).getD x.toNat none) :: st) A K := zx_aald z60 dX0_compareTerms_27 rfl h h0 h1
theorem s60_28 (h : tg A a = 4)  : zX (d + 1) 60 28 ls (zO o0 :: zO (some a) :: []) A K = zX d 116 0 [zO (some a), zO o0, zU] [] A (zK (d + 1) 60 28 31 ls [] K) := zx_callV (t := 4) z60 zo60 dX0_compareTerms_28 rfl C2_434 rfl rfl zm116 rfl rfl (zwt_le (Nat.le_of_ble_eq_true rfl)) rfl h
theorem s60_31 : zX d 60 31 [v0, v1, v2, v3] (zI x :: st) A K = zX d 60 32 [v0, v1, v2, zI x] st A K := zx_istore_n z60 dX0_compareTerms_31 (Nat.le_of_ble_eq_true rfl) rfl rfl
theorem s60_32 : zX d 60 32 [v0, v1, v2, zI x] st A K = zX d 60 33 [v0, v1, v2, zI x] (zI x :: st) A K := zx_iload_n z60 dX0_compareTerms_32 rfl rfl
theorem s60_33 : zX d 60 33 ls (zI x :: st) A K = (if 0 ≤ x then zX d 60 40 ls st A K else zX d 60 36 ls st A K) := zx_if_ge z60 dX0_compareTerms_33 rfl rfl
theorem s60_36 : zX d 60 36 ls st A K = zX d 60 37 ls (zI 0 :: st) A K := zx_const z60 dX0_compareTerms_36 (by decide) rfl
theorem s60_37 : zX d 60 37 ls st A K = zX d 60 49 ls st A K := zx_goto z60 dX0_compareTerms_37 rfl
theorem s60_40 : zX d 60 40 [v0, v1, v2, zI x] st A K = zX d 60 41 [v0, v1, v2, zI x] (zI x :: st) A K := zx_iload_n z60 dX0_compareTerms_40 rfl rfl
theorem s60_41 : zX d 60 41 ls (zI x :: st) A K = (if x ≠ 0 then zX d 60 48 ls st A K else zX d 60 44 ls st A K) := zx_if_ne z60 dX0_compareTerms_41 rfl rfl
theorem s60_44 : zX d 60 44 ls st A K = zX d 60 45 ls (zI 1 :: st) A K := zx_const z60 dX0_compareTerms_44 (by decide) rfl
theorem s60_45 : zX d 60 45 ls st A K = zX d 60 49 ls st A K := zx_goto z60 dX0_compareTerms_45 rfl
theorem s60_48 : zX d 60 48 ls st A K = zX d 60 49 ls (zI 2 :: st) A K := zx_const z60 dX0_compareTerms_48 (by decide) rfl
theorem s60_49 : zX d 60 49 ls [zI x] A K = K (Sum.inl (some (zI x))) A := zx_iret z60 dX0_compareTerms_49 zk60 rfl
theorem s61_0 : zX d 61 0 [v0, zI x, v2] st A K = zX d 61 1 [v0, zI x, v2] (zI x :: st) A K := zx_iload_n z61 dX0_copyTerm_0 rfl rfl
theorem s61_1 : zX (d + 1) 61 1 ls (zI i0 :: []) A K = zX d 54 0 [zI i0] [] A (zK (d + 1) 61 1 4 ls [] K) := zx_callS z61 zo61 dX0_copyTerm_1 rfl C2_408 rfl rfl zm54 rfl rfl (zwt_le (Nat.le_of_ble_eq_true rfl)) rfl
theorem s61_4 : zX d 61 4 ls (zI x :: st) A K = (if x = 0 then zX d 61 28 ls st A K else zX d 61 7 ls st A K) := zx_if_eq z61 dX0_copyTerm_4 rfl rfl
theorem s61_7 : zX d 61 7 [v0, v1, zI x] st A K = zX d 61 8 [v0, v1, zI x] (zI x :: st) A K := zx_iload_n z61 dX0_copyTerm_7 rfl rfl
theorem s61_8 : zX (d + 1) 61 8 ls (zI i0 :: []) A K = zX d 54 0 [zI i0] [] A (zK (d + 1) 61 8 11 ls [] K) := zx_callS z61 zo61 dX0_copyTerm_8 rfl C2_408 rfl rfl zm54 rfl rfl (zwt_le (Nat.le_of_ble_eq_true rfl)) rfl
theorem s61_11 : zX d 61 11 ls (zI x :: st) A K = (if x = 0 then zX d 61 28 ls st A K else zX d 61 14 ls st A K) := zx_if_eq z61 dX0_copyTerm_11 rfl rfl
theorem s61_14 : zX d 61 14 [zO o, v1, v2] st A K = zX d 61 15 [zO o, v1, v2] (zO o :: st) A K := zx_aload_n z61 dX0_copyTerm_14 rfl rfl
theorem s61_15 : zX d 61 15 [zO o, v1, v2] st A K = zX d 61 16 [zO o, v1, v2] (zO o :: st) A K := zx_aload_n z61 dX0_copyTerm_15 rfl rfl
theorem s61_16 (h : tg A a = 1) : zX d 61 16 ls (zO (some a) :: st) A K = zX d 61 19 ls (fd A a 3 :: st) A K := zx_getf z61 zo61 dX0_copyTerm_16 F2_21 rfl h
theorem s61_19 : zX d 61 19 [v0, zI x, v2] st A K = zX d 61 20 [v0, zI x, v2] (zI x :: st) A K := zx_iload_n z61 dX0_copyTerm_19 rfl rfl
theorem s61_20 (h : zarr (tg A a) = 3) (h0 : 0 ≤ x) (h1 : x.toNat < (ra A a).length) : zX d 61 20 ls (zI x :: zO (some a) :: st) A K = zX d 61 21 ls (zO ((ra A a).getD x.toNat none) :: st) A K := zx_aald z61 dX0_copyTerm_20 rfl h h0 h1
theorem s61_21 : zX d 61 21 [v0, v1, zI x] st A K = zX d 61 22 [v0, v1, zI x] (zI x :: st) A K := zx_iload_n z61 dX0_copyTerm_21 rfl rfl
theorem s61_22 (h : tg A a = 1)  : zX (d + 1) 61 22 ls (zI i1 :: zO o0 :: zO (some a) :: []) A K = zX d 55 0 [zO (some a), zO o0, zI i1] [] A (zK (d + 1) 61 22 25 ls [] K) := zx_callV (t := 1) z61 zo61 dX0_copyTerm_22 rfl C2_414 rfl rfl zm55 rfl rfl (zwt_le (Nat.le_of_ble_eq_true rfl)) rfl h
theorem s61_25 : zX d 61 25 ls st A K = zX d 61 29 ls st A K := zx_goto z61 dX0_copyTerm_25 rfl
theorem s61_28 : zX d 61 28 ls st A K = zX d 61 29 ls (zI (-1) :: st) A K := zx_const z61 dX0_copyTerm_28 (by decide) rfl
theorem s61_29 : zX d 61 29 ls [zI x] A K = K (Sum.inl (some (zI x))) A := zx_iret z61 dX0_copyTerm_29 zk61 rfl
theorem s62_0 : zX d 62 0 [zO o, v1, v2] st A K = zX d 62 1 [zO o, v1, v2] (zO o :: st) A K := zx_aload_n z62 dX0_loadLeft_0 rfl rfl
theorem s62_1 : zX d 62 1 [v0, zI x, v2] st A K = zX d 62 2 [v0, zI x, v2] (zI x :: st) A K := zx_iload_n z62 dX0_loadLeft_1 rfl rfl
theorem s62_2 (h : tg A a = 1)  : zX (d + 1) 62 2 ls (zI i0 :: zO (some a) :: []) A K = zX d 14 0 [zO (some a), zI i0] [] A (zK (d + 1) 62 2 5 ls [] K) := zx_callV (t := 1) z62 zo62 dX0_loadLeft_2 rfl C2_192 rfl rfl zm14 rfl rfl (zwt_le (Nat.le_of_ble_eq_true rfl)) rfl h
theorem s62_5 : zX d 62 5 ls (zI x :: st) A K = (if x = 0 then zX d 62 32 ls st A K else zX d 62 8 ls st A K) := zx_if_eq z62 dX0_loadLeft_5 rfl rfl
theorem s62_8 : zX d 62 8 [v0, v1, zI x] st A K = zX d 62 9 [v0, v1, zI x] (zI x :: st) A K := zx_iload_n z62 dX0_loadLeft_8 rfl rfl
theorem s62_9 : zX (d + 1) 62 9 ls (zI i0 :: []) A K = zX d 54 0 [zI i0] [] A (zK (d + 1) 62 9 12 ls [] K) := zx_callS z62 zo62 dX0_loadLeft_9 rfl C2_408 rfl rfl zm54 rfl rfl (zwt_le (Nat.le_of_ble_eq_true rfl)) rfl
theorem s62_12 : zX d 62 12 ls (zI x :: st) A K = (if x = 0 then zX d 62 32 ls st A K else zX d 62 15 ls st A K) := zx_if_eq z62 dX0_loadLeft_12 rfl rfl
theorem s62_15 : zX d 62 15 [zO o, v1, v2] st A K = zX d 62 16 [zO o, v1, v2] (zO o :: st) A K := zx_aload_n z62 dX0_loadLeft_15 rfl rfl
theorem s62_16 : zX d 62 16 [zO o, v1, v2] st A K = zX d 62 17 [zO o, v1, v2] (zO o :: st) A K := zx_aload_n z62 dX0_loadLeft_16 rfl rfl
theorem s62_17 (h : tg A a = 1) : zX d 62 17 ls (zO (some a) :: st) A K = zX d 62 20 ls (fd A a 1 :: st) A K := zx_getf z62 zo62 dX0_loadLeft_17 F2_15 rfl h
theorem s62_20 : zX d 62 20 [v0, zI x, v2] st A K = zX d 62 21 [v0, zI x, v2] (zI x :: st) A K := zx_iload_n z62 dX0_loadLeft_20 rfl rfl
theorem s62_21 (h : zarr (tg A a) = 3) (h0 : 0 ≤ x) (h1 : x.toNat < (ra A a).length) : zX d 62 21 ls (zI x :: zO (some a) :: st) A K = zX d 62 22 ls (zO ((ra A a).getD x.toNat none) :: st) A K := zx_aald z62 dX0_loadLeft_21 rfl h h0 h1
theorem s62_22 (h : tg A a = 6) : zX d 62 22 ls (zO (some a) :: st) A K = zX d 62 25 ls (fd A a 0 :: st) A K := zx_getf z62 zo62 dX0_loadLeft_22 F2_157 rfl h
theorem s62_25 : zX d 62 25 [v0, v1, zI x] st A K = zX d 62 26 [v0, v1, zI x] (zI x :: st) A K := zx_iload_n z62 dX0_loadLeft_25 rfl rfl
theorem s62_26 (h : tg A a = 1)  : zX (d + 1) 62 26 ls (zI i1 :: zO o0 :: zO (some a) :: []) A K = zX d 55 0 [zO (some a), zO o0, zI i1] [] A (zK (d + 1) 62 26 29 ls [] K) := zx_callV (t := 1) z62 zo62 dX0_loadLeft_26 rfl C2_414 rfl rfl zm55 rfl rfl (zwt_le (Nat.le_of_ble_eq_true rfl)) rfl h
theorem s62_29 : zX d 62 29 ls st A K = zX d 62 33 ls st A K := zx_goto z62 dX0_loadLeft_29 rfl
theorem s62_32 : zX d 62 32 ls st A K = zX d 62 33 ls (zI (-1) :: st) A K := zx_const z62 dX0_loadLeft_32 (by decide) rfl
theorem s62_33 : zX d 62 33 ls [zI x] A K = K (Sum.inl (some (zI x))) A := zx_iret z62 dX0_loadLeft_33 zk62 rfl
theorem s63_0 : zX d 63 0 [zO o, v1, v2] st A K = zX d 63 1 [zO o, v1, v2] (zO o :: st) A K := zx_aload_n z63 dX0_loadRight_0 rfl rfl
theorem s63_1 : zX d 63 1 [v0, zI x, v2] st A K = zX d 63 2 [v0, zI x, v2] (zI x :: st) A K := zx_iload_n z63 dX0_loadRight_1 rfl rfl
theorem s63_2 (h : tg A a = 1)  : zX (d + 1) 63 2 ls (zI i0 :: zO (some a) :: []) A K = zX d 14 0 [zO (some a), zI i0] [] A (zK (d + 1) 63 2 5 ls [] K) := zx_callV (t := 1) z63 zo63 dX0_loadRight_2 rfl C2_192 rfl rfl zm14 rfl rfl (zwt_le (Nat.le_of_ble_eq_true rfl)) rfl h
theorem s63_5 : zX d 63 5 ls (zI x :: st) A K = (if x = 0 then zX d 63 32 ls st A K else zX d 63 8 ls st A K) := zx_if_eq z63 dX0_loadRight_5 rfl rfl
theorem s63_8 : zX d 63 8 [v0, v1, zI x] st A K = zX d 63 9 [v0, v1, zI x] (zI x :: st) A K := zx_iload_n z63 dX0_loadRight_8 rfl rfl
theorem s63_9 : zX (d + 1) 63 9 ls (zI i0 :: []) A K = zX d 54 0 [zI i0] [] A (zK (d + 1) 63 9 12 ls [] K) := zx_callS z63 zo63 dX0_loadRight_9 rfl C2_408 rfl rfl zm54 rfl rfl (zwt_le (Nat.le_of_ble_eq_true rfl)) rfl
theorem s63_12 : zX d 63 12 ls (zI x :: st) A K = (if x = 0 then zX d 63 32 ls st A K else zX d 63 15 ls st A K) := zx_if_eq z63 dX0_loadRight_12 rfl rfl
theorem s63_15 : zX d 63 15 [zO o, v1, v2] st A K = zX d 63 16 [zO o, v1, v2] (zO o :: st) A K := zx_aload_n z63 dX0_loadRight_15 rfl rfl
theorem s63_16 : zX d 63 16 [zO o, v1, v2] st A K = zX d 63 17 [zO o, v1, v2] (zO o :: st) A K := zx_aload_n z63 dX0_loadRight_16 rfl rfl
theorem s63_17 (h : tg A a = 1) : zX d 63 17 ls (zO (some a) :: st) A K = zX d 63 20 ls (fd A a 1 :: st) A K := zx_getf z63 zo63 dX0_loadRight_17 F2_15 rfl h
theorem s63_20 : zX d 63 20 [v0, zI x, v2] st A K = zX d 63 21 [v0, zI x, v2] (zI x :: st) A K := zx_iload_n z63 dX0_loadRight_20 rfl rfl
theorem s63_21 (h : zarr (tg A a) = 3) (h0 : 0 ≤ x) (h1 : x.toNat < (ra A a).length) : zX d 63 21 ls (zI x :: zO (some a) :: st) A K = zX d 63 22 ls (zO ((ra A a).getD x.toNat none) :: st) A K := zx_aald z63 dX0_loadRight_21 rfl h h0 h1
theorem s63_22 (h : tg A a = 6) : zX d 63 22 ls (zO (some a) :: st) A K = zX d 63 25 ls (fd A a 1 :: st) A K := zx_getf z63 zo63 dX0_loadRight_22 F2_161 rfl h
theorem s63_25 : zX d 63 25 [v0, v1, zI x] st A K = zX d 63 26 [v0, v1, zI x] (zI x :: st) A K := zx_iload_n z63 dX0_loadRight_25 rfl rfl
theorem s63_26 (h : tg A a = 1)  : zX (d + 1) 63 26 ls (zI i1 :: zO o0 :: zO (some a) :: []) A K = zX d 55 0 [zO (some a), zO o0, zI i1] [] A (zK (d + 1) 63 26 29 ls [] K) := zx_callV (t := 1) z63 zo63 dX0_loadRight_26 rfl C2_414 rfl rfl zm55 rfl rfl (zwt_le (Nat.le_of_ble_eq_true rfl)) rfl h
theorem s63_29 : zX d 63 29 ls st A K = zX d 63 33 ls st A K := zx_goto z63 dX0_loadRight_29 rfl
theorem s63_32 : zX d 63 32 ls st A K = zX d 63 33 ls (zI (-1) :: st) A K := zx_const z63 dX0_loadRight_32 (by decide) rfl
theorem s63_33 : zX d 63 33 ls [zI x] A K = K (Sum.inl (some (zI x))) A := zx_iret z63 dX0_loadRight_33 zk63 rfl
theorem s64_0 : zX d 64 0 [zO o, v1, v2, v3] st A K = zX d 64 1 [zO o, v1, v2, v3] (zO o :: st) A K := zx_aload_n z64 dX0_matches_0 rfl rfl
theorem s64_1 : zX d 64 1 [v0, zI x, v2, v3] st A K = zX d 64 2 [v0, zI x, v2, v3] (zI x :: st) A K := zx_iload_n z64 dX0_matches_1 rfl rfl
theorem s64_2 (h : tg A a = 1)  : zX (d + 1) 64 2 ls (zI i0 :: zO (some a) :: []) A K = zX d 14 0 [zO (some a), zI i0] [] A (zK (d + 1) 64 2 5 ls [] K) := zx_callV (t := 1) z64 zo64 dX0_matches_2 rfl C2_192 rfl rfl zm14 rfl rfl (zwt_le (Nat.le_of_ble_eq_true rfl)) rfl h
theorem s64_5 : zX d 64 5 ls (zI x :: st) A K = (if x = 0 then zX d 64 17 ls st A K else zX d 64 8 ls st A K) := zx_if_eq z64 dX0_matches_5 rfl rfl
theorem s64_8 : zX d 64 8 [zO o, v1, v2, v3] st A K = zX d 64 9 [zO o, v1, v2, v3] (zO o :: st) A K := zx_aload_n z64 dX0_matches_8 rfl rfl
theorem s64_9 : zX d 64 9 [v0, v1, zI x, v3] st A K = zX d 64 10 [v0, v1, zI x, v3] (zI x :: st) A K := zx_iload_n z64 dX0_matches_9 rfl rfl
theorem s64_10 : zX d 64 10 [v0, v1, v2, zI x] st A K = zX d 64 11 [v0, v1, v2, zI x] (zI x :: st) A K := zx_iload_n z64 dX0_matches_10 rfl rfl
theorem s64_11 (h : tg A a = 1)  : zX (d + 1) 64 11 ls (zI i1 :: zI i0 :: zO (some a) :: []) A K = zX d 65 0 [zO (some a), zI i0, zI i1] [] A (zK (d + 1) 64 11 14 ls [] K) := zx_callV (t := 1) z64 zo64 dX0_matches_11 rfl C2_436 rfl rfl zm65 rfl rfl (zwt_le (Nat.le_of_ble_eq_true rfl)) rfl h
theorem s64_14 : zX d 64 14 ls (zI x :: st) A K = (if x ≠ 0 then zX d 64 19 ls st A K else zX d 64 17 ls st A K) := zx_if_ne z64 dX0_matches_14 rfl rfl
theorem s64_17 : zX d 64 17 ls st A K = zX d 64 18 ls (zI (-1) :: st) A K := zx_const z64 dX0_matches_17 (by decide) rfl
theorem s64_18 : zX d 64 18 ls [zI x] A K = K (Sum.inl (some (zI x))) A := zx_iret z64 dX0_matches_18 zk64 rfl
theorem s64_19 : zX d 64 19 [zO o, v1, v2, v3] st A K = zX d 64 20 [zO o, v1, v2, v3] (zO o :: st) A K := zx_aload_n z64 dX0_matches_19 rfl rfl
theorem s64_20 : zX d 64 20 [v0, zI x, v2, v3] st A K = zX d 64 21 [v0, zI x, v2, v3] (zI x :: st) A K := zx_iload_n z64 dX0_matches_20 rfl rfl
theorem s64_21 : zX d 64 21 [zO o, v1, v2, v3] st A K = zX d 64 22 [zO o, v1, v2, v3] (zO o :: st) A K := zx_aload_n z64 dX0_matches_21 rfl rfl
theorem s64_22 (h : tg A a = 1) : zX d 64 22 ls (zO (some a) :: st) A K = zX d 64 25 ls (fd A a 3 :: st) A K := zx_getf z64 zo64 dX0_matches_22 F2_21 rfl h
theorem s64_25 : zX d 64 25 [v0, v1, zI x, v3] st A K = zX d 64 26 [v0, v1, zI x, v3] (zI x :: st) A K := zx_iload_n z64 dX0_matches_25 rfl rfl
theorem s64_26 (h : zarr (tg A a) = 3) (h0 : 0 ≤ x) (h1 : x.toNat < (ra A a).length) : zX d 64 26 ls (zI x :: zO (some a) :: st) A K = zX d 64 27 ls (zO ((ra A a).getD x.toNat none) :: st) A K := zx_aald z64 dX0_matches_26 rfl h h0 h1
theorem s64_27 : zX d 64 27 [v0, v1, v2, zI x] st A K = zX d 64 28 [v0, v1, v2, zI x] (zI x :: st) A K := zx_iload_n z64 dX0_matches_27 rfl rfl
theorem s64_28 (h : tg A a = 1)  : zX (d + 1) 64 28 ls (zI i2 :: zO o1 :: zI i0 :: zO (some a) :: []) A K = zX d 66 0 [zO (some a), zI i0, zO o1, zI i2, zU, zU, zU, zU, zU] [] A (zK (d + 1) 64 28 31 ls [] K) := zx_callV (t := 1) z64 zo64 dX0_matches_28 rfl C2_378 rfl rfl zm66 rfl rfl (zwt_le (Nat.le_of_ble_eq_true rfl)) rfl h
theorem s64_31 : zX (d + 1) 64 31 ls (zI i0 :: []) A K = zX d 30 0 [zI i0] [] A (zK (d + 1) 64 31 34 ls [] K) := zx_callS z64 zo64 dX0_matches_31 rfl C2_252 rfl rfl zm30 rfl rfl (zwt_le (Nat.le_of_ble_eq_true rfl)) rfl
theorem s64_34 : zX d 64 34 ls [zI x] A K = K (Sum.inl (some (zI x))) A := zx_iret z64 dX0_matches_34 zk64 rfl
theorem s65_0 : zX d 65 0 [v0, zI x, v2] st A K = zX d 65 1 [v0, zI x, v2] (zI x :: st) A K := zx_iload_n z65 dX0_isPosition_0 rfl rfl
theorem s65_1 : zX (d + 1) 65 1 ls (zI i0 :: []) A K = zX d 54 0 [zI i0] [] A (zK (d + 1) 65 1 4 ls [] K) := zx_callS z65 zo65 dX0_isPosition_1 rfl C2_408 rfl rfl zm54 rfl rfl (zwt_le (Nat.le_of_ble_eq_true rfl)) rfl
theorem s65_4 : zX d 65 4 ls (zI x :: st) A K = (if x = 0 then zX d 65 32 ls st A K else zX d 65 7 ls st A K) := zx_if_eq z65 dX0_isPosition_4 rfl rfl
theorem s65_7 : zX d 65 7 [v0, v1, zI x] st A K = zX d 65 8 [v0, v1, zI x] (zI x :: st) A K := zx_iload_n z65 dX0_isPosition_7 rfl rfl
theorem s65_8 : zX d 65 8 ls (zI x :: st) A K = zX d 65 9 ls (zL x :: st) A K := zx_i2l z65 dX0_isPosition_8 rfl
theorem s65_9 : zX d 65 9 ls st A K = zX d 65 10 ls (zL 0 :: st) A K := zx_lconst z65 dX0_isPosition_9 rfl
theorem s65_10 : zX d 65 10 [zO o, v1, v2] st A K = zX d 65 11 [zO o, v1, v2] (zO o :: st) A K := zx_aload_n z65 dX0_isPosition_10 rfl rfl
theorem s65_11 (h : tg A a = 1) : zX d 65 11 ls (zO (some a) :: st) A K = zX d 65 14 ls (fd A a 3 :: st) A K := zx_getf z65 zo65 dX0_isPosition_11 F2_21 rfl h
theorem s65_14 : zX d 65 14 [v0, zI x, v2] st A K = zX d 65 15 [v0, zI x, v2] (zI x :: st) A K := zx_iload_n z65 dX0_isPosition_14 rfl rfl
theorem s65_15 (h : zarr (tg A a) = 3) (h0 : 0 ≤ x) (h1 : x.toNat < (ra A a).length) : zX d 65 15 ls (zI x :: zO (some a) :: st) A K = zX d 65 16 ls (zO ((ra A a).getD x.toNat none) :: st) A K := zx_aald z65 dX0_isPosition_15 rfl h h0 h1
theorem s65_16 (h : tg A a = 4)  : zX (d + 1) 65 16 ls (zO (some a) :: [w0, w1]) A K = zX d 108 0 [zO (some a)] [] A (zK (d + 1) 65 16 19 ls [w0, w1] K) := zx_callV (t := 4) z65 zo65 dX0_isPosition_16 rfl C2_165 rfl rfl zm108 rfl rfl (zwt_le (Nat.le_of_ble_eq_true rfl)) rfl h
theorem s65_19 : zX d 65 19 ls st A K = zX d 65 20 ls (zI 1 :: st) A K := zx_const z65 dX0_isPosition_19 (by decide) rfl
theorem s65_20 : zX d 65 20 ls (zI y :: zI x :: st) A K = zX d 65 21 ls (zI (zw (x - y)) :: st) A K := zx_isub z65 dX0_isPosition_20 rfl
theorem s65_21 : zX d 65 21 ls (zI x :: st) A K = zX d 65 22 ls (zL x :: st) A K := zx_i2l z65 dX0_isPosition_21 rfl
theorem s65_22 : zX d 65 22 ls (zL y :: zL x :: zL w :: []) A K = zX d 65 25 ls (zI (zb (decide (x ≤ w ∧ w ≤ y))) :: []) A K := zx_inS z65 zo65 dX0_isPosition_22 rfl rfl rfl (zin_2 (zwt_le (Nat.le_of_ble_eq_true rfl)))
theorem s65_25 : zX d 65 25 ls (zI x :: st) A K = (if x = 0 then zX d 65 32 ls st A K else zX d 65 28 ls st A K) := zx_if_eq z65 dX0_isPosition_25 rfl rfl
theorem s65_28 : zX d 65 28 ls st A K = zX d 65 29 ls (zI 1 :: st) A K := zx_const z65 dX0_isPosition_28 (by decide) rfl
theorem s65_29 : zX d 65 29 ls st A K = zX d 65 33 ls st A K := zx_goto z65 dX0_isPosition_29 rfl
theorem s65_32 : zX d 65 32 ls st A K = zX d 65 33 ls (zI 0 :: st) A K := zx_const z65 dX0_isPosition_32 (by decide) rfl
theorem s65_33 (h : x = 0 ∨ x = 1) : zX d 65 33 ls [zI x] A K = K (Sum.inl (some (zI x))) A := zx_iret z65 dX0_isPosition_33 zk65 (by rcases h with q | q <;> subst q <;> rfl)
theorem s66_0 : zX d 66 0 [zO o, v1, v2, v3, v4, v5, v6, v7, v8] st A K = zX d 66 1 [zO o, v1, v2, v3, v4, v5, v6, v7, v8] (zO o :: st) A K := zx_aload_n z66 dX0_isMatch_0 rfl rfl
theorem s66_1 (h : tg A a = 1) : zX d 66 1 ls (zO (some a) :: st) A K = zX d 66 4 ls (fd A a 1 :: st) A K := zx_getf z66 zo66 dX0_isMatch_1 F2_15 rfl h
theorem s66_4 : zX d 66 4 [v0, zI x, v2, v3, v4, v5, v6, v7, v8] st A K = zX d 66 5 [v0, zI x, v2, v3, v4, v5, v6, v7, v8] (zI x :: st) A K := zx_iload_n z66 dX0_isMatch_4 rfl rfl
theorem s66_5 (h : zarr (tg A a) = 3) (h0 : 0 ≤ x) (h1 : x.toNat < (ra A a).length) : zX d 66 5 ls (zI x :: zO (some a) :: st) A K = zX d 66 6 ls (zO ((ra A a).getD x.toNat none) :: st) A K := zx_aald z66 dX0_isMatch_5 rfl h h0 h1
theorem s66_6 (h : tg A a = 6) : zX d 66 6 ls (zO (some a) :: st) A K = zX d 66 9 ls (fd A a 0 :: st) A K := zx_getf z66 zo66 dX0_isMatch_6 F2_157 rfl h
theorem s66_9 : zX d 66 9 [v0, v1, v2, v3, v4, v5, v6, v7, v8] (zO o :: st) A K = zX d 66 11 [v0, v1, v2, v3, zO o, v5, v6, v7, v8] st A K := zx_astore z66 dX0_isMatch_9 (Nat.le_of_ble_eq_true rfl) rfl rfl
theorem s66_11 : zX d 66 11 ls st A K = zX d 66 12 ls (zI 0 :: st) A K := zx_const z66 dX0_isMatch_11 (by decide) rfl
theorem s66_12 : zX d 66 12 [v0, v1, v2, v3, v4, v5, v6, v7, v8] (zI x :: st) A K = zX d 66 14 [v0, v1, v2, v3, v4, zI x, v6, v7, v8] st A K := zx_istore z66 dX0_isMatch_12 (Nat.le_of_ble_eq_true rfl) rfl rfl
theorem s66_14 : zX d 66 14 [v0, v1, v2, v3, v4, zI x, v6, v7, v8] st A K = zX d 66 16 [v0, v1, v2, v3, v4, zI x, v6, v7, v8] (zI x :: st) A K := zx_iload z66 dX0_isMatch_14 rfl rfl
theorem s66_16 : zX d 66 16 [zO o, v1, v2, v3, v4, v5, v6, v7, v8] st A K = zX d 66 17 [zO o, v1, v2, v3, v4, v5, v6, v7, v8] (zO o :: st) A K := zx_aload_n z66 dX0_isMatch_16 rfl rfl
theorem s66_17 (h : tg A a = 1) : zX d 66 17 ls (zO (some a) :: st) A K = zX d 66 20 ls (fd A a 25 :: st) A K := zx_getf z66 zo66 dX0_isMatch_17 F2_99 rfl h
theorem s66_20 (h : zarr (tg A a) ≠ 0) : zX d 66 20 ls (zO (some a) :: st) A K = zX d 66 21 ls (zI (zlen A a : Nat) :: st) A K := zx_alen z66 dX0_isMatch_20 rfl h
theorem s66_21 : zX d 66 21 ls (zI y :: zI x :: st) A K = (if y ≤ x then zX d 66 38 ls st A K else zX d 66 24 ls st A K) := zx_ic_ge z66 dX0_isMatch_21 rfl rfl
theorem s66_24 : zX d 66 24 [zO o, v1, v2, v3, v4, v5, v6, v7, v8] st A K = zX d 66 25 [zO o, v1, v2, v3, v4, v5, v6, v7, v8] (zO o :: st) A K := zx_aload_n z66 dX0_isMatch_24 rfl rfl
theorem s66_25 (h : tg A a = 1) : zX d 66 25 ls (zO (some a) :: st) A K = zX d 66 28 ls (fd A a 25 :: st) A K := zx_getf z66 zo66 dX0_isMatch_25 F2_99 rfl h
theorem s66_28 : zX d 66 28 [v0, v1, v2, v3, v4, zI x, v6, v7, v8] st A K = zX d 66 30 [v0, v1, v2, v3, v4, zI x, v6, v7, v8] (zI x :: st) A K := zx_iload z66 dX0_isMatch_28 rfl rfl
theorem s66_30 : zX d 66 30 ls st A K = zX d 66 31 ls (zI (-1) :: st) A K := zx_const z66 dX0_isMatch_30 (by decide) rfl
theorem s66_31 (h : tg A a = 20) (h0 : 0 ≤ x) (h1 : x.toNat < (ia A a).length) : zX d 66 31 ls (zI y :: zI x :: zO (some a) :: st) A K = zX d 66 32 ls st (pI A a ((ia A a).set x.toNat y)) K := zx_iast z66 dX0_isMatch_31 rfl h h0 h1
theorem s66_32 : zX d 66 32 [v0, v1, v2, v3, v4, zI x, v6, v7, v8] st A K = zX d 66 35 [v0, v1, v2, v3, v4, zI (zw (x + 1)), v6, v7, v8] st A K := zx_iinc z66 dX0_isMatch_32 rfl rfl rfl
theorem s66_35 : zX d 66 35 ls st A K = zX d 66 14 ls st A K := zx_goto z66 dX0_isMatch_35 rfl
theorem s66_38 : zX d 66 38 [v0, v1, v2, zI x, v4, v5, v6, v7, v8] st A K = zX d 66 39 [v0, v1, v2, zI x, v4, v5, v6, v7, v8] (zI x :: st) A K := zx_iload_n z66 dX0_isMatch_38 rfl rfl
theorem s66_39 : zX d 66 39 [v0, v1, v2, v3, v4, v5, v6, v7, v8] (zI x :: st) A K = zX d 66 41 [v0, v1, v2, v3, v4, zI x, v6, v7, v8] st A K := zx_istore z66 dX0_isMatch_39 (Nat.le_of_ble_eq_true rfl) rfl rfl
theorem s66_41 : zX d 66 41 ls st A K = zX d 66 42 ls (zI 1 :: st) A K := zx_const z66 dX0_isMatch_41 (by decide) rfl
theorem s66_42 : zX d 66 42 [v0, v1, v2, v3, v4, v5, v6, v7, v8] (zI x :: st) A K = zX d 66 44 [v0, v1, v2, v3, v4, v5, zI x, v7, v8] st A K := zx_istore z66 dX0_isMatch_42 (Nat.le_of_ble_eq_true rfl) rfl rfl
theorem s66_44 : zX d 66 44 ls st A K = zX d 66 45 ls (zI 0 :: st) A K := zx_const z66 dX0_isMatch_44 (by decide) rfl
theorem s66_45 : zX d 66 45 [v0, v1, v2, v3, v4, v5, v6, v7, v8] (zI x :: st) A K = zX d 66 47 [v0, v1, v2, v3, v4, v5, v6, zI x, v8] st A K := zx_istore z66 dX0_isMatch_45 (Nat.le_of_ble_eq_true rfl) rfl rfl
theorem s66_47 : zX d 66 47 [v0, v1, v2, v3, v4, v5, v6, zI x, v8] st A K = zX d 66 49 [v0, v1, v2, v3, v4, v5, v6, zI x, v8] (zI x :: st) A K := zx_iload z66 dX0_isMatch_47 rfl rfl
theorem s66_49 : zX d 66 49 [v0, v1, v2, v3, zO o, v5, v6, v7, v8] st A K = zX d 66 51 [v0, v1, v2, v3, zO o, v5, v6, v7, v8] (zO o :: st) A K := zx_aload z66 dX0_isMatch_49 rfl rfl
theorem s66_51 (h : tg A a = 4)  : zX (d + 1) 66 51 ls (zO (some a) :: [w0]) A K = zX d 108 0 [zO (some a)] [] A (zK (d + 1) 66 51 54 ls [w0] K) := zx_callV (t := 4) z66 zo66 dX0_isMatch_51 rfl C2_165 rfl rfl zm108 rfl rfl (zwt_le (Nat.le_of_ble_eq_true rfl)) rfl h
theorem s66_54 : zX d 66 54 ls (zI y :: zI x :: st) A K = (if y ≤ x then zX d 66 176 ls st A K else zX d 66 57 ls st A K) := zx_ic_ge z66 dX0_isMatch_54 rfl rfl
theorem s66_57 : zX d 66 57 [v0, v1, v2, v3, v4, v5, zI x, v7, v8] st A K = zX d 66 59 [v0, v1, v2, v3, v4, v5, zI x, v7, v8] (zI x :: st) A K := zx_iload z66 dX0_isMatch_57 rfl rfl
theorem s66_59 : zX d 66 59 ls (zI x :: st) A K = (if x = 0 then zX d 66 176 ls st A K else zX d 66 62 ls st A K) := zx_if_eq z66 dX0_isMatch_59 rfl rfl
theorem s66_62 : zX d 66 62 [v0, v1, v2, v3, zO o, v5, v6, v7, v8] st A K = zX d 66 64 [v0, v1, v2, v3, zO o, v5, v6, v7, v8] (zO o :: st) A K := zx_aload z66 dX0_isMatch_62 rfl rfl
theorem s66_64 : zX d 66 64 [v0, v1, v2, v3, v4, v5, v6, zI x, v8] st A K = zX d 66 66 [v0, v1, v2, v3, v4, v5, v6, zI x, v8] (zI x :: st) A K := zx_iload z66 dX0_isMatch_64 rfl rfl
theorem s66_66 (h : tg A a = 4)  : zX (d + 1) 66 66 ls (zI i0 :: zO (some a) :: []) A K = zX d 110 0 [zO (some a), zI i0] [] A (zK (d + 1) 66 66 69 ls [] K) := zx_callV (t := 4) z66 zo66 dX0_isMatch_66 rfl C2_169 rfl rfl zm110 rfl rfl (zwt_le (Nat.le_of_ble_eq_true rfl)) rfl h
theorem s66_69 : zX d 66 69 ls (zI x :: st) A K = (if x = 0 then zX d 66 142 ls st A K else zX d 66 72 ls st A K) := zx_if_eq z66 dX0_isMatch_69 rfl rfl
theorem s66_72 : zX d 66 72 [v0, v1, v2, v3, zO o, v5, v6, v7, v8] st A K = zX d 66 74 [v0, v1, v2, v3, zO o, v5, v6, v7, v8] (zO o :: st) A K := zx_aload z66 dX0_isMatch_72 rfl rfl
theorem s66_74 (h : tg A a = 4) : zX d 66 74 ls (zO (some a) :: st) A K = zX d 66 77 ls (fd A a 0 :: st) A K := zx_getf z66 zo66 dX0_isMatch_74 F2_204 rfl h
theorem s66_77 : zX d 66 77 [v0, v1, v2, v3, v4, v5, v6, zI x, v8] st A K = zX d 66 79 [v0, v1, v2, v3, v4, v5, v6, zI x, v8] (zI x :: st) A K := zx_iload z66 dX0_isMatch_77 rfl rfl
theorem s66_79 (h : tg A a = 21) (h0 : 0 ≤ x) (h1 : x.toNat < (ia A a).length) : zX d 66 79 ls (zI x :: zO (some a) :: st) A K = zX d 66 80 ls (zI ((ia A a).getD x.toNat 0) :: st) A K := zx_bald z66 dX0_isMatch_79 rfl h h0 h1
theorem s66_79z (h : tg A a = 22) (h0 : 0 ≤ x) (h1 : x.toNat < (ia A a).length) : zX d 66 79 ls (zI x :: zO (some a) :: st) A K = zX d 66 80 ls (zI ((ia A a).getD x.toNat 0) :: st) A K := zx_zald z66 dX0_isMatch_79 rfl h h0 h1
theorem s66_80 : zX d 66 80 ls st A K = zX d 66 82 ls (zI (119) :: st) A K := zx_bipush z66 dX0_isMatch_80 (by decide) rfl
theorem s66_82 : zX d 66 82 ls (zI y :: zI x :: st) A K = zX d 66 83 ls (zI (zw (x - y)) :: st) A K := zx_isub z66 dX0_isMatch_82 rfl
theorem s66_83 : zX d 66 83 [v0, v1, v2, v3, v4, v5, v6, v7, v8] (zI x :: st) A K = zX d 66 85 [v0, v1, v2, v3, v4, v5, v6, v7, zI x] st A K := zx_istore z66 dX0_isMatch_83 (Nat.le_of_ble_eq_true rfl) rfl rfl
theorem s66_85 : zX d 66 85 [zO o, v1, v2, v3, v4, v5, v6, v7, v8] st A K = zX d 66 86 [zO o, v1, v2, v3, v4, v5, v6, v7, v8] (zO o :: st) A K := zx_aload_n z66 dX0_isMatch_85 rfl rfl
theorem s66_86 (h : tg A a = 1) : zX d 66 86 ls (zO (some a) :: st) A K = zX d 66 89 ls (fd A a 25 :: st) A K := zx_getf z66 zo66 dX0_isMatch_86 F2_99 rfl h
theorem s66_89 : zX d 66 89 [v0, v1, v2, v3, v4, v5, v6, v7, zI x] st A K = zX d 66 91 [v0, v1, v2, v3, v4, v5, v6, v7, zI x] (zI x :: st) A K := zx_iload z66 dX0_isMatch_89 rfl rfl
theorem s66_91 : zX d 66 91 [zO o, v1, v2, v3, v4, v5, v6, v7, v8] st A K = zX d 66 92 [zO o, v1, v2, v3, v4, v5, v6, v7, v8] (zO o :: st) A K := zx_aload_n z66 dX0_isMatch_91 rfl rfl
theorem s66_92 (h : tg A a = 1) : zX d 66 92 ls (zO (some a) :: st) A K = zX d 66 95 ls (fd A a 25 :: st) A K := zx_getf z66 zo66 dX0_isMatch_92 F2_99 rfl h
theorem s66_95 : zX d 66 95 [v0, v1, v2, v3, v4, v5, v6, v7, zI x] st A K = zX d 66 97 [v0, v1, v2, v3, v4, v5, v6, v7, zI x] (zI x :: st) A K := zx_iload z66 dX0_isMatch_95 rfl rfl
theorem s66_97 (h : tg A a = 20) (h0 : 0 ≤ x) (h1 : x.toNat < (ia A a).length) : zX d 66 97 ls (zI x :: zO (some a) :: st) A K = zX d 66 98 ls (zI ((ia A a).getD x.toNat 0) :: st) A K := zx_iald z66 dX0_isMatch_97 rfl h h0 h1
theorem s66_97s (h : tg A a = 30) (h0 : 0 ≤ x) (h1 : x.toNat < (ia A a).length) : zX d 66 97 ls (zI x :: zO (some a) :: st) A K = zX d 66 98 ls (zI ((ia A a).getD x.toNat 0) :: st) A K := zx_sald z66 dX0_isMatch_97 rfl h h0 h1
theorem s66_98 : zX d 66 98 ls (zI x :: st) A K = (if 0 ≤ x then zX d 66 106 ls st A K else zX d 66 101 ls st A K) := zx_if_ge z66 dX0_isMatch_98 rfl rfl
theorem s66_101 : zX d 66 101 [v0, v1, v2, v3, v4, zI x, v6, v7, v8] st A K = zX d 66 103 [v0, v1, v2, v3, v4, zI x, v6, v7, v8] (zI x :: st) A K := zx_iload z66 dX0_isMatch_101 rfl rfl
theorem s66_103 : zX d 66 103 ls st A K = zX d 66 113 ls st A K := zx_goto z66 dX0_isMatch_103 rfl
theorem s66_106 : zX d 66 106 [zO o, v1, v2, v3, v4, v5, v6, v7, v8] st A K = zX d 66 107 [zO o, v1, v2, v3, v4, v5, v6, v7, v8] (zO o :: st) A K := zx_aload_n z66 dX0_isMatch_106 rfl rfl
theorem s66_107 (h : tg A a = 1) : zX d 66 107 ls (zO (some a) :: st) A K = zX d 66 110 ls (fd A a 25 :: st) A K := zx_getf z66 zo66 dX0_isMatch_107 F2_99 rfl h
theorem s66_110 : zX d 66 110 [v0, v1, v2, v3, v4, v5, v6, v7, zI x] st A K = zX d 66 112 [v0, v1, v2, v3, v4, v5, v6, v7, zI x] (zI x :: st) A K := zx_iload z66 dX0_isMatch_110 rfl rfl
theorem s66_112 (h : tg A a = 20) (h0 : 0 ≤ x) (h1 : x.toNat < (ia A a).length) : zX d 66 112 ls (zI x :: zO (some a) :: st) A K = zX d 66 113 ls (zI ((ia A a).getD x.toNat 0) :: st) A K := zx_iald z66 dX0_isMatch_112 rfl h h0 h1
theorem s66_112s (h : tg A a = 30) (h0 : 0 ≤ x) (h1 : x.toNat < (ia A a).length) : zX d 66 112 ls (zI x :: zO (some a) :: st) A K = zX d 66 113 ls (zI ((ia A a).getD x.toNat 0) :: st) A K := zx_sald z66 dX0_isMatch_112 rfl h h0 h1
theorem s66_113 (h : tg A a = 20) (h0 : 0 ≤ x) (h1 : x.toNat < (ia A a).length) : zX d 66 113 ls (zI y :: zI x :: zO (some a) :: st) A K = zX d 66 114 ls st (pI A a ((ia A a).set x.toNat y)) K := zx_iast z66 dX0_isMatch_113 rfl h h0 h1
theorem s66_114 : zX d 66 114 [v0, v1, zO o, v3, v4, v5, v6, v7, v8] st A K = zX d 66 115 [v0, v1, zO o, v3, v4, v5, v6, v7, v8] (zO o :: st) A K := zx_aload_n z66 dX0_isMatch_114 rfl rfl
theorem s66_115 : zX d 66 115 [zO o, v1, v2, v3, v4, v5, v6, v7, v8] st A K = zX d 66 116 [zO o, v1, v2, v3, v4, v5, v6, v7, v8] (zO o :: st) A K := zx_aload_n z66 dX0_isMatch_115 rfl rfl
theorem s66_116 (h : tg A a = 1) : zX d 66 116 ls (zO (some a) :: st) A K = zX d 66 119 ls (fd A a 25 :: st) A K := zx_getf z66 zo66 dX0_isMatch_116 F2_99 rfl h
theorem s66_119 : zX d 66 119 [v0, v1, v2, v3, v4, v5, v6, v7, zI x] st A K = zX d 66 121 [v0, v1, v2, v3, v4, v5, v6, v7, zI x] (zI x :: st) A K := zx_iload z66 dX0_isMatch_119 rfl rfl
theorem s66_121 (h : tg A a = 20) (h0 : 0 ≤ x) (h1 : x.toNat < (ia A a).length) : zX d 66 121 ls (zI x :: zO (some a) :: st) A K = zX d 66 122 ls (zI ((ia A a).getD x.toNat 0) :: st) A K := zx_iald z66 dX0_isMatch_121 rfl h h0 h1
theorem s66_121s (h : tg A a = 30) (h0 : 0 ≤ x) (h1 : x.toNat < (ia A a).length) : zX d 66 121 ls (zI x :: zO (some a) :: st) A K = zX d 66 122 ls (zI ((ia A a).getD x.toNat 0) :: st) A K := zx_sald z66 dX0_isMatch_121 rfl h h0 h1
theorem s66_122 : zX d 66 122 [v0, v1, zO o, v3, v4, v5, v6, v7, v8] st A K = zX d 66 123 [v0, v1, zO o, v3, v4, v5, v6, v7, v8] (zO o :: st) A K := zx_aload_n z66 dX0_isMatch_122 rfl rfl
theorem s66_123 : zX d 66 123 [v0, v1, v2, v3, v4, zI x, v6, v7, v8] st A K = zX d 66 125 [v0, v1, v2, v3, v4, zI x, v6, v7, v8] (zI x :: st) A K := zx_iload z66 dX0_isMatch_123 rfl rfl
theorem s66_125 (h : tg A a = 4)  : zX (d + 1) 66 125 ls (zI i2 :: zO o1 :: zI i0 :: zO (some a) :: []) A K = zX d 112 0 [zO (some a), zI i0, zO o1, zI i2, zU, zU] [] A (zK (d + 1) 66 125 128 ls [] K) := zx_callV (t := 4) z66 zo66 dX0_isMatch_125 rfl C2_375 rfl rfl zm112 rfl rfl (zwt_le (Nat.le_of_ble_eq_true rfl)) rfl h
theorem s66_128 : zX d 66 128 [v0, v1, v2, v3, v4, v5, v6, v7, v8] (zI x :: st) A K = zX d 66 130 [v0, v1, v2, v3, v4, v5, zI x, v7, v8] st A K := zx_istore z66 dX0_isMatch_128 (Nat.le_of_ble_eq_true rfl) rfl rfl
theorem s66_130 : zX d 66 130 [v0, v1, zO o, v3, v4, v5, v6, v7, v8] st A K = zX d 66 131 [v0, v1, zO o, v3, v4, v5, v6, v7, v8] (zO o :: st) A K := zx_aload_n z66 dX0_isMatch_130 rfl rfl
theorem s66_131 (h : tg A a = 4) : zX d 66 131 ls (zO (some a) :: st) A K = zX d 66 134 ls (fd A a 1 :: st) A K := zx_getf z66 zo66 dX0_isMatch_131 F2_201 rfl h
theorem s66_134 : zX d 66 134 [v0, v1, v2, v3, v4, zI x, v6, v7, v8] st A K = zX d 66 136 [v0, v1, v2, v3, v4, zI x, v6, v7, v8] (zI x :: st) A K := zx_iload z66 dX0_isMatch_134 rfl rfl
theorem s66_136 (h : tg A a = 20) (h0 : 0 ≤ x) (h1 : x.toNat < (ia A a).length) : zX d 66 136 ls (zI x :: zO (some a) :: st) A K = zX d 66 137 ls (zI ((ia A a).getD x.toNat 0) :: st) A K := zx_iald z66 dX0_isMatch_136 rfl h h0 h1
theorem s66_136s (h : tg A a = 30) (h0 : 0 ≤ x) (h1 : x.toNat < (ia A a).length) : zX d 66 136 ls (zI x :: zO (some a) :: st) A K = zX d 66 137 ls (zI ((ia A a).getD x.toNat 0) :: st) A K := zx_sald z66 dX0_isMatch_136 rfl h h0 h1
theorem s66_137 : zX d 66 137 [v0, v1, v2, v3, v4, v5, v6, v7, v8] (zI x :: st) A K = zX d 66 139 [v0, v1, v2, v3, v4, zI x, v6, v7, v8] st A K := zx_istore z66 dX0_isMatch_137 (Nat.le_of_ble_eq_true rfl) rfl rfl
theorem s66_139 : zX d 66 139 ls st A K = zX d 66 170 ls st A K := zx_goto z66 dX0_isMatch_139 rfl
theorem s66_142 : zX d 66 142 [v0, v1, v2, v3, zO o, v5, v6, v7, v8] st A K = zX d 66 144 [v0, v1, v2, v3, zO o, v5, v6, v7, v8] (zO o :: st) A K := zx_aload z66 dX0_isMatch_142 rfl rfl
theorem s66_144 (h : tg A a = 4) : zX d 66 144 ls (zO (some a) :: st) A K = zX d 66 147 ls (fd A a 0 :: st) A K := zx_getf z66 zo66 dX0_isMatch_144 F2_204 rfl h
theorem s66_147 : zX d 66 147 [v0, v1, v2, v3, v4, v5, v6, zI x, v8] st A K = zX d 66 149 [v0, v1, v2, v3, v4, v5, v6, zI x, v8] (zI x :: st) A K := zx_iload z66 dX0_isMatch_147 rfl rfl
theorem s66_149 (h : tg A a = 21) (h0 : 0 ≤ x) (h1 : x.toNat < (ia A a).length) : zX d 66 149 ls (zI x :: zO (some a) :: st) A K = zX d 66 150 ls (zI ((ia A a).getD x.toNat 0) :: st) A K := zx_bald z66 dX0_isMatch_149 rfl h h0 h1
theorem s66_149z (h : tg A a = 22) (h0 : 0 ≤ x) (h1 : x.toNat < (ia A a).length) : zX d 66 149 ls (zI x :: zO (some a) :: st) A K = zX d 66 150 ls (zI ((ia A a).getD x.toNat 0) :: st) A K := zx_zald z66 dX0_isMatch_149 rfl h h0 h1
theorem s66_150 : zX d 66 150 [v0, v1, zO o, v3, v4, v5, v6, v7, v8] st A K = zX d 66 151 [v0, v1, zO o, v3, v4, v5, v6, v7, v8] (zO o :: st) A K := zx_aload_n z66 dX0_isMatch_150 rfl rfl
theorem s66_151 (h : tg A a = 4) : zX d 66 151 ls (zO (some a) :: st) A K = zX d 66 154 ls (fd A a 0 :: st) A K := zx_getf z66 zo66 dX0_isMatch_151 F2_204 rfl h
theorem s66_154 : zX d 66 154 [v0, v1, v2, v3, v4, zI x, v6, v7, v8] st A K = zX d 66 156 [v0, v1, v2, v3, v4, zI x, v6, v7, v8] (zI x :: st) A K := zx_iload z66 dX0_isMatch_154 rfl rfl
theorem s66_156 (h : tg A a = 21) (h0 : 0 ≤ x) (h1 : x.toNat < (ia A a).length) : zX d 66 156 ls (zI x :: zO (some a) :: st) A K = zX d 66 157 ls (zI ((ia A a).getD x.toNat 0) :: st) A K := zx_bald z66 dX0_isMatch_156 rfl h h0 h1
theorem s66_156z (h : tg A a = 22) (h0 : 0 ≤ x) (h1 : x.toNat < (ia A a).length) : zX d 66 156 ls (zI x :: zO (some a) :: st) A K = zX d 66 157 ls (zI ((ia A a).getD x.toNat 0) :: st) A K := zx_zald z66 dX0_isMatch_156 rfl h h0 h1
theorem s66_157 : zX d 66 157 ls (zI y :: zI x :: st) A K = (if x ≠ y then zX d 66 164 ls st A K else zX d 66 160 ls st A K) := zx_ic_ne z66 dX0_isMatch_157 rfl rfl
theorem s66_160 : zX d 66 160 ls st A K = zX d 66 161 ls (zI 1 :: st) A K := zx_const z66 dX0_isMatch_160 (by decide) rfl
theorem s66_161 : zX d 66 161 ls st A K = zX d 66 165 ls st A K := zx_goto z66 dX0_isMatch_161 rfl
theorem s66_164 : zX d 66 164 ls st A K = zX d 66 165 ls (zI 0 :: st) A K := zx_const z66 dX0_isMatch_164 (by decide) rfl
theorem s66_165 : zX d 66 165 [v0, v1, v2, v3, v4, v5, v6, v7, v8] (zI x :: st) A K = zX d 66 167 [v0, v1, v2, v3, v4, v5, zI x, v7, v8] st A K := zx_istore z66 dX0_isMatch_165 (Nat.le_of_ble_eq_true rfl) rfl rfl
theorem s66_167 : zX d 66 167 [v0, v1, v2, v3, v4, zI x, v6, v7, v8] st A K = zX d 66 170 [v0, v1, v2, v3, v4, zI (zw (x + 1)), v6, v7, v8] st A K := zx_iinc z66 dX0_isMatch_167 rfl rfl rfl
theorem s66_170 : zX d 66 170 [v0, v1, v2, v3, v4, v5, v6, zI x, v8] st A K = zX d 66 173 [v0, v1, v2, v3, v4, v5, v6, zI (zw (x + 1)), v8] st A K := zx_iinc z66 dX0_isMatch_170 rfl rfl rfl
theorem s66_173 : zX d 66 173 ls st A K = zX d 66 47 ls st A K := zx_goto z66 dX0_isMatch_173 rfl
theorem s66_176 : zX d 66 176 [v0, v1, v2, v3, v4, v5, zI x, v7, v8] st A K = zX d 66 178 [v0, v1, v2, v3, v4, v5, zI x, v7, v8] (zI x :: st) A K := zx_iload z66 dX0_isMatch_176 rfl rfl
theorem s66_178 (h : x = 0 ∨ x = 1) : zX d 66 178 ls [zI x] A K = K (Sum.inl (some (zI x))) A := zx_iret z66 dX0_isMatch_178 zk66 (by rcases h with q | q <;> subst q <;> rfl)
theorem s67_0 : zX d 67 0 [v0, zI x, v2, v3, v4] st A K = zX d 67 1 [v0, zI x, v2, v3, v4] (zI x :: st) A K := zx_iload_n z67 dX0_redexCount_0 rfl rfl
theorem s67_1 : zX (d + 1) 67 1 ls (zI i0 :: []) A K = zX d 54 0 [zI i0] [] A (zK (d + 1) 67 1 4 ls [] K) := zx_callS z67 zo67 dX0_redexCount_1 rfl C2_408 rfl rfl zm54 rfl rfl (zwt_le (Nat.le_of_ble_eq_true rfl)) rfl
theorem s67_4 : zX d 67 4 ls (zI x :: st) A K = (if x ≠ 0 then zX d 67 9 ls st A K else zX d 67 7 ls st A K) := zx_if_ne z67 dX0_redexCount_4 rfl rfl
theorem s67_7 : zX d 67 7 ls st A K = zX d 67 8 ls (zI (-1) :: st) A K := zx_const z67 dX0_redexCount_7 (by decide) rfl
theorem s67_8 : zX d 67 8 ls [zI x] A K = K (Sum.inl (some (zI x))) A := zx_iret z67 dX0_redexCount_8 zk67 rfl
theorem s67_9 : zX d 67 9 [zO o, v1, v2, v3, v4] st A K = zX d 67 10 [zO o, v1, v2, v3, v4] (zO o :: st) A K := zx_aload_n z67 dX0_redexCount_9 rfl rfl
theorem s67_10 (h : tg A a = 1) : zX d 67 10 ls (zO (some a) :: st) A K = zX d 67 13 ls (fd A a 3 :: st) A K := zx_getf z67 zo67 dX0_redexCount_10 F2_21 rfl h
theorem s67_13 : zX d 67 13 [v0, zI x, v2, v3, v4] st A K = zX d 67 14 [v0, zI x, v2, v3, v4] (zI x :: st) A K := zx_iload_n z67 dX0_redexCount_13 rfl rfl
theorem s67_14 (h : zarr (tg A a) = 3) (h0 : 0 ≤ x) (h1 : x.toNat < (ra A a).length) : zX d 67 14 ls (zI x :: zO (some a) :: st) A K = zX d 67 15 ls (zO ((ra A a).getD x.toNat none) :: st) A K := zx_aald z67 dX0_redexCount_14 rfl h h0 h1
theorem s67_15 : zX d 67 15 [v0, v1, v2, v3, v4] (zO o :: st) A K = zX d 67 16 [v0, v1, zO o, v3, v4] st A K := zx_astore_n z67 dX0_redexCount_15 (Nat.le_of_ble_eq_true rfl) rfl rfl
theorem s67_16 : zX d 67 16 ls st A K = zX d 67 17 ls (zI 0 :: st) A K := zx_const z67 dX0_redexCount_16 (by decide) rfl
theorem s67_17 : zX d 67 17 [v0, v1, v2, v3, v4] (zI x :: st) A K = zX d 67 18 [v0, v1, v2, zI x, v4] st A K := zx_istore_n z67 dX0_redexCount_17 (Nat.le_of_ble_eq_true rfl) rfl rfl
theorem s67_18 : zX d 67 18 ls st A K = zX d 67 19 ls (zI 0 :: st) A K := zx_const z67 dX0_redexCount_18 (by decide) rfl
theorem s67_19 : zX d 67 19 [v0, v1, v2, v3, v4] (zI x :: st) A K = zX d 67 21 [v0, v1, v2, v3, zI x] st A K := zx_istore z67 dX0_redexCount_19 (Nat.le_of_ble_eq_true rfl) rfl rfl
theorem s67_21 : zX d 67 21 [v0, v1, v2, v3, zI x] st A K = zX d 67 23 [v0, v1, v2, v3, zI x] (zI x :: st) A K := zx_iload z67 dX0_redexCount_21 rfl rfl
theorem s67_23 : zX d 67 23 [v0, v1, zO o, v3, v4] st A K = zX d 67 24 [v0, v1, zO o, v3, v4] (zO o :: st) A K := zx_aload_n z67 dX0_redexCount_23 rfl rfl
theorem s67_24 (h : tg A a = 4)  : zX (d + 1) 67 24 ls (zO (some a) :: [w0]) A K = zX d 108 0 [zO (some a)] [] A (zK (d + 1) 67 24 27 ls [w0] K) := zx_callV (t := 4) z67 zo67 dX0_redexCount_24 rfl C2_165 rfl rfl zm108 rfl rfl (zwt_le (Nat.le_of_ble_eq_true rfl)) rfl h
theorem s67_27 : zX d 67 27 ls (zI y :: zI x :: st) A K = (if y ≤ x then zX d 67 49 ls st A K else zX d 67 30 ls st A K) := zx_ic_ge z67 dX0_redexCount_27 rfl rfl
theorem s67_30 : zX d 67 30 [v0, v1, v2, zI x, v4] st A K = zX d 67 31 [v0, v1, v2, zI x, v4] (zI x :: st) A K := zx_iload_n z67 dX0_redexCount_30 rfl rfl
theorem s67_31 : zX d 67 31 [zO o, v1, v2, v3, v4] st A K = zX d 67 32 [zO o, v1, v2, v3, v4] (zO o :: st) A K := zx_aload_n z67 dX0_redexCount_31 rfl rfl
theorem s67_32 : zX d 67 32 [v0, v1, zO o, v3, v4] st A K = zX d 67 33 [v0, v1, zO o, v3, v4] (zO o :: st) A K := zx_aload_n z67 dX0_redexCount_32 rfl rfl
theorem s67_33 : zX d 67 33 [v0, v1, v2, v3, zI x] st A K = zX d 67 35 [v0, v1, v2, v3, zI x] (zI x :: st) A K := zx_iload z67 dX0_redexCount_33 rfl rfl
theorem s67_35 (h : tg A a = 1)  : zX (d + 1) 67 35 ls (zI i1 :: zO o0 :: zO (some a) :: [w0]) A K = zX d 68 0 [zO (some a), zO o0, zI i1] [] A (zK (d + 1) 67 35 38 ls [w0] K) := zx_callV (t := 1) z67 zo67 dX0_redexCount_35 rfl C2_385 rfl rfl zm68 rfl rfl (zwt_le (Nat.le_of_ble_eq_true rfl)) rfl h
theorem s67_38 : zX (d + 1) 67 38 ls (zI i0 :: [w0]) A K = zX d 30 0 [zI i0] [] A (zK (d + 1) 67 38 41 ls [w0] K) := zx_callS z67 zo67 dX0_redexCount_38 rfl C2_252 rfl rfl zm30 rfl rfl (zwt_le (Nat.le_of_ble_eq_true rfl)) rfl
theorem s67_41 : zX d 67 41 ls (zI y :: zI x :: st) A K = zX d 67 42 ls (zI (zw (x + y)) :: st) A K := zx_iadd z67 dX0_redexCount_41 rfl
theorem s67_42 : zX d 67 42 [v0, v1, v2, v3, v4] (zI x :: st) A K = zX d 67 43 [v0, v1, v2, zI x, v4] st A K := zx_istore_n z67 dX0_redexCount_42 (Nat.le_of_ble_eq_true rfl) rfl rfl
theorem s67_43 : zX d 67 43 [v0, v1, v2, v3, zI x] st A K = zX d 67 46 [v0, v1, v2, v3, zI (zw (x + 1))] st A K := zx_iinc z67 dX0_redexCount_43 rfl rfl rfl
theorem s67_46 : zX d 67 46 ls st A K = zX d 67 21 ls st A K := zx_goto z67 dX0_redexCount_46 rfl
theorem s67_49 : zX d 67 49 [v0, v1, v2, zI x, v4] st A K = zX d 67 50 [v0, v1, v2, zI x, v4] (zI x :: st) A K := zx_iload_n z67 dX0_redexCount_49 rfl rfl
theorem s67_50 : zX d 67 50 ls [zI x] A K = K (Sum.inl (some (zI x))) A := zx_iret z67 dX0_redexCount_50 zk67 rfl
theorem s68_0 : zX d 68 0 [zO o, v1, v2] st A K = zX d 68 1 [zO o, v1, v2] (zO o :: st) A K := zx_aload_n z68 dX0_isRedex_0 rfl rfl
theorem s68_1 : zX d 68 1 [v0, zO o, v2] st A K = zX d 68 2 [v0, zO o, v2] (zO o :: st) A K := zx_aload_n z68 dX0_isRedex_1 rfl rfl
theorem s68_2 : zX d 68 2 [v0, v1, zI x] st A K = zX d 68 3 [v0, v1, zI x] (zI x :: st) A K := zx_iload_n z68 dX0_isRedex_2 rfl rfl
theorem s68_3 (h : tg A a = 1)  : zX (d + 1) 68 3 ls (zI i1 :: zO o0 :: zO (some a) :: []) A K = zX d 69 0 [zO (some a), zO o0, zI i1, zU] [] A (zK (d + 1) 68 3 6 ls [] K) := zx_callV (t := 1) z68 zo68 dX0_isRedex_3 rfl C2_381 rfl rfl zm69 rfl rfl (zwt_le (Nat.le_of_ble_eq_true rfl)) rfl h
theorem s68_6 : zX d 68 6 ls st A K = zX d 68 8 ls (zI (-5) :: st) A K := zx_bipush z68 dX0_isRedex_6 (by decide) rfl
theorem s68_8 : zX d 68 8 ls (zI y :: zI x :: st) A K = (if x = y then zX d 68 15 ls st A K else zX d 68 11 ls st A K) := zx_ic_eq z68 dX0_isRedex_8 rfl rfl
theorem s68_11 : zX d 68 11 ls st A K = zX d 68 12 ls (zI 1 :: st) A K := zx_const z68 dX0_isRedex_11 (by decide) rfl
theorem s68_12 : zX d 68 12 ls st A K = zX d 68 16 ls st A K := zx_goto z68 dX0_isRedex_12 rfl
theorem s68_15 : zX d 68 15 ls st A K = zX d 68 16 ls (zI 0 :: st) A K := zx_const z68 dX0_isRedex_15 (by decide) rfl
theorem s68_16 (h : x = 0 ∨ x = 1) : zX d 68 16 ls [zI x] A K = K (Sum.inl (some (zI x))) A := zx_iret z68 dX0_isRedex_16 zk68 (by rcases h with q | q <;> subst q <;> rfl)
theorem s69_0 : zX d 69 0 [v0, zO o, v2, v3] st A K = zX d 69 1 [v0, zO o, v2, v3] (zO o :: st) A K := zx_aload_n z69 dX0_matchingRule_0 rfl rfl
theorem s69_1 : zX d 69 1 [v0, v1, zI x, v3] st A K = zX d 69 2 [v0, v1, zI x, v3] (zI x :: st) A K := zx_iload_n z69 dX0_matchingRule_1 rfl rfl
theorem s69_2 (h : tg A a = 4)  : zX (d + 1) 69 2 ls (zI i0 :: zO (some a) :: []) A K = zX d 109 0 [zO (some a), zI i0] [] A (zK (d + 1) 69 2 5 ls [] K) := zx_callV (t := 4) z69 zo69 dX0_matchingRule_2 rfl C2_164 rfl rfl zm109 rfl rfl (zwt_le (Nat.le_of_ble_eq_true rfl)) rfl h
theorem s69_5 : zX d 69 5 ls (zI x :: st) A K = (if x = 0 then zX d 69 12 ls st A K else zX d 69 8 ls st A K) := zx_if_eq z69 dX0_matchingRule_5 rfl rfl
theorem s69_8 : zX d 69 8 ls st A K = zX d 69 9 ls (zI 0 :: st) A K := zx_const z69 dX0_matchingRule_8 (by decide) rfl
theorem s69_9 : zX d 69 9 ls st A K = zX d 69 16 ls st A K := zx_goto z69 dX0_matchingRule_9 rfl
theorem s69_12 : zX d 69 12 [zO o, v1, v2, v3] st A K = zX d 69 13 [zO o, v1, v2, v3] (zO o :: st) A K := zx_aload_n z69 dX0_matchingRule_12 rfl rfl
theorem s69_13 (h : tg A a = 1) : zX d 69 13 ls (zO (some a) :: st) A K = zX d 69 16 ls (fd A a 2 :: st) A K := zx_getf z69 zo69 dX0_matchingRule_13 F2_138 rfl h
theorem s69_16 : zX d 69 16 [v0, v1, v2, v3] (zI x :: st) A K = zX d 69 17 [v0, v1, v2, zI x] st A K := zx_istore_n z69 dX0_matchingRule_16 (Nat.le_of_ble_eq_true rfl) rfl rfl
theorem s69_17 : zX d 69 17 [v0, v1, v2, zI x] st A K = zX d 69 18 [v0, v1, v2, zI x] (zI x :: st) A K := zx_iload_n z69 dX0_matchingRule_17 rfl rfl
theorem s69_18 : zX d 69 18 [zO o, v1, v2, v3] st A K = zX d 69 19 [zO o, v1, v2, v3] (zO o :: st) A K := zx_aload_n z69 dX0_matchingRule_18 rfl rfl
theorem s69_19 (h : tg A a = 1) : zX d 69 19 ls (zO (some a) :: st) A K = zX d 69 22 ls (fd A a 2 :: st) A K := zx_getf z69 zo69 dX0_matchingRule_19 F2_138 rfl h
theorem s69_22 : zX d 69 22 ls (zI y :: zI x :: st) A K = (if y ≤ x then zX d 69 41 ls st A K else zX d 69 25 ls st A K) := zx_ic_ge z69 dX0_matchingRule_22 rfl rfl
theorem s69_25 : zX d 69 25 [zO o, v1, v2, v3] st A K = zX d 69 26 [zO o, v1, v2, v3] (zO o :: st) A K := zx_aload_n z69 dX0_matchingRule_25 rfl rfl
theorem s69_26 : zX d 69 26 [v0, v1, v2, zI x] st A K = zX d 69 27 [v0, v1, v2, zI x] (zI x :: st) A K := zx_iload_n z69 dX0_matchingRule_26 rfl rfl
theorem s69_27 : zX d 69 27 [v0, zO o, v2, v3] st A K = zX d 69 28 [v0, zO o, v2, v3] (zO o :: st) A K := zx_aload_n z69 dX0_matchingRule_27 rfl rfl
theorem s69_28 : zX d 69 28 [v0, v1, zI x, v3] st A K = zX d 69 29 [v0, v1, zI x, v3] (zI x :: st) A K := zx_iload_n z69 dX0_matchingRule_28 rfl rfl
theorem s69_29 (h : tg A a = 1)  : zX (d + 1) 69 29 ls (zI i2 :: zO o1 :: zI i0 :: zO (some a) :: []) A K = zX d 66 0 [zO (some a), zI i0, zO o1, zI i2, zU, zU, zU, zU, zU] [] A (zK (d + 1) 69 29 32 ls [] K) := zx_callV (t := 1) z69 zo69 dX0_matchingRule_29 rfl C2_378 rfl rfl zm66 rfl rfl (zwt_le (Nat.le_of_ble_eq_true rfl)) rfl h
theorem s69_32 : zX d 69 32 ls (zI x :: st) A K = (if x ≠ 0 then zX d 69 41 ls st A K else zX d 69 35 ls st A K) := zx_if_ne z69 dX0_matchingRule_32 rfl rfl
theorem s69_35 : zX d 69 35 [v0, v1, v2, zI x] st A K = zX d 69 38 [v0, v1, v2, zI (zw (x + 1))] st A K := zx_iinc z69 dX0_matchingRule_35 rfl rfl rfl
theorem s69_38 : zX d 69 38 ls st A K = zX d 69 17 ls st A K := zx_goto z69 dX0_matchingRule_38 rfl
theorem s69_41 : zX d 69 41 [v0, v1, v2, zI x] st A K = zX d 69 42 [v0, v1, v2, zI x] (zI x :: st) A K := zx_iload_n z69 dX0_matchingRule_41 rfl rfl
theorem s69_42 : zX d 69 42 [zO o, v1, v2, v3] st A K = zX d 69 43 [zO o, v1, v2, v3] (zO o :: st) A K := zx_aload_n z69 dX0_matchingRule_42 rfl rfl
theorem s69_43 (h : tg A a = 1) : zX d 69 43 ls (zO (some a) :: st) A K = zX d 69 46 ls (fd A a 2 :: st) A K := zx_getf z69 zo69 dX0_matchingRule_43 F2_138 rfl h
theorem s69_46 : zX d 69 46 ls (zI y :: zI x :: st) A K = (if y ≤ x then zX d 69 53 ls st A K else zX d 69 49 ls st A K) := zx_ic_ge z69 dX0_matchingRule_46 rfl rfl
theorem s69_49 : zX d 69 49 [v0, v1, v2, zI x] st A K = zX d 69 50 [v0, v1, v2, zI x] (zI x :: st) A K := zx_iload_n z69 dX0_matchingRule_49 rfl rfl
theorem s69_50 : zX d 69 50 ls st A K = zX d 69 55 ls st A K := zx_goto z69 dX0_matchingRule_50 rfl
theorem s69_53 : zX d 69 53 ls st A K = zX d 69 55 ls (zI (-5) :: st) A K := zx_bipush z69 dX0_matchingRule_53 (by decide) rfl
theorem s69_55 : zX d 69 55 ls [zI x] A K = K (Sum.inl (some (zI x))) A := zx_iret z69 dX0_matchingRule_55 zk69 rfl
theorem s70_0 : zX d 70 0 [v0, zI x, v2, v3, v4, v5] st A K = zX d 70 1 [v0, zI x, v2, v3, v4, v5] (zI x :: st) A K := zx_iload_n z70 dX0_redexAt_0 rfl rfl
theorem s70_1 : zX (d + 1) 70 1 ls (zI i0 :: []) A K = zX d 54 0 [zI i0] [] A (zK (d + 1) 70 1 4 ls [] K) := zx_callS z70 zo70 dX0_redexAt_1 rfl C2_408 rfl rfl zm54 rfl rfl (zwt_le (Nat.le_of_ble_eq_true rfl)) rfl
theorem s70_4 : zX d 70 4 ls (zI x :: st) A K = (if x = 0 then zX d 70 11 ls st A K else zX d 70 7 ls st A K) := zx_if_eq z70 dX0_redexAt_4 rfl rfl
theorem s70_7 : zX d 70 7 [v0, v1, zI x, v3, v4, v5] st A K = zX d 70 8 [v0, v1, zI x, v3, v4, v5] (zI x :: st) A K := zx_iload_n z70 dX0_redexAt_7 rfl rfl
theorem s70_8 : zX d 70 8 ls (zI x :: st) A K = (if 0 ≤ x then zX d 70 13 ls st A K else zX d 70 11 ls st A K) := zx_if_ge z70 dX0_redexAt_8 rfl rfl
theorem s70_11 : zX d 70 11 ls st A K = zX d 70 12 ls (zI (-1) :: st) A K := zx_const z70 dX0_redexAt_11 (by decide) rfl
theorem s70_12 : zX d 70 12 ls [zI x] A K = K (Sum.inl (some (zI x))) A := zx_iret z70 dX0_redexAt_12 zk70 rfl
theorem s70_13 : zX d 70 13 [zO o, v1, v2, v3, v4, v5] st A K = zX d 70 14 [zO o, v1, v2, v3, v4, v5] (zO o :: st) A K := zx_aload_n z70 dX0_redexAt_13 rfl rfl
theorem s70_14 (h : tg A a = 1) : zX d 70 14 ls (zO (some a) :: st) A K = zX d 70 17 ls (fd A a 3 :: st) A K := zx_getf z70 zo70 dX0_redexAt_14 F2_21 rfl h
theorem s70_17 : zX d 70 17 [v0, zI x, v2, v3, v4, v5] st A K = zX d 70 18 [v0, zI x, v2, v3, v4, v5] (zI x :: st) A K := zx_iload_n z70 dX0_redexAt_17 rfl rfl
theorem s70_18 (h : zarr (tg A a) = 3) (h0 : 0 ≤ x) (h1 : x.toNat < (ra A a).length) : zX d 70 18 ls (zI x :: zO (some a) :: st) A K = zX d 70 19 ls (zO ((ra A a).getD x.toNat none) :: st) A K := zx_aald z70 dX0_redexAt_18 rfl h h0 h1
theorem s70_19 : zX d 70 19 [v0, v1, v2, v3, v4, v5] (zO o :: st) A K = zX d 70 20 [v0, v1, v2, zO o, v4, v5] st A K := zx_astore_n z70 dX0_redexAt_19 (Nat.le_of_ble_eq_true rfl) rfl rfl
theorem s70_20 : zX d 70 20 ls st A K = zX d 70 21 ls (zI 0 :: st) A K := zx_const z70 dX0_redexAt_20 (by decide) rfl
theorem s70_21 : zX d 70 21 [v0, v1, v2, v3, v4, v5] (zI x :: st) A K = zX d 70 23 [v0, v1, v2, v3, zI x, v5] st A K := zx_istore z70 dX0_redexAt_21 (Nat.le_of_ble_eq_true rfl) rfl rfl
theorem s70_23 : zX d 70 23 ls st A K = zX d 70 24 ls (zI 0 :: st) A K := zx_const z70 dX0_redexAt_23 (by decide) rfl
theorem s70_24 : zX d 70 24 [v0, v1, v2, v3, v4, v5] (zI x :: st) A K = zX d 70 26 [v0, v1, v2, v3, v4, zI x] st A K := zx_istore z70 dX0_redexAt_24 (Nat.le_of_ble_eq_true rfl) rfl rfl
theorem s70_26 : zX d 70 26 [v0, v1, v2, v3, v4, zI x] st A K = zX d 70 28 [v0, v1, v2, v3, v4, zI x] (zI x :: st) A K := zx_iload z70 dX0_redexAt_26 rfl rfl
theorem s70_28 : zX d 70 28 [v0, v1, v2, zO o, v4, v5] st A K = zX d 70 29 [v0, v1, v2, zO o, v4, v5] (zO o :: st) A K := zx_aload_n z70 dX0_redexAt_28 rfl rfl
theorem s70_29 (h : tg A a = 4)  : zX (d + 1) 70 29 ls (zO (some a) :: [w0]) A K = zX d 108 0 [zO (some a)] [] A (zK (d + 1) 70 29 32 ls [w0] K) := zx_callV (t := 4) z70 zo70 dX0_redexAt_29 rfl C2_165 rfl rfl zm108 rfl rfl (zwt_le (Nat.le_of_ble_eq_true rfl)) rfl h
theorem s70_32 : zX d 70 32 ls (zI y :: zI x :: st) A K = (if y ≤ x then zX d 70 63 ls st A K else zX d 70 35 ls st A K) := zx_ic_ge z70 dX0_redexAt_32 rfl rfl
theorem s70_35 : zX d 70 35 [zO o, v1, v2, v3, v4, v5] st A K = zX d 70 36 [zO o, v1, v2, v3, v4, v5] (zO o :: st) A K := zx_aload_n z70 dX0_redexAt_35 rfl rfl
theorem s70_36 : zX d 70 36 [v0, v1, v2, zO o, v4, v5] st A K = zX d 70 37 [v0, v1, v2, zO o, v4, v5] (zO o :: st) A K := zx_aload_n z70 dX0_redexAt_36 rfl rfl
theorem s70_37 : zX d 70 37 [v0, v1, v2, v3, v4, zI x] st A K = zX d 70 39 [v0, v1, v2, v3, v4, zI x] (zI x :: st) A K := zx_iload z70 dX0_redexAt_37 rfl rfl
theorem s70_39 (h : tg A a = 1)  : zX (d + 1) 70 39 ls (zI i1 :: zO o0 :: zO (some a) :: []) A K = zX d 68 0 [zO (some a), zO o0, zI i1] [] A (zK (d + 1) 70 39 42 ls [] K) := zx_callV (t := 1) z70 zo70 dX0_redexAt_39 rfl C2_385 rfl rfl zm68 rfl rfl (zwt_le (Nat.le_of_ble_eq_true rfl)) rfl h
theorem s70_42 : zX d 70 42 ls (zI x :: st) A K = (if x = 0 then zX d 70 57 ls st A K else zX d 70 45 ls st A K) := zx_if_eq z70 dX0_redexAt_42 rfl rfl
theorem s70_45 : zX d 70 45 [v0, v1, v2, v3, zI x, v5] st A K = zX d 70 47 [v0, v1, v2, v3, zI x, v5] (zI x :: st) A K := zx_iload z70 dX0_redexAt_45 rfl rfl
theorem s70_47 : zX d 70 47 [v0, v1, zI x, v3, v4, v5] st A K = zX d 70 48 [v0, v1, zI x, v3, v4, v5] (zI x :: st) A K := zx_iload_n z70 dX0_redexAt_47 rfl rfl
theorem s70_48 : zX d 70 48 ls (zI y :: zI x :: st) A K = (if x ≠ y then zX d 70 54 ls st A K else zX d 70 51 ls st A K) := zx_ic_ne z70 dX0_redexAt_48 rfl rfl
theorem s70_51 : zX d 70 51 [v0, v1, v2, v3, v4, zI x] st A K = zX d 70 53 [v0, v1, v2, v3, v4, zI x] (zI x :: st) A K := zx_iload z70 dX0_redexAt_51 rfl rfl
theorem s70_53 : zX d 70 53 ls [zI x] A K = K (Sum.inl (some (zI x))) A := zx_iret z70 dX0_redexAt_53 zk70 rfl
theorem s70_54 : zX d 70 54 [v0, v1, v2, v3, zI x, v5] st A K = zX d 70 57 [v0, v1, v2, v3, zI (zw (x + 1)), v5] st A K := zx_iinc z70 dX0_redexAt_54 rfl rfl rfl
theorem s70_57 : zX d 70 57 [v0, v1, v2, v3, v4, zI x] st A K = zX d 70 60 [v0, v1, v2, v3, v4, zI (zw (x + 1))] st A K := zx_iinc z70 dX0_redexAt_57 rfl rfl rfl
theorem s70_60 : zX d 70 60 ls st A K = zX d 70 26 ls st A K := zx_goto z70 dX0_redexAt_60 rfl
theorem s70_63 : zX d 70 63 ls st A K = zX d 70 65 ls (zI (-5) :: st) A K := zx_bipush z70 dX0_redexAt_63 (by decide) rfl
theorem s70_65 : zX d 70 65 ls [zI x] A K = K (Sum.inl (some (zI x))) A := zx_iret z70 dX0_redexAt_65 zk70 rfl
theorem s71_0 : zX d 71 0 [zO o, v1, v2, v3] st A K = zX d 71 1 [zO o, v1, v2, v3] (zO o :: st) A K := zx_aload_n z71 dX0_rewriteAt_0 rfl rfl
theorem s71_1 : zX d 71 1 [v0, zI x, v2, v3] st A K = zX d 71 2 [v0, zI x, v2, v3] (zI x :: st) A K := zx_iload_n z71 dX0_rewriteAt_1 rfl rfl
theorem s71_2 : zX d 71 2 [v0, v1, zI x, v3] st A K = zX d 71 3 [v0, v1, zI x, v3] (zI x :: st) A K := zx_iload_n z71 dX0_rewriteAt_2 rfl rfl
theorem s71_3 (h : tg A a = 1)  : zX (d + 1) 71 3 ls (zI i1 :: zI i0 :: zO (some a) :: []) A K = zX d 65 0 [zO (some a), zI i0, zI i1] [] A (zK (d + 1) 71 3 6 ls [] K) := zx_callV (t := 1) z71 zo71 dX0_rewriteAt_3 rfl C2_436 rfl rfl zm65 rfl rfl (zwt_le (Nat.le_of_ble_eq_true rfl)) rfl h
theorem s71_6 : zX d 71 6 ls (zI x :: st) A K = (if x ≠ 0 then zX d 71 11 ls st A K else zX d 71 9 ls st A K) := zx_if_ne z71 dX0_rewriteAt_6 rfl rfl
theorem s71_9 : zX d 71 9 ls st A K = zX d 71 10 ls (zI (-1) :: st) A K := zx_const z71 dX0_rewriteAt_9 (by decide) rfl
theorem s71_10 : zX d 71 10 ls [zI x] A K = K (Sum.inl (some (zI x))) A := zx_iret z71 dX0_rewriteAt_10 zk71 rfl
theorem s71_11 : zX d 71 11 [zO o, v1, v2, v3] st A K = zX d 71 12 [zO o, v1, v2, v3] (zO o :: st) A K := zx_aload_n z71 dX0_rewriteAt_11 rfl rfl
theorem s71_12 : zX d 71 12 [zO o, v1, v2, v3] st A K = zX d 71 13 [zO o, v1, v2, v3] (zO o :: st) A K := zx_aload_n z71 dX0_rewriteAt_12 rfl rfl
theorem s71_13 (h : tg A a = 1) : zX d 71 13 ls (zO (some a) :: st) A K = zX d 71 16 ls (fd A a 3 :: st) A K := zx_getf z71 zo71 dX0_rewriteAt_13 F2_21 rfl h
theorem s71_16 : zX d 71 16 [v0, zI x, v2, v3] st A K = zX d 71 17 [v0, zI x, v2, v3] (zI x :: st) A K := zx_iload_n z71 dX0_rewriteAt_16 rfl rfl
theorem s71_17 (h : zarr (tg A a) = 3) (h0 : 0 ≤ x) (h1 : x.toNat < (ra A a).length) : zX d 71 17 ls (zI x :: zO (some a) :: st) A K = zX d 71 18 ls (zO ((ra A a).getD x.toNat none) :: st) A K := zx_aald z71 dX0_rewriteAt_17 rfl h h0 h1
theorem s71_18 : zX d 71 18 [v0, v1, zI x, v3] st A K = zX d 71 19 [v0, v1, zI x, v3] (zI x :: st) A K := zx_iload_n z71 dX0_rewriteAt_18 rfl rfl
theorem s71_19 (h : tg A a = 1)  : zX (d + 1) 71 19 ls (zI i1 :: zO o0 :: zO (some a) :: []) A K = zX d 68 0 [zO (some a), zO o0, zI i1] [] A (zK (d + 1) 71 19 22 ls [] K) := zx_callV (t := 1) z71 zo71 dX0_rewriteAt_19 rfl C2_385 rfl rfl zm68 rfl rfl (zwt_le (Nat.le_of_ble_eq_true rfl)) rfl h
theorem s71_22 : zX d 71 22 ls (zI x :: st) A K = (if x ≠ 0 then zX d 71 28 ls st A K else zX d 71 25 ls st A K) := zx_if_ne z71 dX0_rewriteAt_22 rfl rfl
theorem s71_25 : zX d 71 25 ls st A K = zX d 71 27 ls (zI (-5) :: st) A K := zx_bipush z71 dX0_rewriteAt_25 (by decide) rfl
theorem s71_27 : zX d 71 27 ls [zI x] A K = K (Sum.inl (some (zI x))) A := zx_iret z71 dX0_rewriteAt_27 zk71 rfl
theorem s71_28 : zX d 71 28 [zO o, v1, v2, v3] st A K = zX d 71 29 [zO o, v1, v2, v3] (zO o :: st) A K := zx_aload_n z71 dX0_rewriteAt_28 rfl rfl
theorem s71_29 : zX d 71 29 [zO o, v1, v2, v3] st A K = zX d 71 30 [zO o, v1, v2, v3] (zO o :: st) A K := zx_aload_n z71 dX0_rewriteAt_29 rfl rfl
theorem s71_30 (h : tg A a = 1) : zX d 71 30 ls (zO (some a) :: st) A K = zX d 71 33 ls (fd A a 3 :: st) A K := zx_getf z71 zo71 dX0_rewriteAt_30 F2_21 rfl h
theorem s71_33 : zX d 71 33 [v0, zI x, v2, v3] st A K = zX d 71 34 [v0, zI x, v2, v3] (zI x :: st) A K := zx_iload_n z71 dX0_rewriteAt_33 rfl rfl
theorem s71_34 (h : zarr (tg A a) = 3) (h0 : 0 ≤ x) (h1 : x.toNat < (ra A a).length) : zX d 71 34 ls (zI x :: zO (some a) :: st) A K = zX d 71 35 ls (zO ((ra A a).getD x.toNat none) :: st) A K := zx_aald z71 dX0_rewriteAt_34 rfl h h0 h1
theorem s71_35 : zX d 71 35 [v0, v1, zI x, v3] st A K = zX d 71 36 [v0, v1, zI x, v3] (zI x :: st) A K := zx_iload_n z71 dX0_rewriteAt_35 rfl rfl
theorem s71_36 (h : tg A a = 1)  : zX (d + 1) 71 36 ls (zI i1 :: zO o0 :: zO (some a) :: []) A K = zX d 72 0 [zO (some a), zO o0, zI i1, zU, zU, zU] [] A (zK (d + 1) 71 36 39 ls [] K) := zx_callV (t := 1) z71 zo71 dX0_rewriteAt_36 rfl C2_404 rfl rfl zm72 rfl rfl (zwt_le (Nat.le_of_ble_eq_true rfl)) rfl h
theorem s71_39 : zX d 71 39 [v0, v1, v2, v3] (zO o :: st) A K = zX d 71 40 [v0, v1, v2, zO o] st A K := zx_astore_n z71 dX0_rewriteAt_39 (Nat.le_of_ble_eq_true rfl) rfl rfl
theorem s71_40 : zX d 71 40 [v0, v1, v2, zO o] st A K = zX d 71 41 [v0, v1, v2, zO o] (zO o :: st) A K := zx_aload_n z71 dX0_rewriteAt_40 rfl rfl
theorem s71_41 : zX d 71 41 ls (zO o :: st) A K = (if o ≠ none then zX d 71 49 ls st A K else zX d 71 44 ls st A K) := zx_ifnonnull z71 dX0_rewriteAt_41 rfl rfl
theorem s71_44 : zX d 71 44 ls st A K = zX d 71 46 ls (zI (-8) :: st) A K := zx_bipush z71 dX0_rewriteAt_44 (by decide) rfl
theorem s71_46 : zX d 71 46 ls st A K = zX d 71 55 ls st A K := zx_goto z71 dX0_rewriteAt_46 rfl
theorem s71_49 : zX d 71 49 [zO o, v1, v2, v3] st A K = zX d 71 50 [zO o, v1, v2, v3] (zO o :: st) A K := zx_aload_n z71 dX0_rewriteAt_49 rfl rfl
theorem s71_50 : zX d 71 50 [v0, v1, v2, zO o] st A K = zX d 71 51 [v0, v1, v2, zO o] (zO o :: st) A K := zx_aload_n z71 dX0_rewriteAt_50 rfl rfl
theorem s71_51 : zX d 71 51 [v0, zI x, v2, v3] st A K = zX d 71 52 [v0, zI x, v2, v3] (zI x :: st) A K := zx_iload_n z71 dX0_rewriteAt_51 rfl rfl
theorem s71_52 (h : tg A a = 1)  : zX (d + 1) 71 52 ls (zI i1 :: zO o0 :: zO (some a) :: []) A K = zX d 55 0 [zO (some a), zO o0, zI i1] [] A (zK (d + 1) 71 52 55 ls [] K) := zx_callV (t := 1) z71 zo71 dX0_rewriteAt_52 rfl C2_414 rfl rfl zm55 rfl rfl (zwt_le (Nat.le_of_ble_eq_true rfl)) rfl h
theorem s71_55 : zX d 71 55 ls [zI x] A K = K (Sum.inl (some (zI x))) A := zx_iret z71 dX0_rewriteAt_55 zk71 rfl
theorem s72_0 : zX d 72 0 [zO o, v1, v2, v3, v4, v5] st A K = zX d 72 1 [zO o, v1, v2, v3, v4, v5] (zO o :: st) A K := zx_aload_n z72 dX0_rewritten_0 rfl rfl
theorem s72_1 (h : tg A a = 1) : zX d 72 1 ls (zO (some a) :: st) A K = zX d 72 4 ls (fd A a 1 :: st) A K := zx_getf z72 zo72 dX0_rewritten_1 F2_15 rfl h
theorem s72_4 : zX d 72 4 [zO o, v1, v2, v3, v4, v5] st A K = zX d 72 5 [zO o, v1, v2, v3, v4, v5] (zO o :: st) A K := zx_aload_n z72 dX0_rewritten_4 rfl rfl
theorem s72_5 : zX d 72 5 [v0, zO o, v2, v3, v4, v5] st A K = zX d 72 6 [v0, zO o, v2, v3, v4, v5] (zO o :: st) A K := zx_aload_n z72 dX0_rewritten_5 rfl rfl
theorem s72_6 : zX d 72 6 [v0, v1, zI x, v3, v4, v5] st A K = zX d 72 7 [v0, v1, zI x, v3, v4, v5] (zI x :: st) A K := zx_iload_n z72 dX0_rewritten_6 rfl rfl
theorem s72_7 (h : tg A a = 1)  : zX (d + 1) 72 7 ls (zI i1 :: zO o0 :: zO (some a) :: [w0]) A K = zX d 69 0 [zO (some a), zO o0, zI i1, zU] [] A (zK (d + 1) 72 7 10 ls [w0] K) := zx_callV (t := 1) z72 zo72 dX0_rewritten_7 rfl C2_381 rfl rfl zm69 rfl rfl (zwt_le (Nat.le_of_ble_eq_true rfl)) rfl h
theorem s72_10 (h : zarr (tg A a) = 3) (h0 : 0 ≤ x) (h1 : x.toNat < (ra A a).length) : zX d 72 10 ls (zI x :: zO (some a) :: st) A K = zX d 72 11 ls (zO ((ra A a).getD x.toNat none) :: st) A K := zx_aald z72 dX0_rewritten_10 rfl h h0 h1
theorem s72_11 (h : tg A a = 6) : zX d 72 11 ls (zO (some a) :: st) A K = zX d 72 14 ls (fd A a 1 :: st) A K := zx_getf z72 zo72 dX0_rewritten_11 F2_161 rfl h
theorem s72_14 : zX d 72 14 [v0, v1, v2, v3, v4, v5] (zO o :: st) A K = zX d 72 15 [v0, v1, v2, zO o, v4, v5] st A K := zx_astore_n z72 dX0_rewritten_14 (Nat.le_of_ble_eq_true rfl) rfl rfl
theorem s72_15 : zX d 72 15 [v0, zO o, v2, v3, v4, v5] st A K = zX d 72 16 [v0, zO o, v2, v3, v4, v5] (zO o :: st) A K := zx_aload_n z72 dX0_rewritten_15 rfl rfl
theorem s72_16 (h : tg A a = 4)  : zX (d + 1) 72 16 ls (zO (some a) :: []) A K = zX d 108 0 [zO (some a)] [] A (zK (d + 1) 72 16 19 ls [] K) := zx_callV (t := 4) z72 zo72 dX0_rewritten_16 rfl C2_165 rfl rfl zm108 rfl rfl (zwt_le (Nat.le_of_ble_eq_true rfl)) rfl h
theorem s72_19 : zX d 72 19 [v0, zO o, v2, v3, v4, v5] st A K = zX d 72 20 [v0, zO o, v2, v3, v4, v5] (zO o :: st) A K := zx_aload_n z72 dX0_rewritten_19 rfl rfl
theorem s72_20 : zX d 72 20 [v0, v1, zI x, v3, v4, v5] st A K = zX d 72 21 [v0, v1, zI x, v3, v4, v5] (zI x :: st) A K := zx_iload_n z72 dX0_rewritten_20 rfl rfl
theorem s72_21 (h : tg A a = 4)  : zX (d + 1) 72 21 ls (zI i0 :: zO (some a) :: [w0]) A K = zX d 113 0 [zO (some a), zI i0] [] A (zK (d + 1) 72 21 24 ls [w0] K) := zx_callV (t := 4) z72 zo72 dX0_rewritten_21 rfl C2_393 rfl rfl zm113 rfl rfl (zwt_le (Nat.le_of_ble_eq_true rfl)) rfl h
theorem s72_24 : zX d 72 24 ls (zI y :: zI x :: st) A K = zX d 72 25 ls (zI (zw (x - y)) :: st) A K := zx_isub z72 dX0_rewritten_24 rfl
theorem s72_25 : zX d 72 25 [zO o, v1, v2, v3, v4, v5] st A K = zX d 72 26 [zO o, v1, v2, v3, v4, v5] (zO o :: st) A K := zx_aload_n z72 dX0_rewritten_25 rfl rfl
theorem s72_26 : zX d 72 26 [v0, v1, v2, zO o, v4, v5] st A K = zX d 72 27 [v0, v1, v2, zO o, v4, v5] (zO o :: st) A K := zx_aload_n z72 dX0_rewritten_26 rfl rfl
theorem s72_27 : zX d 72 27 [v0, zO o, v2, v3, v4, v5] st A K = zX d 72 28 [v0, zO o, v2, v3, v4, v5] (zO o :: st) A K := zx_aload_n z72 dX0_rewritten_27 rfl rfl
theorem s72_28 (h : tg A a = 1)  : zX (d + 1) 72 28 ls (zO o1 :: zO o0 :: zO (some a) :: [w0]) A K = zX d 73 0 [zO (some a), zO o0, zO o1, zU, zU] [] A (zK (d + 1) 72 28 31 ls [w0] K) := zx_callV (t := 1) z72 zo72 dX0_rewritten_28 rfl C2_396 rfl rfl zm73 rfl rfl (zwt_le (Nat.le_of_ble_eq_true rfl)) rfl h
theorem s72_31 : zX d 72 31 ls (zI y :: zI x :: st) A K = zX d 72 32 ls (zI (zw (x + y)) :: st) A K := zx_iadd z72 dX0_rewritten_31 rfl
theorem s72_32 : zX d 72 32 ls st A K = zX d 72 34 ls (zI (40) :: st) A K := zx_bipush z72 dX0_rewritten_32 (by decide) rfl
theorem s72_34 : zX d 72 34 ls (zI y :: zI x :: st) A K = (if x ≤ y then zX d 72 39 ls st A K else zX d 72 37 ls st A K) := zx_ic_le z72 dX0_rewritten_34 rfl rfl
theorem s72_37 : zX d 72 37 ls st A K = zX d 72 38 ls (zO none :: st) A K := zx_null z72 dX0_rewritten_37 rfl
theorem s72_38 : zX d 72 38 ls [zO o] A K = K (Sum.inl (some (zO o))) A := zx_aret z72 dX0_rewritten_38 rfl
theorem s72_39 : zX d 72 39 [zO o, v1, v2, v3, v4, v5] st A K = zX d 72 40 [zO o, v1, v2, v3, v4, v5] (zO o :: st) A K := zx_aload_n z72 dX0_rewritten_39 rfl rfl
theorem s72_40 : zX d 72 40 ls st A K = zX d 72 41 ls (zI 0 :: st) A K := zx_const z72 dX0_rewritten_40 (by decide) rfl
theorem s72_41 (h : tg A a = 1) : zX d 72 41 ls (zI x :: zO (some a) :: st) A K = zX d 72 44 ls st (pF A a 5 (zI x)) K := zx_putf (q := 0) z72 zo72 dX0_rewritten_41 F2_121 rfl rfl rfl h rfl
theorem s72_44 : zX d 72 44 [zO o, v1, v2, v3, v4, v5] st A K = zX d 72 45 [zO o, v1, v2, v3, v4, v5] (zO o :: st) A K := zx_aload_n z72 dX0_rewritten_44 rfl rfl
theorem s72_45 : zX d 72 45 [v0, zO o, v2, v3, v4, v5] st A K = zX d 72 46 [v0, zO o, v2, v3, v4, v5] (zO o :: st) A K := zx_aload_n z72 dX0_rewritten_45 rfl rfl
theorem s72_46 : zX d 72 46 ls st A K = zX d 72 47 ls (zI 0 :: st) A K := zx_const z72 dX0_rewritten_46 (by decide) rfl
theorem s72_47 : zX d 72 47 [v0, v1, zI x, v3, v4, v5] st A K = zX d 72 48 [v0, v1, zI x, v3, v4, v5] (zI x :: st) A K := zx_iload_n z72 dX0_rewritten_47 rfl rfl
theorem s72_48 (h : tg A a = 1)  : zX (d + 1) 72 48 ls (zI i2 :: zI i1 :: zO o0 :: zO (some a) :: []) A K = zX d 74 0 [zO (some a), zO o0, zI i1, zI i2] [] A (zK (d + 1) 72 48 51 ls [] K) := zx_callV (t := 1) z72 zo72 dX0_rewritten_48 rfl C2_400 rfl rfl zm74 rfl rfl (zwt_le (Nat.le_of_ble_eq_true rfl)) rfl h
theorem s72_51 : zX d 72 51 ls st A K = zX d 72 52 ls (zI 0 :: st) A K := zx_const z72 dX0_rewritten_51 (by decide) rfl
theorem s72_52 : zX d 72 52 [v0, v1, v2, v3, v4, v5] (zI x :: st) A K = zX d 72 54 [v0, v1, v2, v3, zI x, v5] st A K := zx_istore z72 dX0_rewritten_52 (Nat.le_of_ble_eq_true rfl) rfl rfl
theorem s72_54 : zX d 72 54 [v0, v1, v2, v3, zI x, v5] st A K = zX d 72 56 [v0, v1, v2, v3, zI x, v5] (zI x :: st) A K := zx_iload z72 dX0_rewritten_54 rfl rfl
theorem s72_56 : zX d 72 56 [v0, v1, v2, zO o, v4, v5] st A K = zX d 72 57 [v0, v1, v2, zO o, v4, v5] (zO o :: st) A K := zx_aload_n z72 dX0_rewritten_56 rfl rfl
theorem s72_57 (h : tg A a = 4)  : zX (d + 1) 72 57 ls (zO (some a) :: [w0]) A K = zX d 108 0 [zO (some a)] [] A (zK (d + 1) 72 57 60 ls [w0] K) := zx_callV (t := 4) z72 zo72 dX0_rewritten_57 rfl C2_165 rfl rfl zm108 rfl rfl (zwt_le (Nat.le_of_ble_eq_true rfl)) rfl h
theorem s72_60 : zX d 72 60 ls (zI y :: zI x :: st) A K = (if y ≤ x then zX d 72 123 ls st A K else zX d 72 63 ls st A K) := zx_ic_ge z72 dX0_rewritten_60 rfl rfl
theorem s72_63 : zX d 72 63 [v0, v1, v2, zO o, v4, v5] st A K = zX d 72 64 [v0, v1, v2, zO o, v4, v5] (zO o :: st) A K := zx_aload_n z72 dX0_rewritten_63 rfl rfl
theorem s72_64 : zX d 72 64 [v0, v1, v2, v3, zI x, v5] st A K = zX d 72 66 [v0, v1, v2, v3, zI x, v5] (zI x :: st) A K := zx_iload z72 dX0_rewritten_64 rfl rfl
theorem s72_66 (h : tg A a = 4)  : zX (d + 1) 72 66 ls (zI i0 :: zO (some a) :: []) A K = zX d 110 0 [zO (some a), zI i0] [] A (zK (d + 1) 72 66 69 ls [] K) := zx_callV (t := 4) z72 zo72 dX0_rewritten_66 rfl C2_169 rfl rfl zm110 rfl rfl (zwt_le (Nat.le_of_ble_eq_true rfl)) rfl h
theorem s72_69 : zX d 72 69 ls (zI x :: st) A K = (if x = 0 then zX d 72 106 ls st A K else zX d 72 72 ls st A K) := zx_if_eq z72 dX0_rewritten_69 rfl rfl
theorem s72_72 : zX d 72 72 [zO o, v1, v2, v3, v4, v5] st A K = zX d 72 73 [zO o, v1, v2, v3, v4, v5] (zO o :: st) A K := zx_aload_n z72 dX0_rewritten_72 rfl rfl
theorem s72_73 (h : tg A a = 1) : zX d 72 73 ls (zO (some a) :: st) A K = zX d 72 76 ls (fd A a 25 :: st) A K := zx_getf z72 zo72 dX0_rewritten_73 F2_99 rfl h
theorem s72_76 : zX d 72 76 [v0, v1, v2, zO o, v4, v5] st A K = zX d 72 77 [v0, v1, v2, zO o, v4, v5] (zO o :: st) A K := zx_aload_n z72 dX0_rewritten_76 rfl rfl
theorem s72_77 (h : tg A a = 4) : zX d 72 77 ls (zO (some a) :: st) A K = zX d 72 80 ls (fd A a 0 :: st) A K := zx_getf z72 zo72 dX0_rewritten_77 F2_204 rfl h
theorem s72_80 : zX d 72 80 [v0, v1, v2, v3, zI x, v5] st A K = zX d 72 82 [v0, v1, v2, v3, zI x, v5] (zI x :: st) A K := zx_iload z72 dX0_rewritten_80 rfl rfl
theorem s72_82 (h : tg A a = 21) (h0 : 0 ≤ x) (h1 : x.toNat < (ia A a).length) : zX d 72 82 ls (zI x :: zO (some a) :: st) A K = zX d 72 83 ls (zI ((ia A a).getD x.toNat 0) :: st) A K := zx_bald z72 dX0_rewritten_82 rfl h h0 h1
theorem s72_82z (h : tg A a = 22) (h0 : 0 ≤ x) (h1 : x.toNat < (ia A a).length) : zX d 72 82 ls (zI x :: zO (some a) :: st) A K = zX d 72 83 ls (zI ((ia A a).getD x.toNat 0) :: st) A K := zx_zald z72 dX0_rewritten_82 rfl h h0 h1
theorem s72_83 : zX d 72 83 ls st A K = zX d 72 85 ls (zI (119) :: st) A K := zx_bipush z72 dX0_rewritten_83 (by decide) rfl
theorem s72_85 : zX d 72 85 ls (zI y :: zI x :: st) A K = zX d 72 86 ls (zI (zw (x - y)) :: st) A K := zx_isub z72 dX0_rewritten_85 rfl
theorem s72_86 (h : tg A a = 20) (h0 : 0 ≤ x) (h1 : x.toNat < (ia A a).length) : zX d 72 86 ls (zI x :: zO (some a) :: st) A K = zX d 72 87 ls (zI ((ia A a).getD x.toNat 0) :: st) A K := zx_iald z72 dX0_rewritten_86 rfl h h0 h1
theorem s72_86s (h : tg A a = 30) (h0 : 0 ≤ x) (h1 : x.toNat < (ia A a).length) : zX d 72 86 ls (zI x :: zO (some a) :: st) A K = zX d 72 87 ls (zI ((ia A a).getD x.toNat 0) :: st) A K := zx_sald z72 dX0_rewritten_86 rfl h h0 h1
theorem s72_87 : zX d 72 87 [v0, v1, v2, v3, v4, v5] (zI x :: st) A K = zX d 72 89 [v0, v1, v2, v3, v4, zI x] st A K := zx_istore z72 dX0_rewritten_87 (Nat.le_of_ble_eq_true rfl) rfl rfl
theorem s72_89 : zX d 72 89 [zO o, v1, v2, v3, v4, v5] st A K = zX d 72 90 [zO o, v1, v2, v3, v4, v5] (zO o :: st) A K := zx_aload_n z72 dX0_rewritten_89 rfl rfl
theorem s72_90 : zX d 72 90 [v0, zO o, v2, v3, v4, v5] st A K = zX d 72 91 [v0, zO o, v2, v3, v4, v5] (zO o :: st) A K := zx_aload_n z72 dX0_rewritten_90 rfl rfl
theorem s72_91 : zX d 72 91 [v0, v1, v2, v3, v4, zI x] st A K = zX d 72 93 [v0, v1, v2, v3, v4, zI x] (zI x :: st) A K := zx_iload z72 dX0_rewritten_91 rfl rfl
theorem s72_93 : zX d 72 93 [v0, zO o, v2, v3, v4, v5] st A K = zX d 72 94 [v0, zO o, v2, v3, v4, v5] (zO o :: st) A K := zx_aload_n z72 dX0_rewritten_93 rfl rfl
theorem s72_94 (h : tg A a = 4) : zX d 72 94 ls (zO (some a) :: st) A K = zX d 72 97 ls (fd A a 1 :: st) A K := zx_getf z72 zo72 dX0_rewritten_94 F2_201 rfl h
theorem s72_97 : zX d 72 97 [v0, v1, v2, v3, v4, zI x] st A K = zX d 72 99 [v0, v1, v2, v3, v4, zI x] (zI x :: st) A K := zx_iload z72 dX0_rewritten_97 rfl rfl
theorem s72_99 (h : tg A a = 20) (h0 : 0 ≤ x) (h1 : x.toNat < (ia A a).length) : zX d 72 99 ls (zI x :: zO (some a) :: st) A K = zX d 72 100 ls (zI ((ia A a).getD x.toNat 0) :: st) A K := zx_iald z72 dX0_rewritten_99 rfl h h0 h1
theorem s72_99s (h : tg A a = 30) (h0 : 0 ≤ x) (h1 : x.toNat < (ia A a).length) : zX d 72 99 ls (zI x :: zO (some a) :: st) A K = zX d 72 100 ls (zI ((ia A a).getD x.toNat 0) :: st) A K := zx_sald z72 dX0_rewritten_99 rfl h h0 h1
theorem s72_100 (h : tg A a = 1)  : zX (d + 1) 72 100 ls (zI i2 :: zI i1 :: zO o0 :: zO (some a) :: []) A K = zX d 74 0 [zO (some a), zO o0, zI i1, zI i2] [] A (zK (d + 1) 72 100 103 ls [] K) := zx_callV (t := 1) z72 zo72 dX0_rewritten_100 rfl C2_400 rfl rfl zm74 rfl rfl (zwt_le (Nat.le_of_ble_eq_true rfl)) rfl h
theorem s72_103 : zX d 72 103 ls st A K = zX d 72 117 ls st A K := zx_goto z72 dX0_rewritten_103 rfl
theorem s72_106 : zX d 72 106 [zO o, v1, v2, v3, v4, v5] st A K = zX d 72 107 [zO o, v1, v2, v3, v4, v5] (zO o :: st) A K := zx_aload_n z72 dX0_rewritten_106 rfl rfl
theorem s72_107 : zX d 72 107 [v0, v1, v2, zO o, v4, v5] st A K = zX d 72 108 [v0, v1, v2, zO o, v4, v5] (zO o :: st) A K := zx_aload_n z72 dX0_rewritten_107 rfl rfl
theorem s72_108 (h : tg A a = 4) : zX d 72 108 ls (zO (some a) :: st) A K = zX d 72 111 ls (fd A a 0 :: st) A K := zx_getf z72 zo72 dX0_rewritten_108 F2_204 rfl h
theorem s72_111 : zX d 72 111 [v0, v1, v2, v3, zI x, v5] st A K = zX d 72 113 [v0, v1, v2, v3, zI x, v5] (zI x :: st) A K := zx_iload z72 dX0_rewritten_111 rfl rfl
theorem s72_113 (h : tg A a = 21) (h0 : 0 ≤ x) (h1 : x.toNat < (ia A a).length) : zX d 72 113 ls (zI x :: zO (some a) :: st) A K = zX d 72 114 ls (zI ((ia A a).getD x.toNat 0) :: st) A K := zx_bald z72 dX0_rewritten_113 rfl h h0 h1
theorem s72_113z (h : tg A a = 22) (h0 : 0 ≤ x) (h1 : x.toNat < (ia A a).length) : zX d 72 113 ls (zI x :: zO (some a) :: st) A K = zX d 72 114 ls (zI ((ia A a).getD x.toNat 0) :: st) A K := zx_zald z72 dX0_rewritten_113 rfl h h0 h1
theorem s72_114 (h : tg A a = 1)  : zX (d + 1) 72 114 ls (zI i0 :: zO (some a) :: []) A K = zX d 3 0 [zO (some a), zI i0] [] A (zK (d + 1) 72 114 117 ls [] K) := zx_callV (t := 1) z72 zo72 dX0_rewritten_114 rfl C2_125 rfl rfl zm3 rfl rfl (zwt_le (Nat.le_of_ble_eq_true rfl)) rfl h
theorem s72_117 : zX d 72 117 [v0, v1, v2, v3, zI x, v5] st A K = zX d 72 120 [v0, v1, v2, v3, zI (zw (x + 1)), v5] st A K := zx_iinc z72 dX0_rewritten_117 rfl rfl rfl
theorem s72_120 : zX d 72 120 ls st A K = zX d 72 54 ls st A K := zx_goto z72 dX0_rewritten_120 rfl
theorem s72_123 : zX d 72 123 [zO o, v1, v2, v3, v4, v5] st A K = zX d 72 124 [zO o, v1, v2, v3, v4, v5] (zO o :: st) A K := zx_aload_n z72 dX0_rewritten_123 rfl rfl
theorem s72_124 : zX d 72 124 [v0, zO o, v2, v3, v4, v5] st A K = zX d 72 125 [v0, zO o, v2, v3, v4, v5] (zO o :: st) A K := zx_aload_n z72 dX0_rewritten_124 rfl rfl
theorem s72_125 : zX d 72 125 [v0, zO o, v2, v3, v4, v5] st A K = zX d 72 126 [v0, zO o, v2, v3, v4, v5] (zO o :: st) A K := zx_aload_n z72 dX0_rewritten_125 rfl rfl
theorem s72_126 (h : tg A a = 4) : zX d 72 126 ls (zO (some a) :: st) A K = zX d 72 129 ls (fd A a 1 :: st) A K := zx_getf z72 zo72 dX0_rewritten_126 F2_201 rfl h
theorem s72_129 : zX d 72 129 [v0, v1, zI x, v3, v4, v5] st A K = zX d 72 130 [v0, v1, zI x, v3, v4, v5] (zI x :: st) A K := zx_iload_n z72 dX0_rewritten_129 rfl rfl
theorem s72_130 (h : tg A a = 20) (h0 : 0 ≤ x) (h1 : x.toNat < (ia A a).length) : zX d 72 130 ls (zI x :: zO (some a) :: st) A K = zX d 72 131 ls (zI ((ia A a).getD x.toNat 0) :: st) A K := zx_iald z72 dX0_rewritten_130 rfl h h0 h1
theorem s72_130s (h : tg A a = 30) (h0 : 0 ≤ x) (h1 : x.toNat < (ia A a).length) : zX d 72 130 ls (zI x :: zO (some a) :: st) A K = zX d 72 131 ls (zI ((ia A a).getD x.toNat 0) :: st) A K := zx_sald z72 dX0_rewritten_130 rfl h h0 h1
theorem s72_131 : zX d 72 131 [v0, zO o, v2, v3, v4, v5] st A K = zX d 72 132 [v0, zO o, v2, v3, v4, v5] (zO o :: st) A K := zx_aload_n z72 dX0_rewritten_131 rfl rfl
theorem s72_132 (h : tg A a = 4)  : zX (d + 1) 72 132 ls (zO (some a) :: [w0, w1, w2]) A K = zX d 108 0 [zO (some a)] [] A (zK (d + 1) 72 132 135 ls [w0, w1, w2] K) := zx_callV (t := 4) z72 zo72 dX0_rewritten_132 rfl C2_165 rfl rfl zm108 rfl rfl (zwt_le (Nat.le_of_ble_eq_true rfl)) rfl h
theorem s72_135 (h : tg A a = 1)  : zX (d + 1) 72 135 ls (zI i2 :: zI i1 :: zO o0 :: zO (some a) :: []) A K = zX d 74 0 [zO (some a), zO o0, zI i1, zI i2] [] A (zK (d + 1) 72 135 138 ls [] K) := zx_callV (t := 1) z72 zo72 dX0_rewritten_135 rfl C2_400 rfl rfl zm74 rfl rfl (zwt_le (Nat.le_of_ble_eq_true rfl)) rfl h
theorem s72_138 : zX d 72 138 ls st A K = zX d 72 141 ls (zO (some (nx A)) :: st) (nO A 4) K := zx_new z72 zo72 dX0_rewritten_138 rfl rfl
theorem s72_141 (h : zc v = true) : zX d 72 141 ls (v :: st) A K = zX d 72 142 ls (v :: v :: st) A K := zx_dup z72 dX0_rewritten_141 rfl h
theorem s72_142 : zX d 72 142 [zO o, v1, v2, v3, v4, v5] st A K = zX d 72 143 [zO o, v1, v2, v3, v4, v5] (zO o :: st) A K := zx_aload_n z72 dX0_rewritten_142 rfl rfl
theorem s72_143 (h : tg A a = 1) : zX d 72 143 ls (zO (some a) :: st) A K = zX d 72 146 ls (fd A a 4 :: st) A K := zx_getf z72 zo72 dX0_rewritten_143 F2_25 rfl h
theorem s72_146 : zX d 72 146 [zO o, v1, v2, v3, v4, v5] st A K = zX d 72 147 [zO o, v1, v2, v3, v4, v5] (zO o :: st) A K := zx_aload_n z72 dX0_rewritten_146 rfl rfl
theorem s72_147 (h : tg A a = 1) : zX d 72 147 ls (zO (some a) :: st) A K = zX d 72 150 ls (fd A a 5 :: st) A K := zx_getf z72 zo72 dX0_rewritten_147 F2_121 rfl h
theorem s72_150 : zX d 72 150 [zO o, v1, v2, v3, v4, v5] st A K = zX d 72 151 [zO o, v1, v2, v3, v4, v5] (zO o :: st) A K := zx_aload_n z72 dX0_rewritten_150 rfl rfl
theorem s72_151 (h : tg A a = 1) : zX d 72 151 ls (zO (some a) :: st) A K = zX d 72 154 ls (fd A a 0 :: st) A K := zx_getf z72 zo72 dX0_rewritten_151 F2_7 rfl h
theorem s72_154 : zX (d + 1) 72 154 ls (zO o2 :: zI i1 :: zO o0 :: zO (some a) :: [w0]) A K = zX d 104 0 [zO (some a), zO o0, zI i1, zO o2, zU, zU] [] A (zK (d + 1) 72 154 157 ls [w0] K) := zx_callI z72 zo72 dX0_rewritten_154 rfl C2_129 rfl rfl zm104 rfl rfl (zwt_le (Nat.le_of_ble_eq_true rfl)) rfl
theorem s72_157 : zX d 72 157 ls [zO o] A K = K (Sum.inl (some (zO o))) A := zx_aret z72 dX0_rewritten_157 rfl
theorem s73_0 : zX d 73 0 ls st A K = zX d 73 1 ls (zI 0 :: st) A K := zx_const z73 dX0_instanceSize_0 (by decide) rfl
theorem s73_1 : zX d 73 1 [v0, v1, v2, v3, v4] (zI x :: st) A K = zX d 73 2 [v0, v1, v2, zI x, v4] st A K := zx_istore_n z73 dX0_instanceSize_1 (Nat.le_of_ble_eq_true rfl) rfl rfl
theorem s73_2 : zX d 73 2 ls st A K = zX d 73 3 ls (zI 0 :: st) A K := zx_const z73 dX0_instanceSize_2 (by decide) rfl
theorem s73_3 : zX d 73 3 [v0, v1, v2, v3, v4] (zI x :: st) A K = zX d 73 5 [v0, v1, v2, v3, zI x] st A K := zx_istore z73 dX0_instanceSize_3 (Nat.le_of_ble_eq_true rfl) rfl rfl
theorem s73_5 : zX d 73 5 [v0, v1, v2, v3, zI x] st A K = zX d 73 7 [v0, v1, v2, v3, zI x] (zI x :: st) A K := zx_iload z73 dX0_instanceSize_5 rfl rfl
theorem s73_7 : zX d 73 7 [v0, zO o, v2, v3, v4] st A K = zX d 73 8 [v0, zO o, v2, v3, v4] (zO o :: st) A K := zx_aload_n z73 dX0_instanceSize_7 rfl rfl
theorem s73_8 (h : tg A a = 4)  : zX (d + 1) 73 8 ls (zO (some a) :: [w0]) A K = zX d 108 0 [zO (some a)] [] A (zK (d + 1) 73 8 11 ls [w0] K) := zx_callV (t := 4) z73 zo73 dX0_instanceSize_8 rfl C2_165 rfl rfl zm108 rfl rfl (zwt_le (Nat.le_of_ble_eq_true rfl)) rfl h
theorem s73_11 : zX d 73 11 ls (zI y :: zI x :: st) A K = (if y ≤ x then zX d 73 55 ls st A K else zX d 73 14 ls st A K) := zx_ic_ge z73 dX0_instanceSize_11 rfl rfl
theorem s73_14 : zX d 73 14 [v0, v1, v2, zI x, v4] st A K = zX d 73 15 [v0, v1, v2, zI x, v4] (zI x :: st) A K := zx_iload_n z73 dX0_instanceSize_14 rfl rfl
theorem s73_15 : zX d 73 15 [v0, zO o, v2, v3, v4] st A K = zX d 73 16 [v0, zO o, v2, v3, v4] (zO o :: st) A K := zx_aload_n z73 dX0_instanceSize_15 rfl rfl
theorem s73_16 : zX d 73 16 [v0, v1, v2, v3, zI x] st A K = zX d 73 18 [v0, v1, v2, v3, zI x] (zI x :: st) A K := zx_iload z73 dX0_instanceSize_16 rfl rfl
theorem s73_18 (h : tg A a = 4)  : zX (d + 1) 73 18 ls (zI i0 :: zO (some a) :: [w0]) A K = zX d 110 0 [zO (some a), zI i0] [] A (zK (d + 1) 73 18 21 ls [w0] K) := zx_callV (t := 4) z73 zo73 dX0_instanceSize_18 rfl C2_169 rfl rfl zm110 rfl rfl (zwt_le (Nat.le_of_ble_eq_true rfl)) rfl h
theorem s73_21 : zX d 73 21 ls (zI x :: st) A K = (if x = 0 then zX d 73 46 ls st A K else zX d 73 24 ls st A K) := zx_if_eq z73 dX0_instanceSize_21 rfl rfl
theorem s73_24 : zX d 73 24 [v0, v1, zO o, v3, v4] st A K = zX d 73 25 [v0, v1, zO o, v3, v4] (zO o :: st) A K := zx_aload_n z73 dX0_instanceSize_24 rfl rfl
theorem s73_25 : zX d 73 25 [zO o, v1, v2, v3, v4] st A K = zX d 73 26 [zO o, v1, v2, v3, v4] (zO o :: st) A K := zx_aload_n z73 dX0_instanceSize_25 rfl rfl
theorem s73_26 (h : tg A a = 1) : zX d 73 26 ls (zO (some a) :: st) A K = zX d 73 29 ls (fd A a 25 :: st) A K := zx_getf z73 zo73 dX0_instanceSize_26 F2_99 rfl h
theorem s73_29 : zX d 73 29 [v0, zO o, v2, v3, v4] st A K = zX d 73 30 [v0, zO o, v2, v3, v4] (zO o :: st) A K := zx_aload_n z73 dX0_instanceSize_29 rfl rfl
theorem s73_30 (h : tg A a = 4) : zX d 73 30 ls (zO (some a) :: st) A K = zX d 73 33 ls (fd A a 0 :: st) A K := zx_getf z73 zo73 dX0_instanceSize_30 F2_204 rfl h
theorem s73_33 : zX d 73 33 [v0, v1, v2, v3, zI x] st A K = zX d 73 35 [v0, v1, v2, v3, zI x] (zI x :: st) A K := zx_iload z73 dX0_instanceSize_33 rfl rfl
theorem s73_35 (h : tg A a = 21) (h0 : 0 ≤ x) (h1 : x.toNat < (ia A a).length) : zX d 73 35 ls (zI x :: zO (some a) :: st) A K = zX d 73 36 ls (zI ((ia A a).getD x.toNat 0) :: st) A K := zx_bald z73 dX0_instanceSize_35 rfl h h0 h1
theorem s73_35z (h : tg A a = 22) (h0 : 0 ≤ x) (h1 : x.toNat < (ia A a).length) : zX d 73 35 ls (zI x :: zO (some a) :: st) A K = zX d 73 36 ls (zI ((ia A a).getD x.toNat 0) :: st) A K := zx_zald z73 dX0_instanceSize_35 rfl h h0 h1
theorem s73_36 : zX d 73 36 ls st A K = zX d 73 38 ls (zI (119) :: st) A K := zx_bipush z73 dX0_instanceSize_36 (by decide) rfl
theorem s73_38 : zX d 73 38 ls (zI y :: zI x :: st) A K = zX d 73 39 ls (zI (zw (x - y)) :: st) A K := zx_isub z73 dX0_instanceSize_38 rfl
theorem s73_39 (h : tg A a = 20) (h0 : 0 ≤ x) (h1 : x.toNat < (ia A a).length) : zX d 73 39 ls (zI x :: zO (some a) :: st) A K = zX d 73 40 ls (zI ((ia A a).getD x.toNat 0) :: st) A K := zx_iald z73 dX0_instanceSize_39 rfl h h0 h1
theorem s73_39s (h : tg A a = 30) (h0 : 0 ≤ x) (h1 : x.toNat < (ia A a).length) : zX d 73 39 ls (zI x :: zO (some a) :: st) A K = zX d 73 40 ls (zI ((ia A a).getD x.toNat 0) :: st) A K := zx_sald z73 dX0_instanceSize_39 rfl h h0 h1
theorem s73_40 (h : tg A a = 4)  : zX (d + 1) 73 40 ls (zI i0 :: zO (some a) :: [w0]) A K = zX d 113 0 [zO (some a), zI i0] [] A (zK (d + 1) 73 40 43 ls [w0] K) := zx_callV (t := 4) z73 zo73 dX0_instanceSize_40 rfl C2_393 rfl rfl zm113 rfl rfl (zwt_le (Nat.le_of_ble_eq_true rfl)) rfl h
theorem s73_43 : zX d 73 43 ls st A K = zX d 73 47 ls st A K := zx_goto z73 dX0_instanceSize_43 rfl
theorem s73_46 : zX d 73 46 ls st A K = zX d 73 47 ls (zI 1 :: st) A K := zx_const z73 dX0_instanceSize_46 (by decide) rfl
theorem s73_47 : zX d 73 47 ls (zI y :: zI x :: st) A K = zX d 73 48 ls (zI (zw (x + y)) :: st) A K := zx_iadd z73 dX0_instanceSize_47 rfl
theorem s73_48 : zX d 73 48 [v0, v1, v2, v3, v4] (zI x :: st) A K = zX d 73 49 [v0, v1, v2, zI x, v4] st A K := zx_istore_n z73 dX0_instanceSize_48 (Nat.le_of_ble_eq_true rfl) rfl rfl
theorem s73_49 : zX d 73 49 [v0, v1, v2, v3, zI x] st A K = zX d 73 52 [v0, v1, v2, v3, zI (zw (x + 1))] st A K := zx_iinc z73 dX0_instanceSize_49 rfl rfl rfl
theorem s73_52 : zX d 73 52 ls st A K = zX d 73 5 ls st A K := zx_goto z73 dX0_instanceSize_52 rfl
theorem s73_55 : zX d 73 55 [v0, v1, v2, zI x, v4] st A K = zX d 73 56 [v0, v1, v2, zI x, v4] (zI x :: st) A K := zx_iload_n z73 dX0_instanceSize_55 rfl rfl
theorem s73_56 : zX d 73 56 ls [zI x] A K = K (Sum.inl (some (zI x))) A := zx_iret z73 dX0_instanceSize_56 zk73 rfl
theorem s74_0 : zX d 74 0 [v0, zO o, v2, v3] st A K = zX d 74 1 [v0, zO o, v2, v3] (zO o :: st) A K := zx_aload_n z74 dX0_buildRange_0 rfl rfl
theorem s74_1 (h : tg A a = 4) : zX d 74 1 ls (zO (some a) :: st) A K = zX d 74 4 ls (fd A a 0 :: st) A K := zx_getf z74 zo74 dX0_buildRange_1 F2_204 rfl h
theorem s74_4 : zX d 74 4 [v0, v1, zI x, v3] st A K = zX d 74 5 [v0, v1, zI x, v3] (zI x :: st) A K := zx_iload_n z74 dX0_buildRange_4 rfl rfl
theorem s74_5 : zX d 74 5 [zO o, v1, v2, v3] st A K = zX d 74 6 [zO o, v1, v2, v3] (zO o :: st) A K := zx_aload_n z74 dX0_buildRange_5 rfl rfl
theorem s74_6 (h : tg A a = 1) : zX d 74 6 ls (zO (some a) :: st) A K = zX d 74 9 ls (fd A a 4 :: st) A K := zx_getf z74 zo74 dX0_buildRange_6 F2_25 rfl h
theorem s74_9 : zX d 74 9 [zO o, v1, v2, v3] st A K = zX d 74 10 [zO o, v1, v2, v3] (zO o :: st) A K := zx_aload_n z74 dX0_buildRange_9 rfl rfl
theorem s74_10 (h : tg A a = 1) : zX d 74 10 ls (zO (some a) :: st) A K = zX d 74 13 ls (fd A a 5 :: st) A K := zx_getf z74 zo74 dX0_buildRange_10 F2_121 rfl h
theorem s74_13 : zX d 74 13 [v0, v1, v2, zI x] st A K = zX d 74 14 [v0, v1, v2, zI x] (zI x :: st) A K := zx_iload_n z74 dX0_buildRange_13 rfl rfl
theorem s74_14 : zX d 74 14 [v0, v1, zI x, v3] st A K = zX d 74 15 [v0, v1, zI x, v3] (zI x :: st) A K := zx_iload_n z74 dX0_buildRange_14 rfl rfl
theorem s74_15 : zX d 74 15 ls (zI y :: zI x :: st) A K = zX d 74 16 ls (zI (zw (x - y)) :: st) A K := zx_isub z74 dX0_buildRange_15 rfl
theorem s74_16i (h0 : 0 ≤ w) (h1 : 0 ≤ y) (h2 : 0 ≤ x) (h : tg A a = tg A b) (h6 : tg A b = 20 ∨ tg A b = 21) (h3 : x.toNat + w.toNat ≤ (ia A a).length) (h4 : y.toNat + w.toNat ≤ (ia A b).length) : zX d 74 16 ls (zI w :: zI y :: zO (some b) :: zI x :: zO (some a) :: []) A K = zX d 74 19 ls [] (pI A b (zcpy (ia A a) (ia A b) x.toNat y.toNat w.toNat)) K := zx_inS z74 zo74 dX0_buildRange_16 rfl rfl rfl (zin_3i (zwt_le (Nat.le_of_ble_eq_true rfl)) h0 h1 h2 h h6 h3 h4)
theorem s74_16r (h0 : 0 ≤ w) (h1 : 0 ≤ y) (h2 : 0 ≤ x) (h : tg A a = tg A b) (h6 : tg A b = 24 ∨ tg A b = 25 ∨ tg A b = 28) (h3 : x.toNat + w.toNat ≤ (ra A a).length) (h4 : y.toNat + w.toNat ≤ (ra A b).length) : zX d 74 16 ls (zI w :: zI y :: zO (some b) :: zI x :: zO (some a) :: []) A K = zX d 74 19 ls [] (pR A b (zcpy (ra A a) (ra A b) x.toNat y.toNat w.toNat)) K := zx_inS z74 zo74 dX0_buildRange_16 rfl rfl rfl (zin_3r (zwt_le (Nat.le_of_ble_eq_true rfl)) h0 h1 h2 h h6 h3 h4)
theorem s74_19 : zX d 74 19 [zO o, v1, v2, v3] st A K = zX d 74 20 [zO o, v1, v2, v3] (zO o :: st) A K := zx_aload_n z74 dX0_buildRange_19 rfl rfl
theorem s74_20 (h : zc v = true) : zX d 74 20 ls (v :: st) A K = zX d 74 21 ls (v :: v :: st) A K := zx_dup z74 dX0_buildRange_20 rfl h
theorem s74_21 (h : tg A a = 1) : zX d 74 21 ls (zO (some a) :: st) A K = zX d 74 24 ls (fd A a 5 :: st) A K := zx_getf z74 zo74 dX0_buildRange_21 F2_121 rfl h
theorem s74_24 : zX d 74 24 [v0, v1, v2, zI x] st A K = zX d 74 25 [v0, v1, v2, zI x] (zI x :: st) A K := zx_iload_n z74 dX0_buildRange_24 rfl rfl
theorem s74_25 : zX d 74 25 [v0, v1, zI x, v3] st A K = zX d 74 26 [v0, v1, zI x, v3] (zI x :: st) A K := zx_iload_n z74 dX0_buildRange_25 rfl rfl
theorem s74_26 : zX d 74 26 ls (zI y :: zI x :: st) A K = zX d 74 27 ls (zI (zw (x - y)) :: st) A K := zx_isub z74 dX0_buildRange_26 rfl
theorem s74_27 : zX d 74 27 ls (zI y :: zI x :: st) A K = zX d 74 28 ls (zI (zw (x + y)) :: st) A K := zx_iadd z74 dX0_buildRange_27 rfl
theorem s74_28 (h : tg A a = 1) : zX d 74 28 ls (zI x :: zO (some a) :: st) A K = zX d 74 31 ls st (pF A a 5 (zI x)) K := zx_putf (q := 0) z74 zo74 dX0_buildRange_28 F2_121 rfl rfl rfl h rfl
theorem s74_31 : zX d 74 31 ls [] A K = K (Sum.inl none) A := zx_vret z74 dX0_buildRange_31 rfl
theorem s75_0 : zX d 75 0 [v0, zI x, v2, v3, v4] st A K = zX d 75 1 [v0, zI x, v2, v3, v4] (zI x :: st) A K := zx_iload_n z75 dX0_rewriteOutermost_0 rfl rfl
theorem s75_1 : zX (d + 1) 75 1 ls (zI i0 :: []) A K = zX d 54 0 [zI i0] [] A (zK (d + 1) 75 1 4 ls [] K) := zx_callS z75 zo75 dX0_rewriteOutermost_1 rfl C2_408 rfl rfl zm54 rfl rfl (zwt_le (Nat.le_of_ble_eq_true rfl)) rfl
theorem s75_4 : zX d 75 4 ls (zI x :: st) A K = (if x ≠ 0 then zX d 75 9 ls st A K else zX d 75 7 ls st A K) := zx_if_ne z75 dX0_rewriteOutermost_4 rfl rfl
theorem s75_7 : zX d 75 7 ls st A K = zX d 75 8 ls (zI (-1) :: st) A K := zx_const z75 dX0_rewriteOutermost_7 (by decide) rfl
theorem s75_8 : zX d 75 8 ls [zI x] A K = K (Sum.inl (some (zI x))) A := zx_iret z75 dX0_rewriteOutermost_8 zk75 rfl
theorem s75_9 : zX d 75 9 [v0, v1, zI x, v3, v4] st A K = zX d 75 10 [v0, v1, zI x, v3, v4] (zI x :: st) A K := zx_iload_n z75 dX0_rewriteOutermost_9 rfl rfl
theorem s75_10 : zX d 75 10 ls (zI x :: st) A K = zX d 75 11 ls (zL x :: st) A K := zx_i2l z75 dX0_rewriteOutermost_10 rfl
theorem s75_11 : zX d 75 11 ls st A K = zX d 75 12 ls (zL 0 :: st) A K := zx_lconst z75 dX0_rewriteOutermost_11 rfl
theorem s75_12 : zX d 75 12 ls st A K = zX d 75 15 ls (zL (100) :: st) A K := zx_ldc2 z75 zo75 dX0_rewriteOutermost_12 rfl rfl
theorem s75_15 : zX d 75 15 ls (zL y :: zL x :: zL w :: []) A K = zX d 75 18 ls (zI (zb (decide (x ≤ w ∧ w ≤ y))) :: []) A K := zx_inS z75 zo75 dX0_rewriteOutermost_15 rfl rfl rfl (zin_2 (zwt_le (Nat.le_of_ble_eq_true rfl)))
theorem s75_18 : zX d 75 18 ls (zI x :: st) A K = (if x ≠ 0 then zX d 75 24 ls st A K else zX d 75 21 ls st A K) := zx_if_ne z75 dX0_rewriteOutermost_18 rfl rfl
theorem s75_21 : zX d 75 21 ls st A K = zX d 75 23 ls (zI (-2) :: st) A K := zx_bipush z75 dX0_rewriteOutermost_21 (by decide) rfl
theorem s75_23 : zX d 75 23 ls [zI x] A K = K (Sum.inl (some (zI x))) A := zx_iret z75 dX0_rewriteOutermost_23 zk75 rfl
theorem s75_24 : zX d 75 24 ls st A K = zX d 75 25 ls (zI 0 :: st) A K := zx_const z75 dX0_rewriteOutermost_24 (by decide) rfl
theorem s75_25 : zX d 75 25 [v0, v1, v2, v3, v4] (zI x :: st) A K = zX d 75 26 [v0, v1, v2, zI x, v4] st A K := zx_istore_n z75 dX0_rewriteOutermost_25 (Nat.le_of_ble_eq_true rfl) rfl rfl
theorem s75_26 : zX d 75 26 [v0, v1, zI x, v3, v4] st A K = zX d 75 27 [v0, v1, zI x, v3, v4] (zI x :: st) A K := zx_iload_n z75 dX0_rewriteOutermost_26 rfl rfl
theorem s75_27 : zX d 75 27 ls (zI x :: st) A K = (if x ≤ 0 then zX d 75 43 ls st A K else zX d 75 30 ls st A K) := zx_if_le z75 dX0_rewriteOutermost_27 rfl rfl
theorem s75_30 : zX d 75 30 [zO o, v1, v2, v3, v4] st A K = zX d 75 31 [zO o, v1, v2, v3, v4] (zO o :: st) A K := zx_aload_n z75 dX0_rewriteOutermost_30 rfl rfl
theorem s75_31 : zX d 75 31 [zO o, v1, v2, v3, v4] st A K = zX d 75 32 [zO o, v1, v2, v3, v4] (zO o :: st) A K := zx_aload_n z75 dX0_rewriteOutermost_31 rfl rfl
theorem s75_32 (h : tg A a = 1) : zX d 75 32 ls (zO (some a) :: st) A K = zX d 75 35 ls (fd A a 3 :: st) A K := zx_getf z75 zo75 dX0_rewriteOutermost_32 F2_21 rfl h
theorem s75_35 : zX d 75 35 [v0, zI x, v2, v3, v4] st A K = zX d 75 36 [v0, zI x, v2, v3, v4] (zI x :: st) A K := zx_iload_n z75 dX0_rewriteOutermost_35 rfl rfl
theorem s75_36 (h : zarr (tg A a) = 3) (h0 : 0 ≤ x) (h1 : x.toNat < (ra A a).length) : zX d 75 36 ls (zI x :: zO (some a) :: st) A K = zX d 75 37 ls (zO ((ra A a).getD x.toNat none) :: st) A K := zx_aald z75 dX0_rewriteOutermost_36 rfl h h0 h1
theorem s75_37 (h : tg A a = 1)  : zX (d + 1) 75 37 ls (zO o0 :: zO (some a) :: []) A K = zX d 76 0 [zO (some a), zO o0, zU] [] A (zK (d + 1) 75 37 40 ls [] K) := zx_callV (t := 1) z75 zo75 dX0_rewriteOutermost_37 rfl C2_442 rfl rfl zm76 rfl rfl (zwt_le (Nat.le_of_ble_eq_true rfl)) rfl h
theorem s75_40 : zX d 75 40 ls st A K = zX d 75 44 ls st A K := zx_goto z75 dX0_rewriteOutermost_40 rfl
theorem s75_43 : zX d 75 43 ls st A K = zX d 75 44 ls (zO none :: st) A K := zx_null z75 dX0_rewriteOutermost_43 rfl
theorem s75_44 : zX d 75 44 [v0, v1, v2, v3, v4] (zO o :: st) A K = zX d 75 46 [v0, v1, v2, v3, zO o] st A K := zx_astore z75 dX0_rewriteOutermost_44 (Nat.le_of_ble_eq_true rfl) rfl rfl
theorem s75_46 : zX d 75 46 [v0, v1, v2, v3, zO o] st A K = zX d 75 48 [v0, v1, v2, v3, zO o] (zO o :: st) A K := zx_aload z75 dX0_rewriteOutermost_46 rfl rfl
theorem s75_48 : zX d 75 48 ls (zO o :: st) A K = (if o = none then zX d 75 82 ls st A K else zX d 75 51 ls st A K) := zx_ifnull z75 dX0_rewriteOutermost_48 rfl rfl
theorem s75_51 : zX d 75 51 [zO o, v1, v2, v3, v4] st A K = zX d 75 52 [zO o, v1, v2, v3, v4] (zO o :: st) A K := zx_aload_n z75 dX0_rewriteOutermost_51 rfl rfl
theorem s75_52 (h : tg A a = 1) : zX d 75 52 ls (zO (some a) :: st) A K = zX d 75 55 ls (fd A a 3 :: st) A K := zx_getf z75 zo75 dX0_rewriteOutermost_52 F2_21 rfl h
theorem s75_55 : zX d 75 55 [v0, zI x, v2, v3, v4] st A K = zX d 75 56 [v0, zI x, v2, v3, v4] (zI x :: st) A K := zx_iload_n z75 dX0_rewriteOutermost_55 rfl rfl
theorem s75_56 : zX d 75 56 [v0, v1, v2, v3, zO o] st A K = zX d 75 58 [v0, v1, v2, v3, zO o] (zO o :: st) A K := zx_aload z75 dX0_rewriteOutermost_56 rfl rfl
theorem s75_58 (h : 24 ≤ tg A a) (h4 : tg A a ≤ 28) (h0 : 0 ≤ x) (h1 : x.toNat < (ra A a).length) (h2 : ∀ b, o = some b → zel (tg A a) (tg A b) = true) : zX d 75 58 ls (zO o :: zI x :: zO (some a) :: st) A K = zX d 75 59 ls st (pR A a ((ra A a).set x.toNat o)) K := zx_aast z75 dX0_rewriteOutermost_58 rfl h h4 h0 h1 h2
theorem s75_59 : zX d 75 59 [v0, v1, v2, zI x, v4] st A K = zX d 75 62 [v0, v1, v2, zI (zw (x + 1)), v4] st A K := zx_iinc z75 dX0_rewriteOutermost_59 rfl rfl rfl
theorem s75_62 : zX d 75 62 [v0, v1, v2, zI x, v4] st A K = zX d 75 63 [v0, v1, v2, zI x, v4] (zI x :: st) A K := zx_iload_n z75 dX0_rewriteOutermost_62 rfl rfl
theorem s75_63 : zX d 75 63 [v0, v1, zI x, v3, v4] st A K = zX d 75 64 [v0, v1, zI x, v3, v4] (zI x :: st) A K := zx_iload_n z75 dX0_rewriteOutermost_63 rfl rfl
theorem s75_64 : zX d 75 64 ls (zI y :: zI x :: st) A K = (if y ≤ x then zX d 75 76 ls st A K else zX d 75 67 ls st A K) := zx_ic_ge z75 dX0_rewriteOutermost_64 rfl rfl
theorem s75_67 : zX d 75 67 [zO o, v1, v2, v3, v4] st A K = zX d 75 68 [zO o, v1, v2, v3, v4] (zO o :: st) A K := zx_aload_n z75 dX0_rewriteOutermost_67 rfl rfl
theorem s75_68 : zX d 75 68 [v0, v1, v2, v3, zO o] st A K = zX d 75 70 [v0, v1, v2, v3, zO o] (zO o :: st) A K := zx_aload z75 dX0_rewriteOutermost_68 rfl rfl
theorem s75_70 (h : tg A a = 1)  : zX (d + 1) 75 70 ls (zO o0 :: zO (some a) :: []) A K = zX d 76 0 [zO (some a), zO o0, zU] [] A (zK (d + 1) 75 70 73 ls [] K) := zx_callV (t := 1) z75 zo75 dX0_rewriteOutermost_70 rfl C2_442 rfl rfl zm76 rfl rfl (zwt_le (Nat.le_of_ble_eq_true rfl)) rfl h
theorem s75_73 : zX d 75 73 ls st A K = zX d 75 77 ls st A K := zx_goto z75 dX0_rewriteOutermost_73 rfl
theorem s75_76 : zX d 75 76 ls st A K = zX d 75 77 ls (zO none :: st) A K := zx_null z75 dX0_rewriteOutermost_76 rfl
theorem s75_77 : zX d 75 77 [v0, v1, v2, v3, v4] (zO o :: st) A K = zX d 75 79 [v0, v1, v2, v3, zO o] st A K := zx_astore z75 dX0_rewriteOutermost_77 (Nat.le_of_ble_eq_true rfl) rfl rfl
theorem s75_79 : zX d 75 79 ls st A K = zX d 75 46 ls st A K := zx_goto z75 dX0_rewriteOutermost_79 rfl
theorem s75_82 : zX d 75 82 [v0, v1, v2, zI x, v4] st A K = zX d 75 83 [v0, v1, v2, zI x, v4] (zI x :: st) A K := zx_iload_n z75 dX0_rewriteOutermost_82 rfl rfl
theorem s75_83 : zX d 75 83 ls [zI x] A K = K (Sum.inl (some (zI x))) A := zx_iret z75 dX0_rewriteOutermost_83 zk75 rfl
theorem s76_0 : zX d 76 0 [zO o, v1, v2] st A K = zX d 76 1 [zO o, v1, v2] (zO o :: st) A K := zx_aload_n z76 dX0_outermostStep_0 rfl rfl
theorem s76_1 : zX d 76 1 [v0, zO o, v2] st A K = zX d 76 2 [v0, zO o, v2] (zO o :: st) A K := zx_aload_n z76 dX0_outermostStep_1 rfl rfl
theorem s76_2 (h : tg A a = 1)  : zX (d + 1) 76 2 ls (zO o0 :: zO (some a) :: []) A K = zX d 77 0 [zO (some a), zO o0, zU] [] A (zK (d + 1) 76 2 5 ls [] K) := zx_callV (t := 1) z76 zo76 dX0_outermostStep_2 rfl C2_389 rfl rfl zm77 rfl rfl (zwt_le (Nat.le_of_ble_eq_true rfl)) rfl h
theorem s76_5 : zX d 76 5 [v0, v1, v2] (zI x :: st) A K = zX d 76 6 [v0, v1, zI x] st A K := zx_istore_n z76 dX0_outermostStep_5 (Nat.le_of_ble_eq_true rfl) rfl rfl
theorem s76_6 : zX d 76 6 [v0, v1, zI x] st A K = zX d 76 7 [v0, v1, zI x] (zI x :: st) A K := zx_iload_n z76 dX0_outermostStep_6 rfl rfl
theorem s76_7 : zX d 76 7 ls st A K = zX d 76 9 ls (zI (-5) :: st) A K := zx_bipush z76 dX0_outermostStep_7 (by decide) rfl
theorem s76_9 : zX d 76 9 ls (zI y :: zI x :: st) A K = (if x ≠ y then zX d 76 16 ls st A K else zX d 76 12 ls st A K) := zx_ic_ne z76 dX0_outermostStep_9 rfl rfl
theorem s76_12 : zX d 76 12 ls st A K = zX d 76 13 ls (zO none :: st) A K := zx_null z76 dX0_outermostStep_12 rfl
theorem s76_13 : zX d 76 13 ls st A K = zX d 76 22 ls st A K := zx_goto z76 dX0_outermostStep_13 rfl
theorem s76_16 : zX d 76 16 [zO o, v1, v2] st A K = zX d 76 17 [zO o, v1, v2] (zO o :: st) A K := zx_aload_n z76 dX0_outermostStep_16 rfl rfl
theorem s76_17 : zX d 76 17 [v0, zO o, v2] st A K = zX d 76 18 [v0, zO o, v2] (zO o :: st) A K := zx_aload_n z76 dX0_outermostStep_17 rfl rfl
theorem s76_18 : zX d 76 18 [v0, v1, zI x] st A K = zX d 76 19 [v0, v1, zI x] (zI x :: st) A K := zx_iload_n z76 dX0_outermostStep_18 rfl rfl
theorem s76_19 (h : tg A a = 1)  : zX (d + 1) 76 19 ls (zI i1 :: zO o0 :: zO (some a) :: []) A K = zX d 72 0 [zO (some a), zO o0, zI i1, zU, zU, zU] [] A (zK (d + 1) 76 19 22 ls [] K) := zx_callV (t := 1) z76 zo76 dX0_outermostStep_19 rfl C2_404 rfl rfl zm72 rfl rfl (zwt_le (Nat.le_of_ble_eq_true rfl)) rfl h
theorem s76_22 : zX d 76 22 ls [zO o] A K = K (Sum.inl (some (zO o))) A := zx_aret z76 dX0_outermostStep_22 rfl
theorem s77_0 : zX d 77 0 ls st A K = zX d 77 1 ls (zI 0 :: st) A K := zx_const z77 dX0_outermostRedex_0 (by decide) rfl
theorem s77_1 : zX d 77 1 [v0, v1, v2] (zI x :: st) A K = zX d 77 2 [v0, v1, zI x] st A K := zx_istore_n z77 dX0_outermostRedex_1 (Nat.le_of_ble_eq_true rfl) rfl rfl
theorem s77_2 : zX d 77 2 [v0, v1, zI x] st A K = zX d 77 3 [v0, v1, zI x] (zI x :: st) A K := zx_iload_n z77 dX0_outermostRedex_2 rfl rfl
theorem s77_3 : zX d 77 3 [v0, zO o, v2] st A K = zX d 77 4 [v0, zO o, v2] (zO o :: st) A K := zx_aload_n z77 dX0_outermostRedex_3 rfl rfl
theorem s77_4 (h : tg A a = 4)  : zX (d + 1) 77 4 ls (zO (some a) :: [w0]) A K = zX d 108 0 [zO (some a)] [] A (zK (d + 1) 77 4 7 ls [w0] K) := zx_callV (t := 4) z77 zo77 dX0_outermostRedex_4 rfl C2_165 rfl rfl zm108 rfl rfl (zwt_le (Nat.le_of_ble_eq_true rfl)) rfl h
theorem s77_7 : zX d 77 7 ls (zI y :: zI x :: st) A K = (if y ≤ x then zX d 77 27 ls st A K else zX d 77 10 ls st A K) := zx_ic_ge z77 dX0_outermostRedex_7 rfl rfl
theorem s77_10 : zX d 77 10 [zO o, v1, v2] st A K = zX d 77 11 [zO o, v1, v2] (zO o :: st) A K := zx_aload_n z77 dX0_outermostRedex_10 rfl rfl
theorem s77_11 : zX d 77 11 [v0, zO o, v2] st A K = zX d 77 12 [v0, zO o, v2] (zO o :: st) A K := zx_aload_n z77 dX0_outermostRedex_11 rfl rfl
theorem s77_12 : zX d 77 12 [v0, v1, zI x] st A K = zX d 77 13 [v0, v1, zI x] (zI x :: st) A K := zx_iload_n z77 dX0_outermostRedex_12 rfl rfl
theorem s77_13 (h : tg A a = 1)  : zX (d + 1) 77 13 ls (zI i1 :: zO o0 :: zO (some a) :: []) A K = zX d 68 0 [zO (some a), zO o0, zI i1] [] A (zK (d + 1) 77 13 16 ls [] K) := zx_callV (t := 1) z77 zo77 dX0_outermostRedex_13 rfl C2_385 rfl rfl zm68 rfl rfl (zwt_le (Nat.le_of_ble_eq_true rfl)) rfl h
theorem s77_16 : zX d 77 16 ls (zI x :: st) A K = (if x = 0 then zX d 77 21 ls st A K else zX d 77 19 ls st A K) := zx_if_eq z77 dX0_outermostRedex_16 rfl rfl
theorem s77_19 : zX d 77 19 [v0, v1, zI x] st A K = zX d 77 20 [v0, v1, zI x] (zI x :: st) A K := zx_iload_n z77 dX0_outermostRedex_19 rfl rfl
theorem s77_20 : zX d 77 20 ls [zI x] A K = K (Sum.inl (some (zI x))) A := zx_iret z77 dX0_outermostRedex_20 zk77 rfl
theorem s77_21 : zX d 77 21 [v0, v1, zI x] st A K = zX d 77 24 [v0, v1, zI (zw (x + 1))] st A K := zx_iinc z77 dX0_outermostRedex_21 rfl rfl rfl
theorem s77_24 : zX d 77 24 ls st A K = zX d 77 2 ls st A K := zx_goto z77 dX0_outermostRedex_24 rfl
theorem s77_27 : zX d 77 27 ls st A K = zX d 77 29 ls (zI (-5) :: st) A K := zx_bipush z77 dX0_outermostRedex_27 (by decide) rfl
theorem s77_29 : zX d 77 29 ls [zI x] A K = K (Sum.inl (some (zI x))) A := zx_iret z77 dX0_outermostRedex_29 zk77 rfl
theorem s78_0 : zX d 78 0 [v0, zI x, v2, v3, v4] st A K = zX d 78 1 [v0, zI x, v2, v3, v4] (zI x :: st) A K := zx_iload_n z78 dX0_findLoop_0 rfl rfl
theorem s78_1 : zX (d + 1) 78 1 ls (zI i0 :: []) A K = zX d 54 0 [zI i0] [] A (zK (d + 1) 78 1 4 ls [] K) := zx_callS z78 zo78 dX0_findLoop_1 rfl C2_408 rfl rfl zm54 rfl rfl (zwt_le (Nat.le_of_ble_eq_true rfl)) rfl
theorem s78_4 : zX d 78 4 ls (zI x :: st) A K = (if x ≠ 0 then zX d 78 9 ls st A K else zX d 78 7 ls st A K) := zx_if_ne z78 dX0_findLoop_4 rfl rfl
theorem s78_7 : zX d 78 7 ls st A K = zX d 78 8 ls (zI (-1) :: st) A K := zx_const z78 dX0_findLoop_7 (by decide) rfl
theorem s78_8 : zX d 78 8 ls [zI x] A K = K (Sum.inl (some (zI x))) A := zx_iret z78 dX0_findLoop_8 zk78 rfl
theorem s78_9 : zX d 78 9 [v0, v1, zI x, v3, v4] st A K = zX d 78 10 [v0, v1, zI x, v3, v4] (zI x :: st) A K := zx_iload_n z78 dX0_findLoop_9 rfl rfl
theorem s78_10 : zX d 78 10 ls (zI x :: st) A K = zX d 78 11 ls (zL x :: st) A K := zx_i2l z78 dX0_findLoop_10 rfl
theorem s78_11 : zX d 78 11 ls st A K = zX d 78 12 ls (zL 1 :: st) A K := zx_lconst z78 dX0_findLoop_11 rfl
theorem s78_12 : zX d 78 12 ls st A K = zX d 78 15 ls (zL (100) :: st) A K := zx_ldc2 z78 zo78 dX0_findLoop_12 rfl rfl
theorem s78_15 : zX d 78 15 ls (zL y :: zL x :: zL w :: []) A K = zX d 78 18 ls (zI (zb (decide (x ≤ w ∧ w ≤ y))) :: []) A K := zx_inS z78 zo78 dX0_findLoop_15 rfl rfl rfl (zin_2 (zwt_le (Nat.le_of_ble_eq_true rfl)))
theorem s78_18 : zX d 78 18 ls (zI x :: st) A K = (if x ≠ 0 then zX d 78 24 ls st A K else zX d 78 21 ls st A K) := zx_if_ne z78 dX0_findLoop_18 rfl rfl
theorem s78_21 : zX d 78 21 ls st A K = zX d 78 23 ls (zI (-2) :: st) A K := zx_bipush z78 dX0_findLoop_21 (by decide) rfl
theorem s78_23 : zX d 78 23 ls [zI x] A K = K (Sum.inl (some (zI x))) A := zx_iret z78 dX0_findLoop_23 zk78 rfl
theorem s78_24 : zX d 78 24 [zO o, v1, v2, v3, v4] st A K = zX d 78 25 [zO o, v1, v2, v3, v4] (zO o :: st) A K := zx_aload_n z78 dX0_findLoop_24 rfl rfl
theorem s78_25 (h : tg A a = 1) : zX d 78 25 ls (zO (some a) :: st) A K = zX d 78 28 ls (fd A a 3 :: st) A K := zx_getf z78 zo78 dX0_findLoop_25 F2_21 rfl h
theorem s78_28 : zX d 78 28 [v0, zI x, v2, v3, v4] st A K = zX d 78 29 [v0, zI x, v2, v3, v4] (zI x :: st) A K := zx_iload_n z78 dX0_findLoop_28 rfl rfl
theorem s78_29 (h : zarr (tg A a) = 3) (h0 : 0 ≤ x) (h1 : x.toNat < (ra A a).length) : zX d 78 29 ls (zI x :: zO (some a) :: st) A K = zX d 78 30 ls (zO ((ra A a).getD x.toNat none) :: st) A K := zx_aald z78 dX0_findLoop_29 rfl h h0 h1
theorem s78_30 : zX d 78 30 [v0, v1, v2, v3, v4] (zO o :: st) A K = zX d 78 31 [v0, v1, v2, zO o, v4] st A K := zx_astore_n z78 dX0_findLoop_30 (Nat.le_of_ble_eq_true rfl) rfl rfl
theorem s78_31 : zX d 78 31 ls st A K = zX d 78 32 ls (zI 1 :: st) A K := zx_const z78 dX0_findLoop_31 (by decide) rfl
theorem s78_32 : zX d 78 32 [v0, v1, v2, v3, v4] (zI x :: st) A K = zX d 78 34 [v0, v1, v2, v3, zI x] st A K := zx_istore z78 dX0_findLoop_32 (Nat.le_of_ble_eq_true rfl) rfl rfl
theorem s78_34 : zX d 78 34 [v0, v1, v2, v3, zI x] st A K = zX d 78 36 [v0, v1, v2, v3, zI x] (zI x :: st) A K := zx_iload z78 dX0_findLoop_34 rfl rfl
theorem s78_36 : zX d 78 36 [v0, v1, zI x, v3, v4] st A K = zX d 78 37 [v0, v1, zI x, v3, v4] (zI x :: st) A K := zx_iload_n z78 dX0_findLoop_36 rfl rfl
theorem s78_37 : zX d 78 37 ls (zI y :: zI x :: st) A K = (if y < x then zX d 78 82 ls st A K else zX d 78 40 ls st A K) := zx_ic_gt z78 dX0_findLoop_37 rfl rfl
theorem s78_40 : zX d 78 40 [zO o, v1, v2, v3, v4] st A K = zX d 78 41 [zO o, v1, v2, v3, v4] (zO o :: st) A K := zx_aload_n z78 dX0_findLoop_40 rfl rfl
theorem s78_41 (h : tg A a = 1) : zX d 78 41 ls (zO (some a) :: st) A K = zX d 78 44 ls (fd A a 26 :: st) A K := zx_getf z78 zo78 dX0_findLoop_41 F2_102 rfl h
theorem s78_44 : zX d 78 44 [v0, v1, v2, v3, zI x] st A K = zX d 78 46 [v0, v1, v2, v3, zI x] (zI x :: st) A K := zx_iload z78 dX0_findLoop_44 rfl rfl
theorem s78_46 : zX d 78 46 ls st A K = zX d 78 47 ls (zI 1 :: st) A K := zx_const z78 dX0_findLoop_46 (by decide) rfl
theorem s78_47 : zX d 78 47 ls (zI y :: zI x :: st) A K = zX d 78 48 ls (zI (zw (x - y)) :: st) A K := zx_isub z78 dX0_findLoop_47 rfl
theorem s78_48 : zX d 78 48 [v0, v1, v2, zO o, v4] st A K = zX d 78 49 [v0, v1, v2, zO o, v4] (zO o :: st) A K := zx_aload_n z78 dX0_findLoop_48 rfl rfl
theorem s78_49 (h : 24 ≤ tg A a) (h4 : tg A a ≤ 28) (h0 : 0 ≤ x) (h1 : x.toNat < (ra A a).length) (h2 : ∀ b, o = some b → zel (tg A a) (tg A b) = true) : zX d 78 49 ls (zO o :: zI x :: zO (some a) :: st) A K = zX d 78 50 ls st (pR A a ((ra A a).set x.toNat o)) K := zx_aast z78 dX0_findLoop_49 rfl h h4 h0 h1 h2
theorem s78_50 : zX d 78 50 [zO o, v1, v2, v3, v4] st A K = zX d 78 51 [zO o, v1, v2, v3, v4] (zO o :: st) A K := zx_aload_n z78 dX0_findLoop_50 rfl rfl
theorem s78_51 : zX d 78 51 [v0, v1, v2, zO o, v4] st A K = zX d 78 52 [v0, v1, v2, zO o, v4] (zO o :: st) A K := zx_aload_n z78 dX0_findLoop_51 rfl rfl
theorem s78_52 (h : tg A a = 1)  : zX (d + 1) 78 52 ls (zO o0 :: zO (some a) :: []) A K = zX d 76 0 [zO (some a), zO o0, zU] [] A (zK (d + 1) 78 52 55 ls [] K) := zx_callV (t := 1) z78 zo78 dX0_findLoop_52 rfl C2_442 rfl rfl zm76 rfl rfl (zwt_le (Nat.le_of_ble_eq_true rfl)) rfl h
theorem s78_55 : zX d 78 55 [v0, v1, v2, v3, v4] (zO o :: st) A K = zX d 78 56 [v0, v1, v2, zO o, v4] st A K := zx_astore_n z78 dX0_findLoop_55 (Nat.le_of_ble_eq_true rfl) rfl rfl
theorem s78_56 : zX d 78 56 [v0, v1, v2, zO o, v4] st A K = zX d 78 57 [v0, v1, v2, zO o, v4] (zO o :: st) A K := zx_aload_n z78 dX0_findLoop_56 rfl rfl
theorem s78_57 : zX d 78 57 ls (zO o :: st) A K = (if o ≠ none then zX d 78 63 ls st A K else zX d 78 60 ls st A K) := zx_ifnonnull z78 dX0_findLoop_57 rfl rfl
theorem s78_60 : zX d 78 60 ls st A K = zX d 78 62 ls (zI (-5) :: st) A K := zx_bipush z78 dX0_findLoop_60 (by decide) rfl
theorem s78_62 : zX d 78 62 ls [zI x] A K = K (Sum.inl (some (zI x))) A := zx_iret z78 dX0_findLoop_62 zk78 rfl
theorem s78_63 : zX d 78 63 [zO o, v1, v2, v3, v4] st A K = zX d 78 64 [zO o, v1, v2, v3, v4] (zO o :: st) A K := zx_aload_n z78 dX0_findLoop_63 rfl rfl
theorem s78_64 : zX d 78 64 [v0, v1, v2, zO o, v4] st A K = zX d 78 65 [v0, v1, v2, zO o, v4] (zO o :: st) A K := zx_aload_n z78 dX0_findLoop_64 rfl rfl
theorem s78_65 : zX d 78 65 [v0, v1, v2, v3, zI x] st A K = zX d 78 67 [v0, v1, v2, v3, zI x] (zI x :: st) A K := zx_iload z78 dX0_findLoop_65 rfl rfl
theorem s78_67 (h : tg A a = 1)  : zX (d + 1) 78 67 ls (zI i1 :: zO o0 :: zO (some a) :: []) A K = zX d 79 0 [zO (some a), zO o0, zI i1, zU] [] A (zK (d + 1) 78 67 70 ls [] K) := zx_callV (t := 1) z78 zo78 dX0_findLoop_67 rfl C2_450 rfl rfl zm79 rfl rfl (zwt_le (Nat.le_of_ble_eq_true rfl)) rfl h
theorem s78_70 : zX d 78 70 ls (zI x :: st) A K = (if x = 0 then zX d 78 76 ls st A K else zX d 78 73 ls st A K) := zx_if_eq z78 dX0_findLoop_70 rfl rfl
theorem s78_73 : zX d 78 73 [v0, v1, v2, v3, zI x] st A K = zX d 78 75 [v0, v1, v2, v3, zI x] (zI x :: st) A K := zx_iload z78 dX0_findLoop_73 rfl rfl
theorem s78_75 : zX d 78 75 ls [zI x] A K = K (Sum.inl (some (zI x))) A := zx_iret z78 dX0_findLoop_75 zk78 rfl
theorem s78_76 : zX d 78 76 [v0, v1, v2, v3, zI x] st A K = zX d 78 79 [v0, v1, v2, v3, zI (zw (x + 1))] st A K := zx_iinc z78 dX0_findLoop_76 rfl rfl rfl
theorem s78_79 : zX d 78 79 ls st A K = zX d 78 34 ls st A K := zx_goto z78 dX0_findLoop_79 rfl
theorem s78_82 : zX d 78 82 ls st A K = zX d 78 84 ls (zI (-5) :: st) A K := zx_bipush z78 dX0_findLoop_82 (by decide) rfl
theorem s78_84 : zX d 78 84 ls [zI x] A K = K (Sum.inl (some (zI x))) A := zx_iret z78 dX0_findLoop_84 zk78 rfl
theorem s79_0 : zX d 79 0 ls st A K = zX d 79 1 ls (zI 0 :: st) A K := zx_const z79 dX0_occurred_0 (by decide) rfl
theorem s79_1 : zX d 79 1 [v0, v1, v2, v3] (zI x :: st) A K = zX d 79 2 [v0, v1, v2, zI x] st A K := zx_istore_n z79 dX0_occurred_1 (Nat.le_of_ble_eq_true rfl) rfl rfl
theorem s79_2 : zX d 79 2 [v0, v1, v2, zI x] st A K = zX d 79 3 [v0, v1, v2, zI x] (zI x :: st) A K := zx_iload_n z79 dX0_occurred_2 rfl rfl
theorem s79_3 : zX d 79 3 [v0, v1, zI x, v3] st A K = zX d 79 4 [v0, v1, zI x, v3] (zI x :: st) A K := zx_iload_n z79 dX0_occurred_3 rfl rfl
theorem s79_4 : zX d 79 4 ls (zI y :: zI x :: st) A K = (if y ≤ x then zX d 79 28 ls st A K else zX d 79 7 ls st A K) := zx_ic_ge z79 dX0_occurred_4 rfl rfl
theorem s79_7 : zX d 79 7 [zO o, v1, v2, v3] st A K = zX d 79 8 [zO o, v1, v2, v3] (zO o :: st) A K := zx_aload_n z79 dX0_occurred_7 rfl rfl
theorem s79_8 (h : tg A a = 1) : zX d 79 8 ls (zO (some a) :: st) A K = zX d 79 11 ls (fd A a 26 :: st) A K := zx_getf z79 zo79 dX0_occurred_8 F2_102 rfl h
theorem s79_11 : zX d 79 11 [v0, v1, v2, zI x] st A K = zX d 79 12 [v0, v1, v2, zI x] (zI x :: st) A K := zx_iload_n z79 dX0_occurred_11 rfl rfl
theorem s79_12 (h : zarr (tg A a) = 3) (h0 : 0 ≤ x) (h1 : x.toNat < (ra A a).length) : zX d 79 12 ls (zI x :: zO (some a) :: st) A K = zX d 79 13 ls (zO ((ra A a).getD x.toNat none) :: st) A K := zx_aald z79 dX0_occurred_12 rfl h h0 h1
theorem s79_13 : zX d 79 13 [v0, zO o, v2, v3] st A K = zX d 79 14 [v0, zO o, v2, v3] (zO o :: st) A K := zx_aload_n z79 dX0_occurred_13 rfl rfl
theorem s79_14 (h : tg A a = 4)  : zX (d + 1) 79 14 ls (zO o0 :: zO (some a) :: []) A K = zX d 118 0 [zO (some a), zO o0] [] A (zK (d + 1) 79 14 17 ls [] K) := zx_callV (t := 4) z79 zo79 dX0_occurred_14 rfl C2_446 rfl rfl zm118 rfl rfl (zwt_le (Nat.le_of_ble_eq_true rfl)) rfl h
theorem s79_17 : zX d 79 17 ls (zI x :: st) A K = (if x = 0 then zX d 79 22 ls st A K else zX d 79 20 ls st A K) := zx_if_eq z79 dX0_occurred_17 rfl rfl
theorem s79_20 : zX d 79 20 ls st A K = zX d 79 21 ls (zI 1 :: st) A K := zx_const z79 dX0_occurred_20 (by decide) rfl
theorem s79_21 (h : x = 0 ∨ x = 1) : zX d 79 21 ls [zI x] A K = K (Sum.inl (some (zI x))) A := zx_iret z79 dX0_occurred_21 zk79 (by rcases h with q | q <;> subst q <;> rfl)
theorem s79_22 : zX d 79 22 [v0, v1, v2, zI x] st A K = zX d 79 25 [v0, v1, v2, zI (zw (x + 1))] st A K := zx_iinc z79 dX0_occurred_22 rfl rfl rfl
theorem s79_25 : zX d 79 25 ls st A K = zX d 79 2 ls st A K := zx_goto z79 dX0_occurred_25 rfl
theorem s79_28 : zX d 79 28 ls st A K = zX d 79 29 ls (zI 0 :: st) A K := zx_const z79 dX0_occurred_28 (by decide) rfl
theorem s79_29 (h : x = 0 ∨ x = 1) : zX d 79 29 ls [zI x] A K = K (Sum.inl (some (zI x))) A := zx_iret z79 dX0_occurred_29 zk79 (by rcases h with q | q <;> subst q <;> rfl)
theorem s80_0 : zX d 80 0 [zO o, v1, v2, v3] st A K = zX d 80 1 [zO o, v1, v2, v3] (zO o :: st) A K := zx_aload_n z80 dX0_exploredCount_0 rfl rfl
theorem s80_1 : zX d 80 1 [v0, zI x, v2, v3] st A K = zX d 80 2 [v0, zI x, v2, v3] (zI x :: st) A K := zx_iload_n z80 dX0_exploredCount_1 rfl rfl
theorem s80_2 : zX d 80 2 [v0, v1, zI x, v3] st A K = zX d 80 3 [v0, v1, zI x, v3] (zI x :: st) A K := zx_iload_n z80 dX0_exploredCount_2 rfl rfl
theorem s80_3 (h : tg A a = 1)  : zX (d + 1) 80 3 ls (zI i1 :: zI i0 :: zO (some a) :: []) A K = zX d 81 0 [zO (some a), zI i0, zI i1] [] A (zK (d + 1) 80 3 6 ls [] K) := zx_callV (t := 1) z80 zo80 dX0_exploredCount_3 rfl C2_470 rfl rfl zm81 rfl rfl (zwt_le (Nat.le_of_ble_eq_true rfl)) rfl h
theorem s80_6 : zX d 80 6 [v0, v1, v2, v3] (zI x :: st) A K = zX d 80 7 [v0, v1, v2, zI x] st A K := zx_istore_n z80 dX0_exploredCount_6 (Nat.le_of_ble_eq_true rfl) rfl rfl
theorem s80_7 : zX d 80 7 [v0, v1, v2, zI x] st A K = zX d 80 8 [v0, v1, v2, zI x] (zI x :: st) A K := zx_iload_n z80 dX0_exploredCount_7 rfl rfl
theorem s80_8 : zX d 80 8 ls (zI x :: st) A K = (if x = 0 then zX d 80 15 ls st A K else zX d 80 11 ls st A K) := zx_if_eq z80 dX0_exploredCount_8 rfl rfl
theorem s80_11 : zX d 80 11 [v0, v1, v2, zI x] st A K = zX d 80 12 [v0, v1, v2, zI x] (zI x :: st) A K := zx_iload_n z80 dX0_exploredCount_11 rfl rfl
theorem s80_12 : zX d 80 12 ls st A K = zX d 80 26 ls st A K := zx_goto z80 dX0_exploredCount_12 rfl
theorem s80_15 : zX d 80 15 [zO o, v1, v2, v3] st A K = zX d 80 16 [zO o, v1, v2, v3] (zO o :: st) A K := zx_aload_n z80 dX0_exploredCount_15 rfl rfl
theorem s80_16 : zX d 80 16 [zO o, v1, v2, v3] st A K = zX d 80 17 [zO o, v1, v2, v3] (zO o :: st) A K := zx_aload_n z80 dX0_exploredCount_16 rfl rfl
theorem s80_17 (h : tg A a = 1) : zX d 80 17 ls (zO (some a) :: st) A K = zX d 80 20 ls (fd A a 3 :: st) A K := zx_getf z80 zo80 dX0_exploredCount_17 F2_21 rfl h
theorem s80_20 : zX d 80 20 [v0, zI x, v2, v3] st A K = zX d 80 21 [v0, zI x, v2, v3] (zI x :: st) A K := zx_iload_n z80 dX0_exploredCount_20 rfl rfl
theorem s80_21 (h : zarr (tg A a) = 3) (h0 : 0 ≤ x) (h1 : x.toNat < (ra A a).length) : zX d 80 21 ls (zI x :: zO (some a) :: st) A K = zX d 80 22 ls (zO ((ra A a).getD x.toNat none) :: st) A K := zx_aald z80 dX0_exploredCount_21 rfl h h0 h1
theorem s80_22 : zX d 80 22 [v0, v1, zI x, v3] st A K = zX d 80 23 [v0, v1, zI x, v3] (zI x :: st) A K := zx_iload_n z80 dX0_exploredCount_22 rfl rfl
theorem s80_23 (h : tg A a = 1)  : zX (d + 1) 80 23 ls (zI i1 :: zO o0 :: zO (some a) :: []) A K = zX d 82 0 [zO (some a), zO o0, zI i1, zU, zU, zU, zU, zU, zU] [] A (zK (d + 1) 80 23 26 ls [] K) := zx_callV (t := 1) z80 zo80 dX0_exploredCount_23 rfl C2_473 rfl rfl zm82 rfl rfl (zwt_le (Nat.le_of_ble_eq_true rfl)) rfl h
theorem s80_26 : zX d 80 26 ls [zI x] A K = K (Sum.inl (some (zI x))) A := zx_iret z80 dX0_exploredCount_26 zk80 rfl
theorem s81_0 : zX d 81 0 [v0, zI x, v2] st A K = zX d 81 1 [v0, zI x, v2] (zI x :: st) A K := zx_iload_n z81 dX0_explorationError_0 rfl rfl
theorem s81_1 : zX (d + 1) 81 1 ls (zI i0 :: []) A K = zX d 54 0 [zI i0] [] A (zK (d + 1) 81 1 4 ls [] K) := zx_callS z81 zo81 dX0_explorationError_1 rfl C2_408 rfl rfl zm54 rfl rfl (zwt_le (Nat.le_of_ble_eq_true rfl)) rfl
theorem s81_4 : zX d 81 4 ls (zI x :: st) A K = (if x ≠ 0 then zX d 81 11 ls st A K else zX d 81 7 ls st A K) := zx_if_ne z81 dX0_explorationError_4 rfl rfl
theorem s81_7 : zX d 81 7 ls st A K = zX d 81 8 ls (zI (-1) :: st) A K := zx_const z81 dX0_explorationError_7 (by decide) rfl
theorem s81_8 : zX d 81 8 ls st A K = zX d 81 29 ls st A K := zx_goto z81 dX0_explorationError_8 rfl
theorem s81_11 : zX d 81 11 [v0, v1, zI x] st A K = zX d 81 12 [v0, v1, zI x] (zI x :: st) A K := zx_iload_n z81 dX0_explorationError_11 rfl rfl
theorem s81_12 : zX d 81 12 ls (zI x :: st) A K = zX d 81 13 ls (zL x :: st) A K := zx_i2l z81 dX0_explorationError_12 rfl
theorem s81_13 : zX d 81 13 ls st A K = zX d 81 14 ls (zL 1 :: st) A K := zx_lconst z81 dX0_explorationError_13 rfl
theorem s81_14 : zX d 81 14 ls st A K = zX d 81 17 ls (zL (30) :: st) A K := zx_ldc2 z81 zo81 dX0_explorationError_14 rfl rfl
theorem s81_17 : zX d 81 17 ls (zL y :: zL x :: zL w :: []) A K = zX d 81 20 ls (zI (zb (decide (x ≤ w ∧ w ≤ y))) :: []) A K := zx_inS z81 zo81 dX0_explorationError_17 rfl rfl rfl (zin_2 (zwt_le (Nat.le_of_ble_eq_true rfl)))
theorem s81_20 : zX d 81 20 ls (zI x :: st) A K = (if x ≠ 0 then zX d 81 28 ls st A K else zX d 81 23 ls st A K) := zx_if_ne z81 dX0_explorationError_20 rfl rfl
theorem s81_23 : zX d 81 23 ls st A K = zX d 81 25 ls (zI (-2) :: st) A K := zx_bipush z81 dX0_explorationError_23 (by decide) rfl
theorem s81_25 : zX d 81 25 ls st A K = zX d 81 29 ls st A K := zx_goto z81 dX0_explorationError_25 rfl
theorem s81_28 : zX d 81 28 ls st A K = zX d 81 29 ls (zI 0 :: st) A K := zx_const z81 dX0_explorationError_28 (by decide) rfl
theorem s81_29 : zX d 81 29 ls [zI x] A K = K (Sum.inl (some (zI x))) A := zx_iret z81 dX0_explorationError_29 zk81 rfl
theorem s82_0 : zX d 82 0 ls st A K = zX d 82 3 ls (zO (some (nx A)) :: st) (nO A 15) K := zx_new z82 zo82 dX0_explore_0 rfl rfl
theorem s82_3 (h : zc v = true) : zX d 82 3 ls (v :: st) A K = zX d 82 4 ls (v :: v :: st) A K := zx_dup z82 dX0_explore_3 rfl h
theorem s82_4 : zX d 82 4 ls st A K = zX d 82 6 ls (zI (16) :: st) A K := zx_bipush z82 dX0_explore_4 (by decide) rfl
theorem s82_6 : zX d 82 6 ls st A K = zX d 82 9 ls (zO (some (nx A)) :: st) (nO A 8) K := zx_new z82 zo82 dX0_explore_6 rfl rfl
theorem s82_9 (h : zc v = true) : zX d 82 9 ls (v :: st) A K = zX d 82 10 ls (v :: v :: st) A K := zx_dup z82 dX0_explore_9 rfl h
theorem s82_10 : zX (d + 1) 82 10 ls (zO (some a) :: [w0, w1, w2, w3]) A K = zX d 125 0 [zO (some a)] [] A (zK (d + 1) 82 10 13 ls [w0, w1, w2, w3] K) := zx_callI z82 zo82 dX0_explore_10 rfl C2_457 rfl rfl zm125 rfl rfl (zwt_le (Nat.le_of_ble_eq_true rfl)) rfl
theorem s82_13 : zX (d + 1) 82 13 ls (zO o1 :: zI i0 :: zO (some a) :: [w0]) A K = zX d 304 0 [zO (some a), zI i0, zO o1] [] A (zK (d + 1) 82 13 16 ls [w0] K) := zx_callI z82 zo82 dX0_explore_13 rfl C2_458 rfl rfl zm304 rfl rfl (zwt_le (Nat.le_of_ble_eq_true rfl)) rfl
theorem s82_16 : zX d 82 16 [v0, v1, v2, v3, v4, v5, v6, v7, v8] (zO o :: st) A K = zX d 82 17 [v0, v1, v2, zO o, v4, v5, v6, v7, v8] st A K := zx_astore_n z82 dX0_explore_16 (Nat.le_of_ble_eq_true rfl) rfl rfl
theorem s82_17 : zX d 82 17 ls st A K = zX d 82 20 ls (zO (some (nx A)) :: st) (nO A 14) K := zx_new z82 zo82 dX0_explore_17 rfl rfl
theorem s82_20 (h : zc v = true) : zX d 82 20 ls (v :: st) A K = zX d 82 21 ls (v :: v :: st) A K := zx_dup z82 dX0_explore_20 rfl h
theorem s82_21 : zX (d + 1) 82 21 ls (zO (some a) :: [w0]) A K = zX d 259 0 [zO (some a)] [] A (zK (d + 1) 82 21 24 ls [w0] K) := zx_callI z82 zo82 dX0_explore_21 rfl C2_75 rfl rfl zm259 rfl rfl (zwt_le (Nat.le_of_ble_eq_true rfl)) rfl
theorem s82_24 : zX d 82 24 [v0, v1, v2, v3, v4, v5, v6, v7, v8] (zO o :: st) A K = zX d 82 26 [v0, v1, v2, v3, zO o, v5, v6, v7, v8] st A K := zx_astore z82 dX0_explore_24 (Nat.le_of_ble_eq_true rfl) rfl rfl
theorem s82_26 : zX d 82 26 [v0, v1, v2, zO o, v4, v5, v6, v7, v8] st A K = zX d 82 27 [v0, v1, v2, zO o, v4, v5, v6, v7, v8] (zO o :: st) A K := zx_aload_n z82 dX0_explore_26 rfl rfl
theorem s82_27 : zX d 82 27 [v0, zO o, v2, v3, v4, v5, v6, v7, v8] st A K = zX d 82 28 [v0, zO o, v2, v3, v4, v5, v6, v7, v8] (zO o :: st) A K := zx_aload_n z82 dX0_explore_27 rfl rfl
theorem s82_28 (h : tg A a = 15)  : zX (d + 1) 82 28 ls (zO o0 :: zO (some a) :: []) A K = zX d 305 0 [zO (some a), zO o0] [] A (zK (d + 1) 82 28 31 ls [] K) := zx_callV (t := 15) z82 zo82 dX0_explore_28 rfl C2_461 rfl rfl zm305 rfl rfl (zwt_le (Nat.le_of_ble_eq_true rfl)) rfl h
theorem s82_31 (h : zc v = true) : zX d 82 31 ls (v :: st) A K = zX d 82 32 ls st A K := zx_pop z82 dX0_explore_31 rfl h
theorem s82_32 : zX d 82 32 [v0, v1, v2, v3, zO o, v5, v6, v7, v8] st A K = zX d 82 34 [v0, v1, v2, v3, zO o, v5, v6, v7, v8] (zO o :: st) A K := zx_aload z82 dX0_explore_32 rfl rfl
theorem s82_34 : zX d 82 34 [v0, zO o, v2, v3, v4, v5, v6, v7, v8] st A K = zX d 82 35 [v0, zO o, v2, v3, v4, v5, v6, v7, v8] (zO o :: st) A K := zx_aload_n z82 dX0_explore_34 rfl rfl
theorem s82_35 (h : tg A a = 14)  : zX (d + 1) 82 35 ls (zO o0 :: zO (some a) :: []) A K = zX d 263 0 [zO (some a), zO o0] [] A (zK (d + 1) 82 35 38 ls [] K) := zx_callV (t := 14) z82 zo82 dX0_explore_35 rfl C2_303 rfl rfl zm263 rfl rfl (zwt_le (Nat.le_of_ble_eq_true rfl)) rfl h
theorem s82_38 (h : zc v = true) : zX d 82 38 ls (v :: st) A K = zX d 82 39 ls st A K := zx_pop z82 dX0_explore_38 rfl h
theorem s82_39 : zX d 82 39 ls st A K = zX d 82 40 ls (zI 0 :: st) A K := zx_const z82 dX0_explore_39 (by decide) rfl
theorem s82_40 : zX d 82 40 [v0, v1, v2, v3, v4, v5, v6, v7, v8] (zI x :: st) A K = zX d 82 42 [v0, v1, v2, v3, v4, zI x, v6, v7, v8] st A K := zx_istore z82 dX0_explore_40 (Nat.le_of_ble_eq_true rfl) rfl rfl
theorem s82_42 : zX d 82 42 [v0, v1, v2, v3, v4, zI x, v6, v7, v8] st A K = zX d 82 44 [v0, v1, v2, v3, v4, zI x, v6, v7, v8] (zI x :: st) A K := zx_iload z82 dX0_explore_42 rfl rfl
theorem s82_44 : zX d 82 44 [v0, v1, zI x, v3, v4, v5, v6, v7, v8] st A K = zX d 82 45 [v0, v1, zI x, v3, v4, v5, v6, v7, v8] (zI x :: st) A K := zx_iload_n z82 dX0_explore_44 rfl rfl
theorem s82_45 : zX d 82 45 ls (zI y :: zI x :: st) A K = (if y ≤ x then zX d 82 145 ls st A K else zX d 82 48 ls st A K) := zx_ic_ge z82 dX0_explore_45 rfl rfl
theorem s82_48 : zX d 82 48 [v0, v1, v2, zO o, v4, v5, v6, v7, v8] st A K = zX d 82 49 [v0, v1, v2, zO o, v4, v5, v6, v7, v8] (zO o :: st) A K := zx_aload_n z82 dX0_explore_48 rfl rfl
theorem s82_49 (h : tg A a = 15)  : zX (d + 1) 82 49 ls (zO (some a) :: []) A K = zX d 257 0 [zO (some a)] [] A (zK (d + 1) 82 49 52 ls [] K) := zx_callV (t := 15) z82 zo82 dX0_explore_49 rfl C2_462 rfl rfl zm257 rfl rfl (zwt_le (Nat.le_of_ble_eq_true rfl)) rfl h
theorem s82_52 : zX d 82 52 ls (zI x :: st) A K = (if x ≠ 0 then zX d 82 145 ls st A K else zX d 82 55 ls st A K) := zx_if_ne z82 dX0_explore_52 rfl rfl
theorem s82_55 : zX d 82 55 [v0, v1, v2, zO o, v4, v5, v6, v7, v8] st A K = zX d 82 56 [v0, v1, v2, zO o, v4, v5, v6, v7, v8] (zO o :: st) A K := zx_aload_n z82 dX0_explore_55 rfl rfl
theorem s82_56 (h : tg A a = 15)  : zX (d + 1) 82 56 ls (zO (some a) :: []) A K = zX d 311 0 [zO (some a), zU, zU, zU, zU, zU] [] A (zK (d + 1) 82 56 59 ls [] K) := zx_callV (t := 15) z82 zo82 dX0_explore_56 rfl C2_465 rfl rfl zm311 rfl rfl (zwt_le (Nat.le_of_ble_eq_true rfl)) rfl h
theorem s82_59 (h : ([4] : List Nat).contains (tg A a) = true) : zX d 82 59 ls (zO (some a) :: st) A K = zX d 82 62 ls (zO (some a) :: st) A K := zx_cast z82 zo82 dX0_explore_59 rfl rfl h
theorem s82_59n : zX d 82 59 ls (zO none :: st) A K = zX d 82 62 ls (zO none :: st) A K := zx_castN z82 zo82 dX0_explore_59 rfl rfl
theorem s82_62 : zX d 82 62 [v0, v1, v2, v3, v4, v5, v6, v7, v8] (zO o :: st) A K = zX d 82 64 [v0, v1, v2, v3, v4, v5, zO o, v7, v8] st A K := zx_astore z82 dX0_explore_62 (Nat.le_of_ble_eq_true rfl) rfl rfl
theorem s82_64 : zX d 82 64 [zO o, v1, v2, v3, v4, v5, v6, v7, v8] st A K = zX d 82 65 [zO o, v1, v2, v3, v4, v5, v6, v7, v8] (zO o :: st) A K := zx_aload_n z82 dX0_explore_64 rfl rfl
theorem s82_65 (h : tg A a = 1) : zX d 82 65 ls (zO (some a) :: st) A K = zX d 82 68 ls (fd A a 27 :: st) A K := zx_getf z82 zo82 dX0_explore_65 F2_105 rfl h
theorem s82_68 : zX d 82 68 [v0, v1, v2, v3, v4, zI x, v6, v7, v8] st A K = zX d 82 70 [v0, v1, v2, v3, v4, zI x, v6, v7, v8] (zI x :: st) A K := zx_iload z82 dX0_explore_68 rfl rfl
theorem s82_70 : zX d 82 70 [v0, v1, v2, v3, v4, v5, zO o, v7, v8] st A K = zX d 82 72 [v0, v1, v2, v3, v4, v5, zO o, v7, v8] (zO o :: st) A K := zx_aload z82 dX0_explore_70 rfl rfl
theorem s82_72 (h : 24 ≤ tg A a) (h4 : tg A a ≤ 28) (h0 : 0 ≤ x) (h1 : x.toNat < (ra A a).length) (h2 : ∀ b, o = some b → zel (tg A a) (tg A b) = true) : zX d 82 72 ls (zO o :: zI x :: zO (some a) :: st) A K = zX d 82 73 ls st (pR A a ((ra A a).set x.toNat o)) K := zx_aast z82 dX0_explore_72 rfl h h4 h0 h1 h2
theorem s82_73 : zX d 82 73 [v0, v1, v2, v3, v4, zI x, v6, v7, v8] st A K = zX d 82 76 [v0, v1, v2, v3, v4, zI (zw (x + 1)), v6, v7, v8] st A K := zx_iinc z82 dX0_explore_73 rfl rfl rfl
theorem s82_76 : zX d 82 76 ls st A K = zX d 82 77 ls (zI 0 :: st) A K := zx_const z82 dX0_explore_76 (by decide) rfl
theorem s82_77 : zX d 82 77 [v0, v1, v2, v3, v4, v5, v6, v7, v8] (zI x :: st) A K = zX d 82 79 [v0, v1, v2, v3, v4, v5, v6, zI x, v8] st A K := zx_istore z82 dX0_explore_77 (Nat.le_of_ble_eq_true rfl) rfl rfl
theorem s82_79 : zX d 82 79 [v0, v1, v2, v3, v4, v5, v6, zI x, v8] st A K = zX d 82 81 [v0, v1, v2, v3, v4, v5, v6, zI x, v8] (zI x :: st) A K := zx_iload z82 dX0_explore_79 rfl rfl
theorem s82_81 : zX d 82 81 [v0, v1, v2, v3, v4, v5, zO o, v7, v8] st A K = zX d 82 83 [v0, v1, v2, v3, v4, v5, zO o, v7, v8] (zO o :: st) A K := zx_aload z82 dX0_explore_81 rfl rfl
theorem s82_83 (h : tg A a = 4)  : zX (d + 1) 82 83 ls (zO (some a) :: [w0]) A K = zX d 108 0 [zO (some a)] [] A (zK (d + 1) 82 83 86 ls [w0] K) := zx_callV (t := 4) z82 zo82 dX0_explore_83 rfl C2_165 rfl rfl zm108 rfl rfl (zwt_le (Nat.le_of_ble_eq_true rfl)) rfl h
theorem s82_86 : zX d 82 86 ls (zI y :: zI x :: st) A K = (if y ≤ x then zX d 82 142 ls st A K else zX d 82 89 ls st A K) := zx_ic_ge z82 dX0_explore_86 rfl rfl
theorem s82_89 : zX d 82 89 [zO o, v1, v2, v3, v4, v5, v6, v7, v8] st A K = zX d 82 90 [zO o, v1, v2, v3, v4, v5, v6, v7, v8] (zO o :: st) A K := zx_aload_n z82 dX0_explore_89 rfl rfl
theorem s82_90 : zX d 82 90 [v0, v1, v2, v3, v4, v5, zO o, v7, v8] st A K = zX d 82 92 [v0, v1, v2, v3, v4, v5, zO o, v7, v8] (zO o :: st) A K := zx_aload z82 dX0_explore_90 rfl rfl
theorem s82_92 : zX d 82 92 [v0, v1, v2, v3, v4, v5, v6, zI x, v8] st A K = zX d 82 94 [v0, v1, v2, v3, v4, v5, v6, zI x, v8] (zI x :: st) A K := zx_iload z82 dX0_explore_92 rfl rfl
theorem s82_94 (h : tg A a = 1)  : zX (d + 1) 82 94 ls (zI i1 :: zO o0 :: zO (some a) :: []) A K = zX d 68 0 [zO (some a), zO o0, zI i1] [] A (zK (d + 1) 82 94 97 ls [] K) := zx_callV (t := 1) z82 zo82 dX0_explore_94 rfl C2_385 rfl rfl zm68 rfl rfl (zwt_le (Nat.le_of_ble_eq_true rfl)) rfl h
theorem s82_97 : zX d 82 97 ls (zI x :: st) A K = (if x = 0 then zX d 82 111 ls st A K else zX d 82 100 ls st A K) := zx_if_eq z82 dX0_explore_97 rfl rfl
theorem s82_100 : zX d 82 100 [zO o, v1, v2, v3, v4, v5, v6, v7, v8] st A K = zX d 82 101 [zO o, v1, v2, v3, v4, v5, v6, v7, v8] (zO o :: st) A K := zx_aload_n z82 dX0_explore_100 rfl rfl
theorem s82_101 : zX d 82 101 [v0, v1, v2, v3, v4, v5, zO o, v7, v8] st A K = zX d 82 103 [v0, v1, v2, v3, v4, v5, zO o, v7, v8] (zO o :: st) A K := zx_aload z82 dX0_explore_101 rfl rfl
theorem s82_103 : zX d 82 103 [v0, v1, v2, v3, v4, v5, v6, zI x, v8] st A K = zX d 82 105 [v0, v1, v2, v3, v4, v5, v6, zI x, v8] (zI x :: st) A K := zx_iload z82 dX0_explore_103 rfl rfl
theorem s82_105 (h : tg A a = 1)  : zX (d + 1) 82 105 ls (zI i1 :: zO o0 :: zO (some a) :: []) A K = zX d 72 0 [zO (some a), zO o0, zI i1, zU, zU, zU] [] A (zK (d + 1) 82 105 108 ls [] K) := zx_callV (t := 1) z82 zo82 dX0_explore_105 rfl C2_404 rfl rfl zm72 rfl rfl (zwt_le (Nat.le_of_ble_eq_true rfl)) rfl h
theorem s82_108 : zX d 82 108 ls st A K = zX d 82 112 ls st A K := zx_goto z82 dX0_explore_108 rfl
theorem s82_111 : zX d 82 111 ls st A K = zX d 82 112 ls (zO none :: st) A K := zx_null z82 dX0_explore_111 rfl
theorem s82_112 : zX d 82 112 [v0, v1, v2, v3, v4, v5, v6, v7, v8] (zO o :: st) A K = zX d 82 114 [v0, v1, v2, v3, v4, v5, v6, v7, zO o] st A K := zx_astore z82 dX0_explore_112 (Nat.le_of_ble_eq_true rfl) rfl rfl
theorem s82_114 : zX d 82 114 [v0, v1, v2, v3, v4, v5, v6, v7, zO o] st A K = zX d 82 116 [v0, v1, v2, v3, v4, v5, v6, v7, zO o] (zO o :: st) A K := zx_aload z82 dX0_explore_114 rfl rfl
theorem s82_116 : zX d 82 116 ls (zO o :: st) A K = (if o = none then zX d 82 136 ls st A K else zX d 82 119 ls st A K) := zx_ifnull z82 dX0_explore_116 rfl rfl
theorem s82_119 : zX d 82 119 [v0, v1, v2, v3, zO o, v5, v6, v7, v8] st A K = zX d 82 121 [v0, v1, v2, v3, zO o, v5, v6, v7, v8] (zO o :: st) A K := zx_aload z82 dX0_explore_119 rfl rfl
theorem s82_121 : zX d 82 121 [v0, v1, v2, v3, v4, v5, v6, v7, zO o] st A K = zX d 82 123 [v0, v1, v2, v3, v4, v5, v6, v7, zO o] (zO o :: st) A K := zx_aload z82 dX0_explore_121 rfl rfl
theorem s82_123 (h : tg A a = 14)  : zX (d + 1) 82 123 ls (zO o0 :: zO (some a) :: []) A K = zX d 263 0 [zO (some a), zO o0] [] A (zK (d + 1) 82 123 126 ls [] K) := zx_callV (t := 14) z82 zo82 dX0_explore_123 rfl C2_303 rfl rfl zm263 rfl rfl (zwt_le (Nat.le_of_ble_eq_true rfl)) rfl h
theorem s82_126 : zX d 82 126 ls (zI x :: st) A K = (if x = 0 then zX d 82 136 ls st A K else zX d 82 129 ls st A K) := zx_if_eq z82 dX0_explore_126 rfl rfl
theorem s82_129 : zX d 82 129 [v0, v1, v2, zO o, v4, v5, v6, v7, v8] st A K = zX d 82 130 [v0, v1, v2, zO o, v4, v5, v6, v7, v8] (zO o :: st) A K := zx_aload_n z82 dX0_explore_129 rfl rfl
theorem s82_130 : zX d 82 130 [v0, v1, v2, v3, v4, v5, v6, v7, zO o] st A K = zX d 82 132 [v0, v1, v2, v3, v4, v5, v6, v7, zO o] (zO o :: st) A K := zx_aload z82 dX0_explore_130 rfl rfl
theorem s82_132 (h : tg A a = 15)  : zX (d + 1) 82 132 ls (zO o0 :: zO (some a) :: []) A K = zX d 305 0 [zO (some a), zO o0] [] A (zK (d + 1) 82 132 135 ls [] K) := zx_callV (t := 15) z82 zo82 dX0_explore_132 rfl C2_461 rfl rfl zm305 rfl rfl (zwt_le (Nat.le_of_ble_eq_true rfl)) rfl h
theorem s82_135 (h : zc v = true) : zX d 82 135 ls (v :: st) A K = zX d 82 136 ls st A K := zx_pop z82 dX0_explore_135 rfl h
theorem s82_136 : zX d 82 136 [v0, v1, v2, v3, v4, v5, v6, zI x, v8] st A K = zX d 82 139 [v0, v1, v2, v3, v4, v5, v6, zI (zw (x + 1)), v8] st A K := zx_iinc z82 dX0_explore_136 rfl rfl rfl
theorem s82_139 : zX d 82 139 ls st A K = zX d 82 79 ls st A K := zx_goto z82 dX0_explore_139 rfl
theorem s82_142 : zX d 82 142 ls st A K = zX d 82 42 ls st A K := zx_goto z82 dX0_explore_142 rfl
theorem s82_145 : zX d 82 145 [v0, v1, v2, v3, v4, zI x, v6, v7, v8] st A K = zX d 82 147 [v0, v1, v2, v3, v4, zI x, v6, v7, v8] (zI x :: st) A K := zx_iload z82 dX0_explore_145 rfl rfl
theorem s82_147 : zX d 82 147 ls [zI x] A K = K (Sum.inl (some (zI x))) A := zx_iret z82 dX0_explore_147 zk82 rfl
theorem s83_0 : zX d 83 0 [zO o, v1, v2, v3, v4, v5, v6] st A K = zX d 83 1 [zO o, v1, v2, v3, v4, v5, v6] (zO o :: st) A K := zx_aload_n z83 dX0_exploredNormalForms_0 rfl rfl
theorem s83_1 : zX d 83 1 [v0, zI x, v2, v3, v4, v5, v6] st A K = zX d 83 2 [v0, zI x, v2, v3, v4, v5, v6] (zI x :: st) A K := zx_iload_n z83 dX0_exploredNormalForms_1 rfl rfl
theorem s83_2 : zX d 83 2 [v0, v1, zI x, v3, v4, v5, v6] st A K = zX d 83 3 [v0, v1, zI x, v3, v4, v5, v6] (zI x :: st) A K := zx_iload_n z83 dX0_exploredNormalForms_2 rfl rfl
theorem s83_3 (h : tg A a = 1)  : zX (d + 1) 83 3 ls (zI i1 :: zI i0 :: zO (some a) :: []) A K = zX d 81 0 [zO (some a), zI i0, zI i1] [] A (zK (d + 1) 83 3 6 ls [] K) := zx_callV (t := 1) z83 zo83 dX0_exploredNormalForms_3 rfl C2_470 rfl rfl zm81 rfl rfl (zwt_le (Nat.le_of_ble_eq_true rfl)) rfl h
theorem s83_6 : zX d 83 6 [v0, v1, v2, v3, v4, v5, v6] (zI x :: st) A K = zX d 83 7 [v0, v1, v2, zI x, v4, v5, v6] st A K := zx_istore_n z83 dX0_exploredNormalForms_6 (Nat.le_of_ble_eq_true rfl) rfl rfl
theorem s83_7 : zX d 83 7 [v0, v1, v2, zI x, v4, v5, v6] st A K = zX d 83 8 [v0, v1, v2, zI x, v4, v5, v6] (zI x :: st) A K := zx_iload_n z83 dX0_exploredNormalForms_7 rfl rfl
theorem s83_8 : zX d 83 8 ls (zI x :: st) A K = (if x = 0 then zX d 83 13 ls st A K else zX d 83 11 ls st A K) := zx_if_eq z83 dX0_exploredNormalForms_8 rfl rfl
theorem s83_11 : zX d 83 11 [v0, v1, v2, zI x, v4, v5, v6] st A K = zX d 83 12 [v0, v1, v2, zI x, v4, v5, v6] (zI x :: st) A K := zx_iload_n z83 dX0_exploredNormalForms_11 rfl rfl
theorem s83_12 : zX d 83 12 ls [zI x] A K = K (Sum.inl (some (zI x))) A := zx_iret z83 dX0_exploredNormalForms_12 zk83 rfl
theorem s83_13 : zX d 83 13 [zO o, v1, v2, v3, v4, v5, v6] st A K = zX d 83 14 [zO o, v1, v2, v3, v4, v5, v6] (zO o :: st) A K := zx_aload_n z83 dX0_exploredNormalForms_13 rfl rfl
theorem s83_14 : zX d 83 14 [zO o, v1, v2, v3, v4, v5, v6] st A K = zX d 83 15 [zO o, v1, v2, v3, v4, v5, v6] (zO o :: st) A K := zx_aload_n z83 dX0_exploredNormalForms_14 rfl rfl
theorem s83_15 (h : tg A a = 1) : zX d 83 15 ls (zO (some a) :: st) A K = zX d 83 18 ls (fd A a 3 :: st) A K := zx_getf z83 zo83 dX0_exploredNormalForms_15 F2_21 rfl h
theorem s83_18 : zX d 83 18 [v0, zI x, v2, v3, v4, v5, v6] st A K = zX d 83 19 [v0, zI x, v2, v3, v4, v5, v6] (zI x :: st) A K := zx_iload_n z83 dX0_exploredNormalForms_18 rfl rfl
theorem s83_19 (h : zarr (tg A a) = 3) (h0 : 0 ≤ x) (h1 : x.toNat < (ra A a).length) : zX d 83 19 ls (zI x :: zO (some a) :: st) A K = zX d 83 20 ls (zO ((ra A a).getD x.toNat none) :: st) A K := zx_aald z83 dX0_exploredNormalForms_19 rfl h h0 h1
theorem s83_20 : zX d 83 20 [v0, v1, zI x, v3, v4, v5, v6] st A K = zX d 83 21 [v0, v1, zI x, v3, v4, v5, v6] (zI x :: st) A K := zx_iload_n z83 dX0_exploredNormalForms_20 rfl rfl
theorem s83_21 (h : tg A a = 1)  : zX (d + 1) 83 21 ls (zI i1 :: zO o0 :: zO (some a) :: []) A K = zX d 82 0 [zO (some a), zO o0, zI i1, zU, zU, zU, zU, zU, zU] [] A (zK (d + 1) 83 21 24 ls [] K) := zx_callV (t := 1) z83 zo83 dX0_exploredNormalForms_21 rfl C2_473 rfl rfl zm82 rfl rfl (zwt_le (Nat.le_of_ble_eq_true rfl)) rfl h
theorem s83_24 : zX d 83 24 [v0, v1, v2, v3, v4, v5, v6] (zI x :: st) A K = zX d 83 26 [v0, v1, v2, v3, zI x, v5, v6] st A K := zx_istore z83 dX0_exploredNormalForms_24 (Nat.le_of_ble_eq_true rfl) rfl rfl
theorem s83_26 : zX d 83 26 ls st A K = zX d 83 27 ls (zI 0 :: st) A K := zx_const z83 dX0_exploredNormalForms_26 (by decide) rfl
theorem s83_27 : zX d 83 27 [v0, v1, v2, v3, v4, v5, v6] (zI x :: st) A K = zX d 83 29 [v0, v1, v2, v3, v4, zI x, v6] st A K := zx_istore z83 dX0_exploredNormalForms_27 (Nat.le_of_ble_eq_true rfl) rfl rfl
theorem s83_29 : zX d 83 29 ls st A K = zX d 83 30 ls (zI 0 :: st) A K := zx_const z83 dX0_exploredNormalForms_29 (by decide) rfl
theorem s83_30 : zX d 83 30 [v0, v1, v2, v3, v4, v5, v6] (zI x :: st) A K = zX d 83 32 [v0, v1, v2, v3, v4, v5, zI x] st A K := zx_istore z83 dX0_exploredNormalForms_30 (Nat.le_of_ble_eq_true rfl) rfl rfl
theorem s83_32 : zX d 83 32 [v0, v1, v2, v3, v4, v5, zI x] st A K = zX d 83 34 [v0, v1, v2, v3, v4, v5, zI x] (zI x :: st) A K := zx_iload z83 dX0_exploredNormalForms_32 rfl rfl
theorem s83_34 : zX d 83 34 [v0, v1, v2, v3, zI x, v5, v6] st A K = zX d 83 36 [v0, v1, v2, v3, zI x, v5, v6] (zI x :: st) A K := zx_iload z83 dX0_exploredNormalForms_34 rfl rfl
theorem s83_36 : zX d 83 36 ls (zI y :: zI x :: st) A K = (if y ≤ x then zX d 83 64 ls st A K else zX d 83 39 ls st A K) := zx_ic_ge z83 dX0_exploredNormalForms_36 rfl rfl
theorem s83_39 : zX d 83 39 [v0, v1, v2, v3, v4, zI x, v6] st A K = zX d 83 41 [v0, v1, v2, v3, v4, zI x, v6] (zI x :: st) A K := zx_iload z83 dX0_exploredNormalForms_39 rfl rfl
theorem s83_41 : zX d 83 41 [zO o, v1, v2, v3, v4, v5, v6] st A K = zX d 83 42 [zO o, v1, v2, v3, v4, v5, v6] (zO o :: st) A K := zx_aload_n z83 dX0_exploredNormalForms_41 rfl rfl
theorem s83_42 : zX d 83 42 [zO o, v1, v2, v3, v4, v5, v6] st A K = zX d 83 43 [zO o, v1, v2, v3, v4, v5, v6] (zO o :: st) A K := zx_aload_n z83 dX0_exploredNormalForms_42 rfl rfl
theorem s83_43 (h : tg A a = 1) : zX d 83 43 ls (zO (some a) :: st) A K = zX d 83 46 ls (fd A a 27 :: st) A K := zx_getf z83 zo83 dX0_exploredNormalForms_43 F2_105 rfl h
theorem s83_46 : zX d 83 46 [v0, v1, v2, v3, v4, v5, zI x] st A K = zX d 83 48 [v0, v1, v2, v3, v4, v5, zI x] (zI x :: st) A K := zx_iload z83 dX0_exploredNormalForms_46 rfl rfl
theorem s83_48 (h : zarr (tg A a) = 3) (h0 : 0 ≤ x) (h1 : x.toNat < (ra A a).length) : zX d 83 48 ls (zI x :: zO (some a) :: st) A K = zX d 83 49 ls (zO ((ra A a).getD x.toNat none) :: st) A K := zx_aald z83 dX0_exploredNormalForms_48 rfl h h0 h1
theorem s83_49 (h : tg A a = 1)  : zX (d + 1) 83 49 ls (zO o0 :: zO (some a) :: [w0]) A K = zX d 84 0 [zO (some a), zO o0] [] A (zK (d + 1) 83 49 52 ls [w0] K) := zx_callV (t := 1) z83 zo83 dX0_exploredNormalForms_49 rfl C2_476 rfl rfl zm84 rfl rfl (zwt_le (Nat.le_of_ble_eq_true rfl)) rfl h
theorem s83_52 : zX (d + 1) 83 52 ls (zI i0 :: [w0]) A K = zX d 30 0 [zI i0] [] A (zK (d + 1) 83 52 55 ls [w0] K) := zx_callS z83 zo83 dX0_exploredNormalForms_52 rfl C2_252 rfl rfl zm30 rfl rfl (zwt_le (Nat.le_of_ble_eq_true rfl)) rfl
theorem s83_55 : zX d 83 55 ls (zI y :: zI x :: st) A K = zX d 83 56 ls (zI (zw (x + y)) :: st) A K := zx_iadd z83 dX0_exploredNormalForms_55 rfl
theorem s83_56 : zX d 83 56 [v0, v1, v2, v3, v4, v5, v6] (zI x :: st) A K = zX d 83 58 [v0, v1, v2, v3, v4, zI x, v6] st A K := zx_istore z83 dX0_exploredNormalForms_56 (Nat.le_of_ble_eq_true rfl) rfl rfl
theorem s83_58 : zX d 83 58 [v0, v1, v2, v3, v4, v5, zI x] st A K = zX d 83 61 [v0, v1, v2, v3, v4, v5, zI (zw (x + 1))] st A K := zx_iinc z83 dX0_exploredNormalForms_58 rfl rfl rfl
theorem s83_61 : zX d 83 61 ls st A K = zX d 83 32 ls st A K := zx_goto z83 dX0_exploredNormalForms_61 rfl
theorem s83_64 : zX d 83 64 [v0, v1, v2, v3, v4, zI x, v6] st A K = zX d 83 66 [v0, v1, v2, v3, v4, zI x, v6] (zI x :: st) A K := zx_iload z83 dX0_exploredNormalForms_64 rfl rfl
theorem s83_66 : zX d 83 66 ls [zI x] A K = K (Sum.inl (some (zI x))) A := zx_iret z83 dX0_exploredNormalForms_66 zk83 rfl
theorem s84_0 : zX d 84 0 [zO o, v1] st A K = zX d 84 1 [zO o, v1] (zO o :: st) A K := zx_aload_n z84 dX0_isNormalForm_0 rfl rfl
theorem s84_1 : zX d 84 1 [v0, zO o] st A K = zX d 84 2 [v0, zO o] (zO o :: st) A K := zx_aload_n z84 dX0_isNormalForm_1 rfl rfl
theorem s84_2 (h : tg A a = 1)  : zX (d + 1) 84 2 ls (zO o0 :: zO (some a) :: []) A K = zX d 77 0 [zO (some a), zO o0, zU] [] A (zK (d + 1) 84 2 5 ls [] K) := zx_callV (t := 1) z84 zo84 dX0_isNormalForm_2 rfl C2_389 rfl rfl zm77 rfl rfl (zwt_le (Nat.le_of_ble_eq_true rfl)) rfl h
theorem s84_5 : zX d 84 5 ls st A K = zX d 84 7 ls (zI (-5) :: st) A K := zx_bipush z84 dX0_isNormalForm_5 (by decide) rfl
theorem s84_7 : zX d 84 7 ls (zI y :: zI x :: st) A K = (if x ≠ y then zX d 84 14 ls st A K else zX d 84 10 ls st A K) := zx_ic_ne z84 dX0_isNormalForm_7 rfl rfl
theorem s84_10 : zX d 84 10 ls st A K = zX d 84 11 ls (zI 1 :: st) A K := zx_const z84 dX0_isNormalForm_10 (by decide) rfl
theorem s84_11 : zX d 84 11 ls st A K = zX d 84 15 ls st A K := zx_goto z84 dX0_isNormalForm_11 rfl
theorem s84_14 : zX d 84 14 ls st A K = zX d 84 15 ls (zI 0 :: st) A K := zx_const z84 dX0_isNormalForm_14 (by decide) rfl
theorem s84_15 (h : x = 0 ∨ x = 1) : zX d 84 15 ls [zI x] A K = K (Sum.inl (some (zI x))) A := zx_iret z84 dX0_isNormalForm_15 zk84 (by rcases h with q | q <;> subst q <;> rfl)
theorem s85_0 : zX d 85 0 [zO o, v1, v2, v3] st A K = zX d 85 1 [zO o, v1, v2, v3] (zO o :: st) A K := zx_aload_n z85 dX0_lastExploredSize_0 rfl rfl
theorem s85_1 : zX d 85 1 [v0, zI x, v2, v3] st A K = zX d 85 2 [v0, zI x, v2, v3] (zI x :: st) A K := zx_iload_n z85 dX0_lastExploredSize_1 rfl rfl
theorem s85_2 : zX d 85 2 [v0, v1, zI x, v3] st A K = zX d 85 3 [v0, v1, zI x, v3] (zI x :: st) A K := zx_iload_n z85 dX0_lastExploredSize_2 rfl rfl
theorem s85_3 (h : tg A a = 1)  : zX (d + 1) 85 3 ls (zI i1 :: zI i0 :: zO (some a) :: []) A K = zX d 81 0 [zO (some a), zI i0, zI i1] [] A (zK (d + 1) 85 3 6 ls [] K) := zx_callV (t := 1) z85 zo85 dX0_lastExploredSize_3 rfl C2_470 rfl rfl zm81 rfl rfl (zwt_le (Nat.le_of_ble_eq_true rfl)) rfl h
theorem s85_6 : zX d 85 6 [v0, v1, v2, v3] (zI x :: st) A K = zX d 85 7 [v0, v1, v2, zI x] st A K := zx_istore_n z85 dX0_lastExploredSize_6 (Nat.le_of_ble_eq_true rfl) rfl rfl
theorem s85_7 : zX d 85 7 [v0, v1, v2, zI x] st A K = zX d 85 8 [v0, v1, v2, zI x] (zI x :: st) A K := zx_iload_n z85 dX0_lastExploredSize_7 rfl rfl
theorem s85_8 : zX d 85 8 ls (zI x :: st) A K = (if x = 0 then zX d 85 15 ls st A K else zX d 85 11 ls st A K) := zx_if_eq z85 dX0_lastExploredSize_8 rfl rfl
theorem s85_11 : zX d 85 11 [v0, v1, v2, zI x] st A K = zX d 85 12 [v0, v1, v2, zI x] (zI x :: st) A K := zx_iload_n z85 dX0_lastExploredSize_11 rfl rfl
theorem s85_12 : zX d 85 12 ls st A K = zX d 85 36 ls st A K := zx_goto z85 dX0_lastExploredSize_12 rfl
theorem s85_15 : zX d 85 15 [zO o, v1, v2, v3] st A K = zX d 85 16 [zO o, v1, v2, v3] (zO o :: st) A K := zx_aload_n z85 dX0_lastExploredSize_15 rfl rfl
theorem s85_16 (h : tg A a = 1) : zX d 85 16 ls (zO (some a) :: st) A K = zX d 85 19 ls (fd A a 27 :: st) A K := zx_getf z85 zo85 dX0_lastExploredSize_16 F2_105 rfl h
theorem s85_19 : zX d 85 19 [zO o, v1, v2, v3] st A K = zX d 85 20 [zO o, v1, v2, v3] (zO o :: st) A K := zx_aload_n z85 dX0_lastExploredSize_19 rfl rfl
theorem s85_20 : zX d 85 20 [zO o, v1, v2, v3] st A K = zX d 85 21 [zO o, v1, v2, v3] (zO o :: st) A K := zx_aload_n z85 dX0_lastExploredSize_20 rfl rfl
theorem s85_21 (h : tg A a = 1) : zX d 85 21 ls (zO (some a) :: st) A K = zX d 85 24 ls (fd A a 3 :: st) A K := zx_getf z85 zo85 dX0_lastExploredSize_21 F2_21 rfl h
theorem s85_24 : zX d 85 24 [v0, zI x, v2, v3] st A K = zX d 85 25 [v0, zI x, v2, v3] (zI x :: st) A K := zx_iload_n z85 dX0_lastExploredSize_24 rfl rfl
theorem s85_25 (h : zarr (tg A a) = 3) (h0 : 0 ≤ x) (h1 : x.toNat < (ra A a).length) : zX d 85 25 ls (zI x :: zO (some a) :: st) A K = zX d 85 26 ls (zO ((ra A a).getD x.toNat none) :: st) A K := zx_aald z85 dX0_lastExploredSize_25 rfl h h0 h1
theorem s85_26 : zX d 85 26 [v0, v1, zI x, v3] st A K = zX d 85 27 [v0, v1, zI x, v3] (zI x :: st) A K := zx_iload_n z85 dX0_lastExploredSize_26 rfl rfl
theorem s85_27 (h : tg A a = 1)  : zX (d + 1) 85 27 ls (zI i1 :: zO o0 :: zO (some a) :: [w0]) A K = zX d 82 0 [zO (some a), zO o0, zI i1, zU, zU, zU, zU, zU, zU] [] A (zK (d + 1) 85 27 30 ls [w0] K) := zx_callV (t := 1) z85 zo85 dX0_lastExploredSize_27 rfl C2_473 rfl rfl zm82 rfl rfl (zwt_le (Nat.le_of_ble_eq_true rfl)) rfl h
theorem s85_30 : zX d 85 30 ls st A K = zX d 85 31 ls (zI 1 :: st) A K := zx_const z85 dX0_lastExploredSize_30 (by decide) rfl
theorem s85_31 : zX d 85 31 ls (zI y :: zI x :: st) A K = zX d 85 32 ls (zI (zw (x - y)) :: st) A K := zx_isub z85 dX0_lastExploredSize_31 rfl
theorem s85_32 (h : zarr (tg A a) = 3) (h0 : 0 ≤ x) (h1 : x.toNat < (ra A a).length) : zX d 85 32 ls (zI x :: zO (some a) :: st) A K = zX d 85 33 ls (zO ((ra A a).getD x.toNat none) :: st) A K := zx_aald z85 dX0_lastExploredSize_32 rfl h h0 h1
theorem s85_33 (h : tg A a = 4)  : zX (d + 1) 85 33 ls (zO (some a) :: []) A K = zX d 108 0 [zO (some a)] [] A (zK (d + 1) 85 33 36 ls [] K) := zx_callV (t := 4) z85 zo85 dX0_lastExploredSize_33 rfl C2_165 rfl rfl zm108 rfl rfl (zwt_le (Nat.le_of_ble_eq_true rfl)) rfl h
theorem s85_36 : zX d 85 36 ls [zI x] A K = K (Sum.inl (some (zI x))) A := zx_iret z85 dX0_lastExploredSize_36 zk85 rfl
theorem s86_0 : zX d 86 0 [v0, zI x, v2, v3, v4, v5, v6, v7, v8] st A K = zX d 86 1 [v0, zI x, v2, v3, v4, v5, v6, v7, v8] (zI x :: st) A K := zx_iload_n z86 dX0_loadNormalForm_0 rfl rfl
theorem s86_1 : zX (d + 1) 86 1 ls (zI i0 :: []) A K = zX d 54 0 [zI i0] [] A (zK (d + 1) 86 1 4 ls [] K) := zx_callS z86 zo86 dX0_loadNormalForm_1 rfl C2_408 rfl rfl zm54 rfl rfl (zwt_le (Nat.le_of_ble_eq_true rfl)) rfl
theorem s86_4 : zX d 86 4 ls (zI x :: st) A K = (if x = 0 then zX d 86 14 ls st A K else zX d 86 7 ls st A K) := zx_if_eq z86 dX0_loadNormalForm_4 rfl rfl
theorem s86_7 : zX d 86 7 [v0, v1, v2, zI x, v4, v5, v6, v7, v8] st A K = zX d 86 8 [v0, v1, v2, zI x, v4, v5, v6, v7, v8] (zI x :: st) A K := zx_iload_n z86 dX0_loadNormalForm_7 rfl rfl
theorem s86_8 : zX (d + 1) 86 8 ls (zI i0 :: []) A K = zX d 54 0 [zI i0] [] A (zK (d + 1) 86 8 11 ls [] K) := zx_callS z86 zo86 dX0_loadNormalForm_8 rfl C2_408 rfl rfl zm54 rfl rfl (zwt_le (Nat.le_of_ble_eq_true rfl)) rfl
theorem s86_11 : zX d 86 11 ls (zI x :: st) A K = (if x ≠ 0 then zX d 86 16 ls st A K else zX d 86 14 ls st A K) := zx_if_ne z86 dX0_loadNormalForm_11 rfl rfl
theorem s86_14 : zX d 86 14 ls st A K = zX d 86 15 ls (zI (-1) :: st) A K := zx_const z86 dX0_loadNormalForm_14 (by decide) rfl
theorem s86_15 : zX d 86 15 ls [zI x] A K = K (Sum.inl (some (zI x))) A := zx_iret z86 dX0_loadNormalForm_15 zk86 rfl
theorem s86_16 : zX d 86 16 [zO o, v1, v2, v3, v4, v5, v6, v7, v8] st A K = zX d 86 17 [zO o, v1, v2, v3, v4, v5, v6, v7, v8] (zO o :: st) A K := zx_aload_n z86 dX0_loadNormalForm_16 rfl rfl
theorem s86_17 : zX d 86 17 [v0, zI x, v2, v3, v4, v5, v6, v7, v8] st A K = zX d 86 18 [v0, zI x, v2, v3, v4, v5, v6, v7, v8] (zI x :: st) A K := zx_iload_n z86 dX0_loadNormalForm_17 rfl rfl
theorem s86_18 : zX d 86 18 [v0, v1, zI x, v3, v4, v5, v6, v7, v8] st A K = zX d 86 19 [v0, v1, zI x, v3, v4, v5, v6, v7, v8] (zI x :: st) A K := zx_iload_n z86 dX0_loadNormalForm_18 rfl rfl
theorem s86_19 (h : tg A a = 1)  : zX (d + 1) 86 19 ls (zI i1 :: zI i0 :: zO (some a) :: []) A K = zX d 81 0 [zO (some a), zI i0, zI i1] [] A (zK (d + 1) 86 19 22 ls [] K) := zx_callV (t := 1) z86 zo86 dX0_loadNormalForm_19 rfl C2_470 rfl rfl zm81 rfl rfl (zwt_le (Nat.le_of_ble_eq_true rfl)) rfl h
theorem s86_22 : zX d 86 22 [v0, v1, v2, v3, v4, v5, v6, v7, v8] (zI x :: st) A K = zX d 86 24 [v0, v1, v2, v3, zI x, v5, v6, v7, v8] st A K := zx_istore z86 dX0_loadNormalForm_22 (Nat.le_of_ble_eq_true rfl) rfl rfl
theorem s86_24 : zX d 86 24 [v0, v1, v2, v3, zI x, v5, v6, v7, v8] st A K = zX d 86 26 [v0, v1, v2, v3, zI x, v5, v6, v7, v8] (zI x :: st) A K := zx_iload z86 dX0_loadNormalForm_24 rfl rfl
theorem s86_26 : zX d 86 26 ls (zI x :: st) A K = (if x = 0 then zX d 86 32 ls st A K else zX d 86 29 ls st A K) := zx_if_eq z86 dX0_loadNormalForm_26 rfl rfl
theorem s86_29 : zX d 86 29 [v0, v1, v2, v3, zI x, v5, v6, v7, v8] st A K = zX d 86 31 [v0, v1, v2, v3, zI x, v5, v6, v7, v8] (zI x :: st) A K := zx_iload z86 dX0_loadNormalForm_29 rfl rfl
theorem s86_31 : zX d 86 31 ls [zI x] A K = K (Sum.inl (some (zI x))) A := zx_iret z86 dX0_loadNormalForm_31 zk86 rfl
theorem s86_32 : zX d 86 32 [zO o, v1, v2, v3, v4, v5, v6, v7, v8] st A K = zX d 86 33 [zO o, v1, v2, v3, v4, v5, v6, v7, v8] (zO o :: st) A K := zx_aload_n z86 dX0_loadNormalForm_32 rfl rfl
theorem s86_33 : zX d 86 33 [zO o, v1, v2, v3, v4, v5, v6, v7, v8] st A K = zX d 86 34 [zO o, v1, v2, v3, v4, v5, v6, v7, v8] (zO o :: st) A K := zx_aload_n z86 dX0_loadNormalForm_33 rfl rfl
theorem s86_34 (h : tg A a = 1) : zX d 86 34 ls (zO (some a) :: st) A K = zX d 86 37 ls (fd A a 3 :: st) A K := zx_getf z86 zo86 dX0_loadNormalForm_34 F2_21 rfl h
theorem s86_37 : zX d 86 37 [v0, zI x, v2, v3, v4, v5, v6, v7, v8] st A K = zX d 86 38 [v0, zI x, v2, v3, v4, v5, v6, v7, v8] (zI x :: st) A K := zx_iload_n z86 dX0_loadNormalForm_37 rfl rfl
theorem s86_38 (h : zarr (tg A a) = 3) (h0 : 0 ≤ x) (h1 : x.toNat < (ra A a).length) : zX d 86 38 ls (zI x :: zO (some a) :: st) A K = zX d 86 39 ls (zO ((ra A a).getD x.toNat none) :: st) A K := zx_aald z86 dX0_loadNormalForm_38 rfl h h0 h1
theorem s86_39 : zX d 86 39 [v0, v1, zI x, v3, v4, v5, v6, v7, v8] st A K = zX d 86 40 [v0, v1, zI x, v3, v4, v5, v6, v7, v8] (zI x :: st) A K := zx_iload_n z86 dX0_loadNormalForm_39 rfl rfl
theorem s86_40 (h : tg A a = 1)  : zX (d + 1) 86 40 ls (zI i1 :: zO o0 :: zO (some a) :: []) A K = zX d 82 0 [zO (some a), zO o0, zI i1, zU, zU, zU, zU, zU, zU] [] A (zK (d + 1) 86 40 43 ls [] K) := zx_callV (t := 1) z86 zo86 dX0_loadNormalForm_40 rfl C2_473 rfl rfl zm82 rfl rfl (zwt_le (Nat.le_of_ble_eq_true rfl)) rfl h
theorem s86_43 : zX d 86 43 [v0, v1, v2, v3, v4, v5, v6, v7, v8] (zI x :: st) A K = zX d 86 45 [v0, v1, v2, v3, v4, zI x, v6, v7, v8] st A K := zx_istore z86 dX0_loadNormalForm_43 (Nat.le_of_ble_eq_true rfl) rfl rfl
theorem s86_45 : zX d 86 45 ls st A K = zX d 86 46 ls (zO none :: st) A K := zx_null z86 dX0_loadNormalForm_45 rfl
theorem s86_46 : zX d 86 46 [v0, v1, v2, v3, v4, v5, v6, v7, v8] (zO o :: st) A K = zX d 86 48 [v0, v1, v2, v3, v4, v5, zO o, v7, v8] st A K := zx_astore z86 dX0_loadNormalForm_46 (Nat.le_of_ble_eq_true rfl) rfl rfl
theorem s86_48 : zX d 86 48 ls st A K = zX d 86 49 ls (zI 0 :: st) A K := zx_const z86 dX0_loadNormalForm_48 (by decide) rfl
theorem s86_49 : zX d 86 49 [v0, v1, v2, v3, v4, v5, v6, v7, v8] (zI x :: st) A K = zX d 86 51 [v0, v1, v2, v3, v4, v5, v6, zI x, v8] st A K := zx_istore z86 dX0_loadNormalForm_49 (Nat.le_of_ble_eq_true rfl) rfl rfl
theorem s86_51 : zX d 86 51 [v0, v1, v2, v3, v4, v5, v6, zI x, v8] st A K = zX d 86 53 [v0, v1, v2, v3, v4, v5, v6, zI x, v8] (zI x :: st) A K := zx_iload z86 dX0_loadNormalForm_51 rfl rfl
theorem s86_53 : zX d 86 53 [v0, v1, v2, v3, v4, zI x, v6, v7, v8] st A K = zX d 86 55 [v0, v1, v2, v3, v4, zI x, v6, v7, v8] (zI x :: st) A K := zx_iload z86 dX0_loadNormalForm_53 rfl rfl
theorem s86_55 : zX d 86 55 ls (zI y :: zI x :: st) A K = (if y ≤ x then zX d 86 124 ls st A K else zX d 86 58 ls st A K) := zx_ic_ge z86 dX0_loadNormalForm_55 rfl rfl
theorem s86_58 : zX d 86 58 [v0, v1, v2, v3, v4, v5, zO o, v7, v8] st A K = zX d 86 60 [v0, v1, v2, v3, v4, v5, zO o, v7, v8] (zO o :: st) A K := zx_aload z86 dX0_loadNormalForm_58 rfl rfl
theorem s86_60 : zX d 86 60 ls (zO o :: st) A K = (if o = none then zX d 86 78 ls st A K else zX d 86 63 ls st A K) := zx_ifnull z86 dX0_loadNormalForm_60 rfl rfl
theorem s86_63 : zX d 86 63 [zO o, v1, v2, v3, v4, v5, v6, v7, v8] st A K = zX d 86 64 [zO o, v1, v2, v3, v4, v5, v6, v7, v8] (zO o :: st) A K := zx_aload_n z86 dX0_loadNormalForm_63 rfl rfl
theorem s86_64 (h : tg A a = 1) : zX d 86 64 ls (zO (some a) :: st) A K = zX d 86 67 ls (fd A a 27 :: st) A K := zx_getf z86 zo86 dX0_loadNormalForm_64 F2_105 rfl h
theorem s86_67 : zX d 86 67 [v0, v1, v2, v3, v4, v5, v6, zI x, v8] st A K = zX d 86 69 [v0, v1, v2, v3, v4, v5, v6, zI x, v8] (zI x :: st) A K := zx_iload z86 dX0_loadNormalForm_67 rfl rfl
theorem s86_69 (h : zarr (tg A a) = 3) (h0 : 0 ≤ x) (h1 : x.toNat < (ra A a).length) : zX d 86 69 ls (zI x :: zO (some a) :: st) A K = zX d 86 70 ls (zO ((ra A a).getD x.toNat none) :: st) A K := zx_aald z86 dX0_loadNormalForm_69 rfl h h0 h1
theorem s86_70 : zX d 86 70 [v0, v1, v2, v3, v4, v5, zO o, v7, v8] st A K = zX d 86 72 [v0, v1, v2, v3, v4, v5, zO o, v7, v8] (zO o :: st) A K := zx_aload z86 dX0_loadNormalForm_70 rfl rfl
theorem s86_72 (h : tg A a = 4)  : zX (d + 1) 86 72 ls (zO o0 :: zO (some a) :: []) A K = zX d 116 0 [zO (some a), zO o0, zU] [] A (zK (d + 1) 86 72 75 ls [] K) := zx_callV (t := 4) z86 zo86 dX0_loadNormalForm_72 rfl C2_434 rfl rfl zm116 rfl rfl (zwt_le (Nat.le_of_ble_eq_true rfl)) rfl h
theorem s86_75 : zX d 86 75 ls (zI x :: st) A K = (if 0 ≤ x then zX d 86 82 ls st A K else zX d 86 78 ls st A K) := zx_if_ge z86 dX0_loadNormalForm_75 rfl rfl
theorem s86_78 : zX d 86 78 ls st A K = zX d 86 79 ls (zI 1 :: st) A K := zx_const z86 dX0_loadNormalForm_78 (by decide) rfl
theorem s86_79 : zX d 86 79 ls st A K = zX d 86 83 ls st A K := zx_goto z86 dX0_loadNormalForm_79 rfl
theorem s86_82 : zX d 86 82 ls st A K = zX d 86 83 ls (zI 0 :: st) A K := zx_const z86 dX0_loadNormalForm_82 (by decide) rfl
theorem s86_83 : zX d 86 83 [v0, v1, v2, v3, v4, v5, v6, v7, v8] (zI x :: st) A K = zX d 86 85 [v0, v1, v2, v3, v4, v5, v6, v7, zI x] st A K := zx_istore z86 dX0_loadNormalForm_83 (Nat.le_of_ble_eq_true rfl) rfl rfl
theorem s86_85 : zX d 86 85 [v0, v1, v2, v3, v4, v5, v6, v7, zI x] st A K = zX d 86 87 [v0, v1, v2, v3, v4, v5, v6, v7, zI x] (zI x :: st) A K := zx_iload z86 dX0_loadNormalForm_85 rfl rfl
theorem s86_87 : zX d 86 87 ls (zI x :: st) A K = (if x = 0 then zX d 86 114 ls st A K else zX d 86 90 ls st A K) := zx_if_eq z86 dX0_loadNormalForm_87 rfl rfl
theorem s86_90 : zX d 86 90 [zO o, v1, v2, v3, v4, v5, v6, v7, v8] st A K = zX d 86 91 [zO o, v1, v2, v3, v4, v5, v6, v7, v8] (zO o :: st) A K := zx_aload_n z86 dX0_loadNormalForm_90 rfl rfl
theorem s86_91 : zX d 86 91 [zO o, v1, v2, v3, v4, v5, v6, v7, v8] st A K = zX d 86 92 [zO o, v1, v2, v3, v4, v5, v6, v7, v8] (zO o :: st) A K := zx_aload_n z86 dX0_loadNormalForm_91 rfl rfl
theorem s86_92 (h : tg A a = 1) : zX d 86 92 ls (zO (some a) :: st) A K = zX d 86 95 ls (fd A a 27 :: st) A K := zx_getf z86 zo86 dX0_loadNormalForm_92 F2_105 rfl h
theorem s86_95 : zX d 86 95 [v0, v1, v2, v3, v4, v5, v6, zI x, v8] st A K = zX d 86 97 [v0, v1, v2, v3, v4, v5, v6, zI x, v8] (zI x :: st) A K := zx_iload z86 dX0_loadNormalForm_95 rfl rfl
theorem s86_97 (h : zarr (tg A a) = 3) (h0 : 0 ≤ x) (h1 : x.toNat < (ra A a).length) : zX d 86 97 ls (zI x :: zO (some a) :: st) A K = zX d 86 98 ls (zO ((ra A a).getD x.toNat none) :: st) A K := zx_aald z86 dX0_loadNormalForm_97 rfl h h0 h1
theorem s86_98 (h : tg A a = 1)  : zX (d + 1) 86 98 ls (zO o0 :: zO (some a) :: []) A K = zX d 84 0 [zO (some a), zO o0] [] A (zK (d + 1) 86 98 101 ls [] K) := zx_callV (t := 1) z86 zo86 dX0_loadNormalForm_98 rfl C2_476 rfl rfl zm84 rfl rfl (zwt_le (Nat.le_of_ble_eq_true rfl)) rfl h
theorem s86_101 : zX d 86 101 ls (zI x :: st) A K = (if x = 0 then zX d 86 114 ls st A K else zX d 86 104 ls st A K) := zx_if_eq z86 dX0_loadNormalForm_101 rfl rfl
theorem s86_104 : zX d 86 104 [zO o, v1, v2, v3, v4, v5, v6, v7, v8] st A K = zX d 86 105 [zO o, v1, v2, v3, v4, v5, v6, v7, v8] (zO o :: st) A K := zx_aload_n z86 dX0_loadNormalForm_104 rfl rfl
theorem s86_105 (h : tg A a = 1) : zX d 86 105 ls (zO (some a) :: st) A K = zX d 86 108 ls (fd A a 27 :: st) A K := zx_getf z86 zo86 dX0_loadNormalForm_105 F2_105 rfl h
theorem s86_108 : zX d 86 108 [v0, v1, v2, v3, v4, v5, v6, zI x, v8] st A K = zX d 86 110 [v0, v1, v2, v3, v4, v5, v6, zI x, v8] (zI x :: st) A K := zx_iload z86 dX0_loadNormalForm_108 rfl rfl
theorem s86_110 (h : zarr (tg A a) = 3) (h0 : 0 ≤ x) (h1 : x.toNat < (ra A a).length) : zX d 86 110 ls (zI x :: zO (some a) :: st) A K = zX d 86 111 ls (zO ((ra A a).getD x.toNat none) :: st) A K := zx_aald z86 dX0_loadNormalForm_110 rfl h h0 h1
theorem s86_111 : zX d 86 111 ls st A K = zX d 86 116 ls st A K := zx_goto z86 dX0_loadNormalForm_111 rfl
theorem s86_114 : zX d 86 114 [v0, v1, v2, v3, v4, v5, zO o, v7, v8] st A K = zX d 86 116 [v0, v1, v2, v3, v4, v5, zO o, v7, v8] (zO o :: st) A K := zx_aload z86 dX0_loadNormalForm_114 rfl rfl
theorem s86_116 : zX d 86 116 [v0, v1, v2, v3, v4, v5, v6, v7, v8] (zO o :: st) A K = zX d 86 118 [v0, v1, v2, v3, v4, v5, zO o, v7, v8] st A K := zx_astore z86 dX0_loadNormalForm_116 (Nat.le_of_ble_eq_true rfl) rfl rfl
theorem s86_118 : zX d 86 118 [v0, v1, v2, v3, v4, v5, v6, zI x, v8] st A K = zX d 86 121 [v0, v1, v2, v3, v4, v5, v6, zI (zw (x + 1)), v8] st A K := zx_iinc z86 dX0_loadNormalForm_118 rfl rfl rfl
theorem s86_121 : zX d 86 121 ls st A K = zX d 86 51 ls st A K := zx_goto z86 dX0_loadNormalForm_121 rfl
theorem s86_124 : zX d 86 124 [v0, v1, v2, v3, v4, v5, zO o, v7, v8] st A K = zX d 86 126 [v0, v1, v2, v3, v4, v5, zO o, v7, v8] (zO o :: st) A K := zx_aload z86 dX0_loadNormalForm_124 rfl rfl
theorem s86_126 : zX d 86 126 ls (zO o :: st) A K = (if o ≠ none then zX d 86 134 ls st A K else zX d 86 129 ls st A K) := zx_ifnonnull z86 dX0_loadNormalForm_126 rfl rfl
theorem s86_129 : zX d 86 129 ls st A K = zX d 86 131 ls (zI (-5) :: st) A K := zx_bipush z86 dX0_loadNormalForm_129 (by decide) rfl
theorem s86_131 : zX d 86 131 ls st A K = zX d 86 141 ls st A K := zx_goto z86 dX0_loadNormalForm_131 rfl
theorem s86_134 : zX d 86 134 [zO o, v1, v2, v3, v4, v5, v6, v7, v8] st A K = zX d 86 135 [zO o, v1, v2, v3, v4, v5, v6, v7, v8] (zO o :: st) A K := zx_aload_n z86 dX0_loadNormalForm_134 rfl rfl
theorem s86_135 : zX d 86 135 [v0, v1, v2, v3, v4, v5, zO o, v7, v8] st A K = zX d 86 137 [v0, v1, v2, v3, v4, v5, zO o, v7, v8] (zO o :: st) A K := zx_aload z86 dX0_loadNormalForm_135 rfl rfl
theorem s86_137 : zX d 86 137 [v0, v1, v2, zI x, v4, v5, v6, v7, v8] st A K = zX d 86 138 [v0, v1, v2, zI x, v4, v5, v6, v7, v8] (zI x :: st) A K := zx_iload_n z86 dX0_loadNormalForm_137 rfl rfl
theorem s86_138 (h : tg A a = 1)  : zX (d + 1) 86 138 ls (zI i1 :: zO o0 :: zO (some a) :: []) A K = zX d 55 0 [zO (some a), zO o0, zI i1] [] A (zK (d + 1) 86 138 141 ls [] K) := zx_callV (t := 1) z86 zo86 dX0_loadNormalForm_138 rfl C2_414 rfl rfl zm55 rfl rfl (zwt_le (Nat.le_of_ble_eq_true rfl)) rfl h
theorem s86_141 : zX d 86 141 ls [zI x] A K = K (Sum.inl (some (zI x))) A := zx_iret z86 dX0_loadNormalForm_141 zk86 rfl
theorem s87_0 : zX d 87 0 ls st A K = zX d 87 1 ls (zI 0 :: st) A K := zx_const z87 dX0_normalFormRegisterCount_0 (by decide) rfl
theorem s87_1 : zX d 87 1 [v0, v1, v2, v3, v4, v5] (zI x :: st) A K = zX d 87 2 [v0, zI x, v2, v3, v4, v5] st A K := zx_istore_n z87 dX0_normalFormRegisterCount_1 (Nat.le_of_ble_eq_true rfl) rfl rfl
theorem s87_2 : zX d 87 2 [zO o, v1, v2, v3, v4, v5] st A K = zX d 87 3 [zO o, v1, v2, v3, v4, v5] (zO o :: st) A K := zx_aload_n z87 dX0_normalFormRegisterCount_2 rfl rfl
theorem s87_3 (h : tg A a = 1) : zX d 87 3 ls (zO (some a) :: st) A K = zX d 87 6 ls (fd A a 3 :: st) A K := zx_getf z87 zo87 dX0_normalFormRegisterCount_3 F2_21 rfl h
theorem s87_6 : zX d 87 6 [v0, v1, v2, v3, v4, v5] (zO o :: st) A K = zX d 87 7 [v0, v1, zO o, v3, v4, v5] st A K := zx_astore_n z87 dX0_normalFormRegisterCount_6 (Nat.le_of_ble_eq_true rfl) rfl rfl
theorem s87_7 : zX d 87 7 [v0, v1, zO o, v3, v4, v5] st A K = zX d 87 8 [v0, v1, zO o, v3, v4, v5] (zO o :: st) A K := zx_aload_n z87 dX0_normalFormRegisterCount_7 rfl rfl
theorem s87_8 (h : zarr (tg A a) ≠ 0) : zX d 87 8 ls (zO (some a) :: st) A K = zX d 87 9 ls (zI (zlen A a : Nat) :: st) A K := zx_alen z87 dX0_normalFormRegisterCount_8 rfl h
theorem s87_9 : zX d 87 9 [v0, v1, v2, v3, v4, v5] (zI x :: st) A K = zX d 87 10 [v0, v1, v2, zI x, v4, v5] st A K := zx_istore_n z87 dX0_normalFormRegisterCount_9 (Nat.le_of_ble_eq_true rfl) rfl rfl
theorem s87_10 : zX d 87 10 ls st A K = zX d 87 11 ls (zI 0 :: st) A K := zx_const z87 dX0_normalFormRegisterCount_10 (by decide) rfl
theorem s87_11 : zX d 87 11 [v0, v1, v2, v3, v4, v5] (zI x :: st) A K = zX d 87 13 [v0, v1, v2, v3, zI x, v5] st A K := zx_istore z87 dX0_normalFormRegisterCount_11 (Nat.le_of_ble_eq_true rfl) rfl rfl
theorem s87_13 : zX d 87 13 [v0, v1, v2, v3, zI x, v5] st A K = zX d 87 15 [v0, v1, v2, v3, zI x, v5] (zI x :: st) A K := zx_iload z87 dX0_normalFormRegisterCount_13 rfl rfl
theorem s87_15 : zX d 87 15 [v0, v1, v2, zI x, v4, v5] st A K = zX d 87 16 [v0, v1, v2, zI x, v4, v5] (zI x :: st) A K := zx_iload_n z87 dX0_normalFormRegisterCount_15 rfl rfl
theorem s87_16 : zX d 87 16 ls (zI y :: zI x :: st) A K = (if y ≤ x then zX d 87 43 ls st A K else zX d 87 19 ls st A K) := zx_ic_ge z87 dX0_normalFormRegisterCount_16 rfl rfl
theorem s87_19 : zX d 87 19 [v0, v1, zO o, v3, v4, v5] st A K = zX d 87 20 [v0, v1, zO o, v3, v4, v5] (zO o :: st) A K := zx_aload_n z87 dX0_normalFormRegisterCount_19 rfl rfl
theorem s87_20 : zX d 87 20 [v0, v1, v2, v3, zI x, v5] st A K = zX d 87 22 [v0, v1, v2, v3, zI x, v5] (zI x :: st) A K := zx_iload z87 dX0_normalFormRegisterCount_20 rfl rfl
theorem s87_22 (h : zarr (tg A a) = 3) (h0 : 0 ≤ x) (h1 : x.toNat < (ra A a).length) : zX d 87 22 ls (zI x :: zO (some a) :: st) A K = zX d 87 23 ls (zO ((ra A a).getD x.toNat none) :: st) A K := zx_aald z87 dX0_normalFormRegisterCount_22 rfl h h0 h1
theorem s87_23 : zX d 87 23 [v0, v1, v2, v3, v4, v5] (zO o :: st) A K = zX d 87 25 [v0, v1, v2, v3, v4, zO o] st A K := zx_astore z87 dX0_normalFormRegisterCount_23 (Nat.le_of_ble_eq_true rfl) rfl rfl
theorem s87_25 : zX d 87 25 [v0, zI x, v2, v3, v4, v5] st A K = zX d 87 26 [v0, zI x, v2, v3, v4, v5] (zI x :: st) A K := zx_iload_n z87 dX0_normalFormRegisterCount_25 rfl rfl
theorem s87_26 : zX d 87 26 [zO o, v1, v2, v3, v4, v5] st A K = zX d 87 27 [zO o, v1, v2, v3, v4, v5] (zO o :: st) A K := zx_aload_n z87 dX0_normalFormRegisterCount_26 rfl rfl
theorem s87_27 : zX d 87 27 [v0, v1, v2, v3, v4, zO o] st A K = zX d 87 29 [v0, v1, v2, v3, v4, zO o] (zO o :: st) A K := zx_aload z87 dX0_normalFormRegisterCount_27 rfl rfl
theorem s87_29 (h : tg A a = 1)  : zX (d + 1) 87 29 ls (zO o0 :: zO (some a) :: [w0]) A K = zX d 84 0 [zO (some a), zO o0] [] A (zK (d + 1) 87 29 32 ls [w0] K) := zx_callV (t := 1) z87 zo87 dX0_normalFormRegisterCount_29 rfl C2_476 rfl rfl zm84 rfl rfl (zwt_le (Nat.le_of_ble_eq_true rfl)) rfl h
theorem s87_32 : zX (d + 1) 87 32 ls (zI i0 :: [w0]) A K = zX d 30 0 [zI i0] [] A (zK (d + 1) 87 32 35 ls [w0] K) := zx_callS z87 zo87 dX0_normalFormRegisterCount_32 rfl C2_252 rfl rfl zm30 rfl rfl (zwt_le (Nat.le_of_ble_eq_true rfl)) rfl
theorem s87_35 : zX d 87 35 ls (zI y :: zI x :: st) A K = zX d 87 36 ls (zI (zw (x + y)) :: st) A K := zx_iadd z87 dX0_normalFormRegisterCount_35 rfl
theorem s87_36 : zX d 87 36 [v0, v1, v2, v3, v4, v5] (zI x :: st) A K = zX d 87 37 [v0, zI x, v2, v3, v4, v5] st A K := zx_istore_n z87 dX0_normalFormRegisterCount_36 (Nat.le_of_ble_eq_true rfl) rfl rfl
theorem s87_37 : zX d 87 37 [v0, v1, v2, v3, zI x, v5] st A K = zX d 87 40 [v0, v1, v2, v3, zI (zw (x + 1)), v5] st A K := zx_iinc z87 dX0_normalFormRegisterCount_37 rfl rfl rfl
theorem s87_40 : zX d 87 40 ls st A K = zX d 87 13 ls st A K := zx_goto z87 dX0_normalFormRegisterCount_40 rfl
theorem s87_43 : zX d 87 43 [v0, zI x, v2, v3, v4, v5] st A K = zX d 87 44 [v0, zI x, v2, v3, v4, v5] (zI x :: st) A K := zx_iload_n z87 dX0_normalFormRegisterCount_43 rfl rfl
theorem s87_44 : zX d 87 44 ls [zI x] A K = K (Sum.inl (some (zI x))) A := zx_iret z87 dX0_normalFormRegisterCount_44 zk87 rfl
theorem s88_0 : zX d 88 0 [zO o] st A K = zX d 88 1 [zO o] (zO o :: st) A K := zx_aload_n z88 dX0_saveSnapshot_0 rfl rfl
theorem s88_1 : zX d 88 1 ls st A K = zX d 88 2 ls (zI 1 :: st) A K := zx_const z88 dX0_saveSnapshot_1 (by decide) rfl
theorem s88_2 (h : tg A a = 1) (h2 : x = 0 ∨ x = 1) : zX d 88 2 ls (zI x :: zO (some a) :: st) A K = zX d 88 5 ls st (pF A a 28 (zI x)) K := zx_putf (q := 1) z88 zo88 dX0_saveSnapshot_2 F2_479 rfl rfl rfl h (by rcases h2 with q | q <;> subst q <;> rfl)
theorem s88_5 : zX d 88 5 [zO o] st A K = zX d 88 6 [zO o] (zO o :: st) A K := zx_aload_n z88 dX0_saveSnapshot_5 rfl rfl
theorem s88_6 (h : tg A a = 1) : zX d 88 6 ls (zO (some a) :: st) A K = zX d 88 9 ls (fd A a 0 :: st) A K := zx_getf z88 zo88 dX0_saveSnapshot_6 F2_7 rfl h
theorem s88_9 : zX d 88 9 ls st A K = zX d 88 10 ls (zI 0 :: st) A K := zx_const z88 dX0_saveSnapshot_9 (by decide) rfl
theorem s88_10 : zX d 88 10 [zO o] st A K = zX d 88 11 [zO o] (zO o :: st) A K := zx_aload_n z88 dX0_saveSnapshot_10 rfl rfl
theorem s88_11 (h : tg A a = 1) : zX d 88 11 ls (zO (some a) :: st) A K = zX d 88 14 ls (fd A a 29 :: st) A K := zx_getf z88 zo88 dX0_saveSnapshot_11 F2_108 rfl h
theorem s88_14 : zX d 88 14 ls st A K = zX d 88 15 ls (zI 0 :: st) A K := zx_const z88 dX0_saveSnapshot_14 (by decide) rfl
theorem s88_15 : zX d 88 15 ls st A K = zX d 88 16 ls (zI 3 :: st) A K := zx_const z88 dX0_saveSnapshot_15 (by decide) rfl
theorem s88_16i (h0 : 0 ≤ w) (h1 : 0 ≤ y) (h2 : 0 ≤ x) (h : tg A a = tg A b) (h6 : tg A b = 20 ∨ tg A b = 21) (h3 : x.toNat + w.toNat ≤ (ia A a).length) (h4 : y.toNat + w.toNat ≤ (ia A b).length) : zX d 88 16 ls (zI w :: zI y :: zO (some b) :: zI x :: zO (some a) :: []) A K = zX d 88 19 ls [] (pI A b (zcpy (ia A a) (ia A b) x.toNat y.toNat w.toNat)) K := zx_inS z88 zo88 dX0_saveSnapshot_16 rfl rfl rfl (zin_3i (zwt_le (Nat.le_of_ble_eq_true rfl)) h0 h1 h2 h h6 h3 h4)
theorem s88_16r (h0 : 0 ≤ w) (h1 : 0 ≤ y) (h2 : 0 ≤ x) (h : tg A a = tg A b) (h6 : tg A b = 24 ∨ tg A b = 25 ∨ tg A b = 28) (h3 : x.toNat + w.toNat ≤ (ra A a).length) (h4 : y.toNat + w.toNat ≤ (ra A b).length) : zX d 88 16 ls (zI w :: zI y :: zO (some b) :: zI x :: zO (some a) :: []) A K = zX d 88 19 ls [] (pR A b (zcpy (ra A a) (ra A b) x.toNat y.toNat w.toNat)) K := zx_inS z88 zo88 dX0_saveSnapshot_16 rfl rfl rfl (zin_3r (zwt_le (Nat.le_of_ble_eq_true rfl)) h0 h1 h2 h h6 h3 h4)
theorem s88_19 : zX d 88 19 [zO o] st A K = zX d 88 20 [zO o] (zO o :: st) A K := zx_aload_n z88 dX0_saveSnapshot_19 rfl rfl
theorem s88_20 (h : tg A a = 1) : zX d 88 20 ls (zO (some a) :: st) A K = zX d 88 23 ls (fd A a 1 :: st) A K := zx_getf z88 zo88 dX0_saveSnapshot_20 F2_15 rfl h
theorem s88_23 : zX d 88 23 ls st A K = zX d 88 24 ls (zI 0 :: st) A K := zx_const z88 dX0_saveSnapshot_23 (by decide) rfl
theorem s88_24 : zX d 88 24 [zO o] st A K = zX d 88 25 [zO o] (zO o :: st) A K := zx_aload_n z88 dX0_saveSnapshot_24 rfl rfl
theorem s88_25 (h : tg A a = 1) : zX d 88 25 ls (zO (some a) :: st) A K = zX d 88 28 ls (fd A a 30 :: st) A K := zx_getf z88 zo88 dX0_saveSnapshot_25 F2_111 rfl h
theorem s88_28 : zX d 88 28 ls st A K = zX d 88 29 ls (zI 0 :: st) A K := zx_const z88 dX0_saveSnapshot_28 (by decide) rfl
theorem s88_29 : zX d 88 29 ls st A K = zX d 88 31 ls (zI (6) :: st) A K := zx_bipush z88 dX0_saveSnapshot_29 (by decide) rfl
theorem s88_31i (h0 : 0 ≤ w) (h1 : 0 ≤ y) (h2 : 0 ≤ x) (h : tg A a = tg A b) (h6 : tg A b = 20 ∨ tg A b = 21) (h3 : x.toNat + w.toNat ≤ (ia A a).length) (h4 : y.toNat + w.toNat ≤ (ia A b).length) : zX d 88 31 ls (zI w :: zI y :: zO (some b) :: zI x :: zO (some a) :: []) A K = zX d 88 34 ls [] (pI A b (zcpy (ia A a) (ia A b) x.toNat y.toNat w.toNat)) K := zx_inS z88 zo88 dX0_saveSnapshot_31 rfl rfl rfl (zin_3i (zwt_le (Nat.le_of_ble_eq_true rfl)) h0 h1 h2 h h6 h3 h4)
theorem s88_31r (h0 : 0 ≤ w) (h1 : 0 ≤ y) (h2 : 0 ≤ x) (h : tg A a = tg A b) (h6 : tg A b = 24 ∨ tg A b = 25 ∨ tg A b = 28) (h3 : x.toNat + w.toNat ≤ (ra A a).length) (h4 : y.toNat + w.toNat ≤ (ra A b).length) : zX d 88 31 ls (zI w :: zI y :: zO (some b) :: zI x :: zO (some a) :: []) A K = zX d 88 34 ls [] (pR A b (zcpy (ra A a) (ra A b) x.toNat y.toNat w.toNat)) K := zx_inS z88 zo88 dX0_saveSnapshot_31 rfl rfl rfl (zin_3r (zwt_le (Nat.le_of_ble_eq_true rfl)) h0 h1 h2 h h6 h3 h4)
theorem s88_34 : zX d 88 34 [zO o] st A K = zX d 88 35 [zO o] (zO o :: st) A K := zx_aload_n z88 dX0_saveSnapshot_34 rfl rfl
theorem s88_35 : zX d 88 35 [zO o] st A K = zX d 88 36 [zO o] (zO o :: st) A K := zx_aload_n z88 dX0_saveSnapshot_35 rfl rfl
theorem s88_36 (h : tg A a = 1) : zX d 88 36 ls (zO (some a) :: st) A K = zX d 88 39 ls (fd A a 2 :: st) A K := zx_getf z88 zo88 dX0_saveSnapshot_36 F2_138 rfl h
theorem s88_39 (h : tg A a = 1) : zX d 88 39 ls (zI x :: zO (some a) :: st) A K = zX d 88 42 ls st (pF A a 31 (zI x)) K := zx_putf (q := 0) z88 zo88 dX0_saveSnapshot_39 F2_482 rfl rfl rfl h rfl
theorem s88_42 : zX d 88 42 [zO o] st A K = zX d 88 43 [zO o] (zO o :: st) A K := zx_aload_n z88 dX0_saveSnapshot_42 rfl rfl
theorem s88_43 (h : tg A a = 1) : zX d 88 43 ls (zO (some a) :: st) A K = zX d 88 46 ls (fd A a 3 :: st) A K := zx_getf z88 zo88 dX0_saveSnapshot_43 F2_21 rfl h
theorem s88_46 : zX d 88 46 ls st A K = zX d 88 47 ls (zI 0 :: st) A K := zx_const z88 dX0_saveSnapshot_46 (by decide) rfl
theorem s88_47 : zX d 88 47 [zO o] st A K = zX d 88 48 [zO o] (zO o :: st) A K := zx_aload_n z88 dX0_saveSnapshot_47 rfl rfl
theorem s88_48 (h : tg A a = 1) : zX d 88 48 ls (zO (some a) :: st) A K = zX d 88 51 ls (fd A a 32 :: st) A K := zx_getf z88 zo88 dX0_saveSnapshot_48 F2_114 rfl h
theorem s88_51 : zX d 88 51 ls st A K = zX d 88 52 ls (zI 0 :: st) A K := zx_const z88 dX0_saveSnapshot_51 (by decide) rfl
theorem s88_52 : zX d 88 52 ls st A K = zX d 88 53 ls (zI 4 :: st) A K := zx_const z88 dX0_saveSnapshot_52 (by decide) rfl
theorem s88_53i (h0 : 0 ≤ w) (h1 : 0 ≤ y) (h2 : 0 ≤ x) (h : tg A a = tg A b) (h6 : tg A b = 20 ∨ tg A b = 21) (h3 : x.toNat + w.toNat ≤ (ia A a).length) (h4 : y.toNat + w.toNat ≤ (ia A b).length) : zX d 88 53 ls (zI w :: zI y :: zO (some b) :: zI x :: zO (some a) :: []) A K = zX d 88 56 ls [] (pI A b (zcpy (ia A a) (ia A b) x.toNat y.toNat w.toNat)) K := zx_inS z88 zo88 dX0_saveSnapshot_53 rfl rfl rfl (zin_3i (zwt_le (Nat.le_of_ble_eq_true rfl)) h0 h1 h2 h h6 h3 h4)
theorem s88_53r (h0 : 0 ≤ w) (h1 : 0 ≤ y) (h2 : 0 ≤ x) (h : tg A a = tg A b) (h6 : tg A b = 24 ∨ tg A b = 25 ∨ tg A b = 28) (h3 : x.toNat + w.toNat ≤ (ra A a).length) (h4 : y.toNat + w.toNat ≤ (ra A b).length) : zX d 88 53 ls (zI w :: zI y :: zO (some b) :: zI x :: zO (some a) :: []) A K = zX d 88 56 ls [] (pR A b (zcpy (ra A a) (ra A b) x.toNat y.toNat w.toNat)) K := zx_inS z88 zo88 dX0_saveSnapshot_53 rfl rfl rfl (zin_3r (zwt_le (Nat.le_of_ble_eq_true rfl)) h0 h1 h2 h h6 h3 h4)
theorem s88_56 : zX d 88 56 [zO o] st A K = zX d 88 57 [zO o] (zO o :: st) A K := zx_aload_n z88 dX0_saveSnapshot_56 rfl rfl
theorem s88_57 (h : tg A a = 1) : zX d 88 57 ls (zO (some a) :: st) A K = zX d 88 60 ls (fd A a 2 :: st) A K := zx_getf z88 zo88 dX0_saveSnapshot_57 F2_138 rfl h
theorem s88_60 : zX d 88 60 ls [zI x] A K = K (Sum.inl (some (zI x))) A := zx_iret z88 dX0_saveSnapshot_60 zk88 rfl
theorem s89_0 : zX d 89 0 [zO o] st A K = zX d 89 1 [zO o] (zO o :: st) A K := zx_aload_n z89 dX0_restoreSnapshot_0 rfl rfl
theorem s89_1 (h : tg A a = 1) : zX d 89 1 ls (zO (some a) :: st) A K = zX d 89 4 ls (fd A a 28 :: st) A K := zx_getf z89 zo89 dX0_restoreSnapshot_1 F2_479 rfl h
theorem s89_4 : zX d 89 4 ls (zI x :: st) A K = (if x ≠ 0 then zX d 89 10 ls st A K else zX d 89 7 ls st A K) := zx_if_ne z89 dX0_restoreSnapshot_4 rfl rfl
theorem s89_7 : zX d 89 7 ls st A K = zX d 89 9 ls (zI (-3) :: st) A K := zx_bipush z89 dX0_restoreSnapshot_7 (by decide) rfl
theorem s89_9 : zX d 89 9 ls [zI x] A K = K (Sum.inl (some (zI x))) A := zx_iret z89 dX0_restoreSnapshot_9 zk89 rfl
theorem s89_10 : zX d 89 10 [zO o] st A K = zX d 89 11 [zO o] (zO o :: st) A K := zx_aload_n z89 dX0_restoreSnapshot_10 rfl rfl
theorem s89_11 (h : tg A a = 1) : zX d 89 11 ls (zO (some a) :: st) A K = zX d 89 14 ls (fd A a 29 :: st) A K := zx_getf z89 zo89 dX0_restoreSnapshot_11 F2_108 rfl h
theorem s89_14 : zX d 89 14 ls st A K = zX d 89 15 ls (zI 0 :: st) A K := zx_const z89 dX0_restoreSnapshot_14 (by decide) rfl
theorem s89_15 : zX d 89 15 [zO o] st A K = zX d 89 16 [zO o] (zO o :: st) A K := zx_aload_n z89 dX0_restoreSnapshot_15 rfl rfl
theorem s89_16 (h : tg A a = 1) : zX d 89 16 ls (zO (some a) :: st) A K = zX d 89 19 ls (fd A a 0 :: st) A K := zx_getf z89 zo89 dX0_restoreSnapshot_16 F2_7 rfl h
theorem s89_19 : zX d 89 19 ls st A K = zX d 89 20 ls (zI 0 :: st) A K := zx_const z89 dX0_restoreSnapshot_19 (by decide) rfl
theorem s89_20 : zX d 89 20 ls st A K = zX d 89 21 ls (zI 3 :: st) A K := zx_const z89 dX0_restoreSnapshot_20 (by decide) rfl
theorem s89_21i (h0 : 0 ≤ w) (h1 : 0 ≤ y) (h2 : 0 ≤ x) (h : tg A a = tg A b) (h6 : tg A b = 20 ∨ tg A b = 21) (h3 : x.toNat + w.toNat ≤ (ia A a).length) (h4 : y.toNat + w.toNat ≤ (ia A b).length) : zX d 89 21 ls (zI w :: zI y :: zO (some b) :: zI x :: zO (some a) :: []) A K = zX d 89 24 ls [] (pI A b (zcpy (ia A a) (ia A b) x.toNat y.toNat w.toNat)) K := zx_inS z89 zo89 dX0_restoreSnapshot_21 rfl rfl rfl (zin_3i (zwt_le (Nat.le_of_ble_eq_true rfl)) h0 h1 h2 h h6 h3 h4)
theorem s89_21r (h0 : 0 ≤ w) (h1 : 0 ≤ y) (h2 : 0 ≤ x) (h : tg A a = tg A b) (h6 : tg A b = 24 ∨ tg A b = 25 ∨ tg A b = 28) (h3 : x.toNat + w.toNat ≤ (ra A a).length) (h4 : y.toNat + w.toNat ≤ (ra A b).length) : zX d 89 21 ls (zI w :: zI y :: zO (some b) :: zI x :: zO (some a) :: []) A K = zX d 89 24 ls [] (pR A b (zcpy (ra A a) (ra A b) x.toNat y.toNat w.toNat)) K := zx_inS z89 zo89 dX0_restoreSnapshot_21 rfl rfl rfl (zin_3r (zwt_le (Nat.le_of_ble_eq_true rfl)) h0 h1 h2 h h6 h3 h4)
theorem s89_24 : zX d 89 24 [zO o] st A K = zX d 89 25 [zO o] (zO o :: st) A K := zx_aload_n z89 dX0_restoreSnapshot_24 rfl rfl
theorem s89_25 (h : tg A a = 1) : zX d 89 25 ls (zO (some a) :: st) A K = zX d 89 28 ls (fd A a 30 :: st) A K := zx_getf z89 zo89 dX0_restoreSnapshot_25 F2_111 rfl h
theorem s89_28 : zX d 89 28 ls st A K = zX d 89 29 ls (zI 0 :: st) A K := zx_const z89 dX0_restoreSnapshot_28 (by decide) rfl
theorem s89_29 : zX d 89 29 [zO o] st A K = zX d 89 30 [zO o] (zO o :: st) A K := zx_aload_n z89 dX0_restoreSnapshot_29 rfl rfl
theorem s89_30 (h : tg A a = 1) : zX d 89 30 ls (zO (some a) :: st) A K = zX d 89 33 ls (fd A a 1 :: st) A K := zx_getf z89 zo89 dX0_restoreSnapshot_30 F2_15 rfl h
theorem s89_33 : zX d 89 33 ls st A K = zX d 89 34 ls (zI 0 :: st) A K := zx_const z89 dX0_restoreSnapshot_33 (by decide) rfl
theorem s89_34 : zX d 89 34 ls st A K = zX d 89 36 ls (zI (6) :: st) A K := zx_bipush z89 dX0_restoreSnapshot_34 (by decide) rfl
theorem s89_36i (h0 : 0 ≤ w) (h1 : 0 ≤ y) (h2 : 0 ≤ x) (h : tg A a = tg A b) (h6 : tg A b = 20 ∨ tg A b = 21) (h3 : x.toNat + w.toNat ≤ (ia A a).length) (h4 : y.toNat + w.toNat ≤ (ia A b).length) : zX d 89 36 ls (zI w :: zI y :: zO (some b) :: zI x :: zO (some a) :: []) A K = zX d 89 39 ls [] (pI A b (zcpy (ia A a) (ia A b) x.toNat y.toNat w.toNat)) K := zx_inS z89 zo89 dX0_restoreSnapshot_36 rfl rfl rfl (zin_3i (zwt_le (Nat.le_of_ble_eq_true rfl)) h0 h1 h2 h h6 h3 h4)
theorem s89_36r (h0 : 0 ≤ w) (h1 : 0 ≤ y) (h2 : 0 ≤ x) (h : tg A a = tg A b) (h6 : tg A b = 24 ∨ tg A b = 25 ∨ tg A b = 28) (h3 : x.toNat + w.toNat ≤ (ra A a).length) (h4 : y.toNat + w.toNat ≤ (ra A b).length) : zX d 89 36 ls (zI w :: zI y :: zO (some b) :: zI x :: zO (some a) :: []) A K = zX d 89 39 ls [] (pR A b (zcpy (ra A a) (ra A b) x.toNat y.toNat w.toNat)) K := zx_inS z89 zo89 dX0_restoreSnapshot_36 rfl rfl rfl (zin_3r (zwt_le (Nat.le_of_ble_eq_true rfl)) h0 h1 h2 h h6 h3 h4)
theorem s89_39 : zX d 89 39 [zO o] st A K = zX d 89 40 [zO o] (zO o :: st) A K := zx_aload_n z89 dX0_restoreSnapshot_39 rfl rfl
theorem s89_40 : zX d 89 40 [zO o] st A K = zX d 89 41 [zO o] (zO o :: st) A K := zx_aload_n z89 dX0_restoreSnapshot_40 rfl rfl
theorem s89_41 (h : tg A a = 1) : zX d 89 41 ls (zO (some a) :: st) A K = zX d 89 44 ls (fd A a 31 :: st) A K := zx_getf z89 zo89 dX0_restoreSnapshot_41 F2_482 rfl h
theorem s89_44 (h : tg A a = 1) : zX d 89 44 ls (zI x :: zO (some a) :: st) A K = zX d 89 47 ls st (pF A a 2 (zI x)) K := zx_putf (q := 0) z89 zo89 dX0_restoreSnapshot_44 F2_138 rfl rfl rfl h rfl
theorem s89_47 : zX d 89 47 [zO o] st A K = zX d 89 48 [zO o] (zO o :: st) A K := zx_aload_n z89 dX0_restoreSnapshot_47 rfl rfl
theorem s89_48 (h : tg A a = 1) : zX d 89 48 ls (zO (some a) :: st) A K = zX d 89 51 ls (fd A a 32 :: st) A K := zx_getf z89 zo89 dX0_restoreSnapshot_48 F2_114 rfl h
theorem s89_51 : zX d 89 51 ls st A K = zX d 89 52 ls (zI 0 :: st) A K := zx_const z89 dX0_restoreSnapshot_51 (by decide) rfl
theorem s89_52 : zX d 89 52 [zO o] st A K = zX d 89 53 [zO o] (zO o :: st) A K := zx_aload_n z89 dX0_restoreSnapshot_52 rfl rfl
theorem s89_53 (h : tg A a = 1) : zX d 89 53 ls (zO (some a) :: st) A K = zX d 89 56 ls (fd A a 3 :: st) A K := zx_getf z89 zo89 dX0_restoreSnapshot_53 F2_21 rfl h
theorem s89_56 : zX d 89 56 ls st A K = zX d 89 57 ls (zI 0 :: st) A K := zx_const z89 dX0_restoreSnapshot_56 (by decide) rfl
theorem s89_57 : zX d 89 57 ls st A K = zX d 89 58 ls (zI 4 :: st) A K := zx_const z89 dX0_restoreSnapshot_57 (by decide) rfl
theorem s89_58i (h0 : 0 ≤ w) (h1 : 0 ≤ y) (h2 : 0 ≤ x) (h : tg A a = tg A b) (h6 : tg A b = 20 ∨ tg A b = 21) (h3 : x.toNat + w.toNat ≤ (ia A a).length) (h4 : y.toNat + w.toNat ≤ (ia A b).length) : zX d 89 58 ls (zI w :: zI y :: zO (some b) :: zI x :: zO (some a) :: []) A K = zX d 89 61 ls [] (pI A b (zcpy (ia A a) (ia A b) x.toNat y.toNat w.toNat)) K := zx_inS z89 zo89 dX0_restoreSnapshot_58 rfl rfl rfl (zin_3i (zwt_le (Nat.le_of_ble_eq_true rfl)) h0 h1 h2 h h6 h3 h4)
theorem s89_58r (h0 : 0 ≤ w) (h1 : 0 ≤ y) (h2 : 0 ≤ x) (h : tg A a = tg A b) (h6 : tg A b = 24 ∨ tg A b = 25 ∨ tg A b = 28) (h3 : x.toNat + w.toNat ≤ (ra A a).length) (h4 : y.toNat + w.toNat ≤ (ra A b).length) : zX d 89 58 ls (zI w :: zI y :: zO (some b) :: zI x :: zO (some a) :: []) A K = zX d 89 61 ls [] (pR A b (zcpy (ra A a) (ra A b) x.toNat y.toNat w.toNat)) K := zx_inS z89 zo89 dX0_restoreSnapshot_58 rfl rfl rfl (zin_3r (zwt_le (Nat.le_of_ble_eq_true rfl)) h0 h1 h2 h h6 h3 h4)
theorem s89_61 : zX d 89 61 [zO o] st A K = zX d 89 62 [zO o] (zO o :: st) A K := zx_aload_n z89 dX0_restoreSnapshot_61 rfl rfl
theorem s89_62 (h : tg A a = 1)  : zX (d + 1) 89 62 ls (zO (some a) :: []) A K = zX d 12 0 [zO (some a)] [] A (zK (d + 1) 89 62 65 ls [] K) := zx_callV (t := 1) z89 zo89 dX0_restoreSnapshot_62 rfl C2_184 rfl rfl zm12 rfl rfl (zwt_le (Nat.le_of_ble_eq_true rfl)) rfl h
theorem s89_65 : zX d 89 65 [zO o] st A K = zX d 89 66 [zO o] (zO o :: st) A K := zx_aload_n z89 dX0_restoreSnapshot_65 rfl rfl
theorem s89_66 (h : tg A a = 1) : zX d 89 66 ls (zO (some a) :: st) A K = zX d 89 69 ls (fd A a 2 :: st) A K := zx_getf z89 zo89 dX0_restoreSnapshot_66 F2_138 rfl h
theorem s89_69 : zX d 89 69 ls [zI x] A K = K (Sum.inl (some (zI x))) A := zx_iret z89 dX0_restoreSnapshot_69 zk89 rfl
end SS
