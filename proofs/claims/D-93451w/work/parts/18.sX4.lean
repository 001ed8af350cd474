set_option maxRecDepth 100000
set_option linter.unusedVariables false
section SS
variable {d : Nat} {st ls : List ZV} {A : AH} {K : ZR → AH → Prop} {v u v0 v1 v2 v3 v4 v5 v6 v7 v8 v9 v10 v11 v12 v13 v14 u0 u1 u2 u3 u4 u5 w0 w1 w2 w3 w4 w5 w6 w7 : ZV} {x y w i0 i1 i2 i3 i4 i5 : Int} {a b : Nat} {o0 o1 o2 o3 o4 o5 : Option Nat} {o : Option Nat}
theorem s126_0 : zX d 126 0 [zO o, v1] st A K = zX d 126 1 [zO o, v1] (zO o :: st) A K := zx_aload_n z126 dX4_init_0 rfl rfl
theorem s126_1 : zX d 126 1 ls (zO (some a) :: []) A K = zX d 126 4 ls [] A K := zx_inI z126 zo126 dX4_init_1 rfl rfl rfl (zin_1 (zwt_le (Nat.le_of_ble_eq_true rfl)))
theorem s126_4 : zX d 126 4 [zO o, v1] st A K = zX d 126 5 [zO o, v1] (zO o :: st) A K := zx_aload_n z126 dX4_init_4 rfl rfl
theorem s126_5 : zX d 126 5 ls st A K = zX d 126 6 ls (zI 3 :: st) A K := zx_const z126 dX4_init_5 (by decide) rfl
theorem s126_6 (h : 0 ≤ x) (h2 : x ≤ 1000000) : zX d 126 6 ls (zI x :: st) A K = zX d 126 8 ls (zO (some (nx A)) :: st) (nA A 20 (List.replicate x.toNat 0)) K := zx_new_int z126 dX4_init_6 rfl h h2
theorem s126_8 (h : tg A a = 9) : zX d 126 8 ls (zO o :: zO (some a) :: st) A K = zX d 126 11 ls st (pF A a 0 (zO o)) K := zx_putf (q := 3) z126 zo126 dX4_init_8 F10_9 rfl rfl rfl h rfl
theorem s126_11 : zX d 126 11 [zO o, v1] st A K = zX d 126 12 [zO o, v1] (zO o :: st) A K := zx_aload_n z126 dX4_init_11 rfl rfl
theorem s126_12 : zX d 126 12 ls st A K = zX d 126 13 ls (zI 3 :: st) A K := zx_const z126 dX4_init_12 (by decide) rfl
theorem s126_13 (h : 0 ≤ x) (h2 : x ≤ 1000000) : zX d 126 13 ls (zI x :: st) A K = zX d 126 15 ls (zO (some (nx A)) :: st) (nA A 20 (List.replicate x.toNat 0)) K := zx_new_int z126 dX4_init_13 rfl h h2
theorem s126_15 (h : tg A a = 9) : zX d 126 15 ls (zO o :: zO (some a) :: st) A K = zX d 126 18 ls st (pF A a 1 (zO o)) K := zx_putf (q := 3) z126 zo126 dX4_init_15 F10_13 rfl rfl rfl h rfl
theorem s126_18 : zX d 126 18 [zO o, v1] st A K = zX d 126 19 [zO o, v1] (zO o :: st) A K := zx_aload_n z126 dX4_init_18 rfl rfl
theorem s126_19 : zX d 126 19 ls st A K = zX d 126 22 ls (zI (1152) :: st) A K := zx_sipush z126 dX4_init_19 (by decide) rfl
theorem s126_22 (h : 0 ≤ x) (h2 : x ≤ 1000000) : zX d 126 22 ls (zI x :: st) A K = zX d 126 24 ls (zO (some (nx A)) :: st) (nA A 20 (List.replicate x.toNat 0)) K := zx_new_int z126 dX4_init_22 rfl h h2
theorem s126_24 (h : tg A a = 9) : zX d 126 24 ls (zO o :: zO (some a) :: st) A K = zX d 126 27 ls st (pF A a 2 (zO o)) K := zx_putf (q := 3) z126 zo126 dX4_init_24 F10_16 rfl rfl rfl h rfl
theorem s126_27 : zX d 126 27 [zO o, v1] st A K = zX d 126 28 [zO o, v1] (zO o :: st) A K := zx_aload_n z126 dX4_init_27 rfl rfl
theorem s126_28 : zX d 126 28 ls st A K = zX d 126 31 ls (zI (1152) :: st) A K := zx_sipush z126 dX4_init_28 (by decide) rfl
theorem s126_31 (h : 0 ≤ x) (h2 : x ≤ 1000000) : zX d 126 31 ls (zI x :: st) A K = zX d 126 33 ls (zO (some (nx A)) :: st) (nA A 20 (List.replicate x.toNat 0)) K := zx_new_int z126 dX4_init_31 rfl h h2
theorem s126_33 (h : tg A a = 9) : zX d 126 33 ls (zO o :: zO (some a) :: st) A K = zX d 126 36 ls st (pF A a 3 (zO o)) K := zx_putf (q := 3) z126 zo126 dX4_init_33 F10_19 rfl rfl rfl h rfl
theorem s126_36 : zX d 126 36 [zO o, v1] st A K = zX d 126 37 [zO o, v1] (zO o :: st) A K := zx_aload_n z126 dX4_init_36 rfl rfl
theorem s126_37 : zX d 126 37 ls st A K = zX d 126 40 ls (zI (384) :: st) A K := zx_sipush z126 dX4_init_37 (by decide) rfl
theorem s126_40 (h : 0 ≤ x) (h2 : x ≤ 1000000) : zX d 126 40 ls (zI x :: st) A K = zX d 126 42 ls (zO (some (nx A)) :: st) (nA A 20 (List.replicate x.toNat 0)) K := zx_new_int z126 dX4_init_40 rfl h h2
theorem s126_42 (h : tg A a = 9) : zX d 126 42 ls (zO o :: zO (some a) :: st) A K = zX d 126 45 ls st (pF A a 4 (zO o)) K := zx_putf (q := 3) z126 zo126 dX4_init_42 F10_22 rfl rfl rfl h rfl
theorem s126_45 : zX d 126 45 [zO o, v1] st A K = zX d 126 46 [zO o, v1] (zO o :: st) A K := zx_aload_n z126 dX4_init_45 rfl rfl
theorem s126_46 : zX d 126 46 ls st A K = zX d 126 49 ls (zI (384) :: st) A K := zx_sipush z126 dX4_init_46 (by decide) rfl
theorem s126_49 (h : 0 ≤ x) (h2 : x ≤ 1000000) : zX d 126 49 ls (zI x :: st) A K = zX d 126 51 ls (zO (some (nx A)) :: st) (nA A 20 (List.replicate x.toNat 0)) K := zx_new_int z126 dX4_init_49 rfl h h2
theorem s126_51 (h : tg A a = 9) : zX d 126 51 ls (zO o :: zO (some a) :: st) A K = zX d 126 54 ls st (pF A a 5 (zO o)) K := zx_putf (q := 3) z126 zo126 dX4_init_51 F10_25 rfl rfl rfl h rfl
theorem s126_54 : zX d 126 54 [zO o, v1] st A K = zX d 126 55 [zO o, v1] (zO o :: st) A K := zx_aload_n z126 dX4_init_54 rfl rfl
theorem s126_55 : zX d 126 55 ls st A K = zX d 126 56 ls (zI 3 :: st) A K := zx_const z126 dX4_init_55 (by decide) rfl
theorem s126_56 (h : 0 ≤ x) (h2 : x ≤ 1000000) : zX d 126 56 ls (zI x :: st) A K = zX d 126 58 ls (zO (some (nx A)) :: st) (nA A 20 (List.replicate x.toNat 0)) K := zx_new_int z126 dX4_init_56 rfl h h2
theorem s126_58 (h : tg A a = 9) : zX d 126 58 ls (zO o :: zO (some a) :: st) A K = zX d 126 61 ls st (pF A a 9 (zO o)) K := zx_putf (q := 3) z126 zo126 dX4_init_58 F10_28 rfl rfl rfl h rfl
theorem s126_61 : zX d 126 61 [zO o, v1] st A K = zX d 126 62 [zO o, v1] (zO o :: st) A K := zx_aload_n z126 dX4_init_61 rfl rfl
theorem s126_62 : zX d 126 62 ls st A K = zX d 126 63 ls (zI 3 :: st) A K := zx_const z126 dX4_init_62 (by decide) rfl
theorem s126_63 (h : 0 ≤ x) (h2 : x ≤ 1000000) : zX d 126 63 ls (zI x :: st) A K = zX d 126 65 ls (zO (some (nx A)) :: st) (nA A 20 (List.replicate x.toNat 0)) K := zx_new_int z126 dX4_init_63 rfl h h2
theorem s126_65 (h : tg A a = 9) : zX d 126 65 ls (zO o :: zO (some a) :: st) A K = zX d 126 68 ls st (pF A a 10 (zO o)) K := zx_putf (q := 3) z126 zo126 dX4_init_65 F10_31 rfl rfl rfl h rfl
theorem s126_68 : zX d 126 68 [zO o, v1] st A K = zX d 126 69 [zO o, v1] (zO o :: st) A K := zx_aload_n z126 dX4_init_68 rfl rfl
theorem s126_69 : zX d 126 69 ls st A K = zX d 126 71 ls (zI (96) :: st) A K := zx_bipush z126 dX4_init_69 (by decide) rfl
theorem s126_71 (h : 0 ≤ x) (h2 : x ≤ 1000000) : zX d 126 71 ls (zI x :: st) A K = zX d 126 73 ls (zO (some (nx A)) :: st) (nA A 20 (List.replicate x.toNat 0)) K := zx_new_int z126 dX4_init_71 rfl h h2
theorem s126_73 (h : tg A a = 9) : zX d 126 73 ls (zO o :: zO (some a) :: st) A K = zX d 126 76 ls st (pF A a 11 (zO o)) K := zx_putf (q := 3) z126 zo126 dX4_init_73 F10_34 rfl rfl rfl h rfl
theorem s126_76 : zX d 126 76 [zO o, v1] st A K = zX d 126 77 [zO o, v1] (zO o :: st) A K := zx_aload_n z126 dX4_init_76 rfl rfl
theorem s126_77 : zX d 126 77 ls st A K = zX d 126 79 ls (zI (80) :: st) A K := zx_bipush z126 dX4_init_77 (by decide) rfl
theorem s126_79 (h : 0 ≤ x) (h2 : x ≤ 1000000) : zX d 126 79 ls (zI x :: st) A K = zX d 126 81 ls (zO (some (nx A)) :: st) (nA A 20 (List.replicate x.toNat 0)) K := zx_new_int z126 dX4_init_79 rfl h h2
theorem s126_81 (h : tg A a = 9) : zX d 126 81 ls (zO o :: zO (some a) :: st) A K = zX d 126 84 ls st (pF A a 12 (zO o)) K := zx_putf (q := 3) z126 zo126 dX4_init_81 F10_37 rfl rfl rfl h rfl
theorem s126_84 : zX d 126 84 [zO o, v1] st A K = zX d 126 85 [zO o, v1] (zO o :: st) A K := zx_aload_n z126 dX4_init_84 rfl rfl
theorem s126_85 : zX d 126 85 ls st A K = zX d 126 87 ls (zI (96) :: st) A K := zx_bipush z126 dX4_init_85 (by decide) rfl
theorem s126_87 (h : 0 ≤ x) (h2 : x ≤ 1000000) : zX d 126 87 ls (zI x :: st) A K = zX d 126 89 ls (zO (some (nx A)) :: st) (nA A 20 (List.replicate x.toNat 0)) K := zx_new_int z126 dX4_init_87 rfl h h2
theorem s126_89 (h : tg A a = 9) : zX d 126 89 ls (zO o :: zO (some a) :: st) A K = zX d 126 92 ls st (pF A a 13 (zO o)) K := zx_putf (q := 3) z126 zo126 dX4_init_89 F10_40 rfl rfl rfl h rfl
theorem s126_92 : zX d 126 92 [zO o, v1] st A K = zX d 126 93 [zO o, v1] (zO o :: st) A K := zx_aload_n z126 dX4_init_92 rfl rfl
theorem s126_93 : zX d 126 93 ls st A K = zX d 126 95 ls (zI (96) :: st) A K := zx_bipush z126 dX4_init_93 (by decide) rfl
theorem s126_95 (h : 0 ≤ x) (h2 : x ≤ 1000000) : zX d 126 95 ls (zI x :: st) A K = zX d 126 97 ls (zO (some (nx A)) :: st) (nA A 20 (List.replicate x.toNat 0)) K := zx_new_int z126 dX4_init_95 rfl h h2
theorem s126_97 (h : tg A a = 9) : zX d 126 97 ls (zO o :: zO (some a) :: st) A K = zX d 126 100 ls st (pF A a 14 (zO o)) K := zx_putf (q := 3) z126 zo126 dX4_init_97 F10_43 rfl rfl rfl h rfl
theorem s126_100 : zX d 126 100 [zO o, v1] st A K = zX d 126 101 [zO o, v1] (zO o :: st) A K := zx_aload_n z126 dX4_init_100 rfl rfl
theorem s126_101 : zX d 126 101 ls st A K = zX d 126 104 ls (zI (240) :: st) A K := zx_sipush z126 dX4_init_101 (by decide) rfl
theorem s126_104 (h : 0 ≤ x) (h2 : x ≤ 1000000) : zX d 126 104 ls (zI x :: st) A K = zX d 126 106 ls (zO (some (nx A)) :: st) (nA A 20 (List.replicate x.toNat 0)) K := zx_new_int z126 dX4_init_104 rfl h h2
theorem s126_106 (h : tg A a = 9) : zX d 126 106 ls (zO o :: zO (some a) :: st) A K = zX d 126 109 ls st (pF A a 17 (zO o)) K := zx_putf (q := 3) z126 zo126 dX4_init_106 F10_46 rfl rfl rfl h rfl
theorem s126_109 : zX d 126 109 [zO o, v1] st A K = zX d 126 110 [zO o, v1] (zO o :: st) A K := zx_aload_n z126 dX4_init_109 rfl rfl
theorem s126_110 : zX d 126 110 ls st A K = zX d 126 113 ls (zI (240) :: st) A K := zx_sipush z126 dX4_init_110 (by decide) rfl
theorem s126_113 (h : 0 ≤ x) (h2 : x ≤ 1000000) : zX d 126 113 ls (zI x :: st) A K = zX d 126 115 ls (zO (some (nx A)) :: st) (nA A 20 (List.replicate x.toNat 0)) K := zx_new_int z126 dX4_init_113 rfl h h2
theorem s126_115 (h : tg A a = 9) : zX d 126 115 ls (zO o :: zO (some a) :: st) A K = zX d 126 118 ls st (pF A a 18 (zO o)) K := zx_putf (q := 3) z126 zo126 dX4_init_115 F10_49 rfl rfl rfl h rfl
theorem s126_118 : zX d 126 118 [zO o, v1] st A K = zX d 126 119 [zO o, v1] (zO o :: st) A K := zx_aload_n z126 dX4_init_118 rfl rfl
theorem s126_119 : zX d 126 119 ls st A K = zX d 126 122 ls (zI (960) :: st) A K := zx_sipush z126 dX4_init_119 (by decide) rfl
theorem s126_122 (h : 0 ≤ x) (h2 : x ≤ 1000000) : zX d 126 122 ls (zI x :: st) A K = zX d 126 124 ls (zO (some (nx A)) :: st) (nJ A 23 (List.replicate x.toNat 0)) K := zx_new_long z126 dX4_init_122 rfl h h2
theorem s126_124 (h : tg A a = 9) : zX d 126 124 ls (zO o :: zO (some a) :: st) A K = zX d 126 127 ls st (pF A a 19 (zO o)) K := zx_putf (q := 3) z126 zo126 dX4_init_124 F10_52 rfl rfl rfl h rfl
theorem s126_127 : zX d 126 127 [zO o, v1] st A K = zX d 126 128 [zO o, v1] (zO o :: st) A K := zx_aload_n z126 dX4_init_127 rfl rfl
theorem s126_128 : zX d 126 128 ls st A K = zX d 126 131 ls (zI (960) :: st) A K := zx_sipush z126 dX4_init_128 (by decide) rfl
theorem s126_131 (h : 0 ≤ x) (h2 : x ≤ 1000000) : zX d 126 131 ls (zI x :: st) A K = zX d 126 133 ls (zO (some (nx A)) :: st) (nJ A 23 (List.replicate x.toNat 0)) K := zx_new_long z126 dX4_init_131 rfl h h2
theorem s126_133 (h : tg A a = 9) : zX d 126 133 ls (zO o :: zO (some a) :: st) A K = zX d 126 136 ls st (pF A a 20 (zO o)) K := zx_putf (q := 3) z126 zo126 dX4_init_133 F10_56 rfl rfl rfl h rfl
theorem s126_136 : zX d 126 136 [zO o, v1] st A K = zX d 126 137 [zO o, v1] (zO o :: st) A K := zx_aload_n z126 dX4_init_136 rfl rfl
theorem s126_137 : zX d 126 137 ls st A K = zX d 126 140 ls (zI (240) :: st) A K := zx_sipush z126 dX4_init_137 (by decide) rfl
theorem s126_140 (h : 0 ≤ x) (h2 : x ≤ 1000000) : zX d 126 140 ls (zI x :: st) A K = zX d 126 142 ls (zO (some (nx A)) :: st) (nA A 22 (List.replicate x.toNat 0)) K := zx_new_boolean z126 dX4_init_140 rfl h h2
theorem s126_142 (h : tg A a = 9) : zX d 126 142 ls (zO o :: zO (some a) :: st) A K = zX d 126 145 ls st (pF A a 21 (zO o)) K := zx_putf (q := 3) z126 zo126 dX4_init_142 F10_59 rfl rfl rfl h rfl
theorem s126_145 : zX d 126 145 [zO o, v1] st A K = zX d 126 146 [zO o, v1] (zO o :: st) A K := zx_aload_n z126 dX4_init_145 rfl rfl
theorem s126_146 : zX d 126 146 ls st A K = zX d 126 149 ls (zI (240) :: st) A K := zx_sipush z126 dX4_init_146 (by decide) rfl
theorem s126_149 (h : 0 ≤ x) (h2 : x ≤ 1000000) : zX d 126 149 ls (zI x :: st) A K = zX d 126 151 ls (zO (some (nx A)) :: st) (nA A 20 (List.replicate x.toNat 0)) K := zx_new_int z126 dX4_init_149 rfl h h2
theorem s126_151 (h : tg A a = 9) : zX d 126 151 ls (zO o :: zO (some a) :: st) A K = zX d 126 154 ls st (pF A a 22 (zO o)) K := zx_putf (q := 3) z126 zo126 dX4_init_151 F10_63 rfl rfl rfl h rfl
theorem s126_154 : zX d 126 154 [zO o, v1] st A K = zX d 126 155 [zO o, v1] (zO o :: st) A K := zx_aload_n z126 dX4_init_154 rfl rfl
theorem s126_155 : zX d 126 155 ls st A K = zX d 126 158 ls (zI (401) :: st) A K := zx_sipush z126 dX4_init_155 (by decide) rfl
theorem s126_158 (h : 0 ≤ x) (h2 : x ≤ 1000000) : zX d 126 158 ls (zI x :: st) A K = zX d 126 160 ls (zO (some (nx A)) :: st) (nA A 20 (List.replicate x.toNat 0)) K := zx_new_int z126 dX4_init_158 rfl h h2
theorem s126_160 (h : tg A a = 9) : zX d 126 160 ls (zO o :: zO (some a) :: st) A K = zX d 126 163 ls st (pF A a 25 (zO o)) K := zx_putf (q := 3) z126 zo126 dX4_init_160 F10_66 rfl rfl rfl h rfl
theorem s126_163 : zX d 126 163 [zO o, v1] st A K = zX d 126 164 [zO o, v1] (zO o :: st) A K := zx_aload_n z126 dX4_init_163 rfl rfl
theorem s126_164 : zX d 126 164 ls st A K = zX d 126 166 ls (zI (9) :: st) A K := zx_bipush z126 dX4_init_164 (by decide) rfl
theorem s126_166 (h : 0 ≤ x) (h2 : x ≤ 1000000) : zX d 126 166 ls (zI x :: st) A K = zX d 126 168 ls (zO (some (nx A)) :: st) (nA A 20 (List.replicate x.toNat 0)) K := zx_new_int z126 dX4_init_166 rfl h h2
theorem s126_168 (h : tg A a = 9) : zX d 126 168 ls (zO o :: zO (some a) :: st) A K = zX d 126 171 ls st (pF A a 26 (zO o)) K := zx_putf (q := 3) z126 zo126 dX4_init_168 F10_69 rfl rfl rfl h rfl
theorem s126_171 : zX d 126 171 [zO o, v1] st A K = zX d 126 172 [zO o, v1] (zO o :: st) A K := zx_aload_n z126 dX4_init_171 rfl rfl
theorem s126_172 : zX d 126 172 ls st A K = zX d 126 174 ls (zI (9) :: st) A K := zx_bipush z126 dX4_init_172 (by decide) rfl
theorem s126_174 (h : 0 ≤ x) (h2 : x ≤ 1000000) : zX d 126 174 ls (zI x :: st) A K = zX d 126 176 ls (zO (some (nx A)) :: st) (nA A 20 (List.replicate x.toNat 0)) K := zx_new_int z126 dX4_init_174 rfl h h2
theorem s126_176 (h : tg A a = 9) : zX d 126 176 ls (zO o :: zO (some a) :: st) A K = zX d 126 179 ls st (pF A a 27 (zO o)) K := zx_putf (q := 3) z126 zo126 dX4_init_176 F10_72 rfl rfl rfl h rfl
theorem s126_179 : zX d 126 179 [zO o, v1] st A K = zX d 126 180 [zO o, v1] (zO o :: st) A K := zx_aload_n z126 dX4_init_179 rfl rfl
theorem s126_180 : zX d 126 180 ls st A K = zX d 126 182 ls (zI (177147) :: st) A K := zx_ldc z126 zo126 dX4_init_180 rfl rfl
theorem s126_182 (h : 0 ≤ x) (h2 : x ≤ 1000000) : zX d 126 182 ls (zI x :: st) A K = zX d 126 184 ls (zO (some (nx A)) :: st) (nA A 22 (List.replicate x.toNat 0)) K := zx_new_boolean z126 dX4_init_182 rfl h h2
theorem s126_184 (h : tg A a = 9) : zX d 126 184 ls (zO o :: zO (some a) :: st) A K = zX d 126 187 ls st (pF A a 28 (zO o)) K := zx_putf (q := 3) z126 zo126 dX4_init_184 F10_76 rfl rfl rfl h rfl
theorem s126_187 : zX d 126 187 [zO o, v1] st A K = zX d 126 188 [zO o, v1] (zO o :: st) A K := zx_aload_n z126 dX4_init_187 rfl rfl
theorem s126_188 : zX d 126 188 ls st A K = zX d 126 190 ls (zI (9) :: st) A K := zx_bipush z126 dX4_init_188 (by decide) rfl
theorem s126_190 (h : 0 ≤ x) (h2 : x ≤ 1000000) : zX d 126 190 ls (zI x :: st) A K = zX d 126 192 ls (zO (some (nx A)) :: st) (nA A 20 (List.replicate x.toNat 0)) K := zx_new_int z126 dX4_init_190 rfl h h2
theorem s126_192 (h : tg A a = 9) : zX d 126 192 ls (zO o :: zO (some a) :: st) A K = zX d 126 195 ls st (pF A a 30 (zO o)) K := zx_putf (q := 3) z126 zo126 dX4_init_192 F10_79 rfl rfl rfl h rfl
theorem s126_195 : zX d 126 195 [zO o, v1] st A K = zX d 126 196 [zO o, v1] (zO o :: st) A K := zx_aload_n z126 dX4_init_195 rfl rfl
theorem s126_196 : zX d 126 196 ls st A K = zX d 126 197 ls (zI 3 :: st) A K := zx_const z126 dX4_init_196 (by decide) rfl
theorem s126_197 (h : 0 ≤ x) (h2 : x ≤ 1000000) : zX d 126 197 ls (zI x :: st) A K = zX d 126 199 ls (zO (some (nx A)) :: st) (nA A 20 (List.replicate x.toNat 0)) K := zx_new_int z126 dX4_init_197 rfl h h2
theorem s126_199 (h : tg A a = 9) : zX d 126 199 ls (zO o :: zO (some a) :: st) A K = zX d 126 202 ls st (pF A a 31 (zO o)) K := zx_putf (q := 3) z126 zo126 dX4_init_199 F10_82 rfl rfl rfl h rfl
theorem s126_202 : zX d 126 202 [zO o, v1] st A K = zX d 126 203 [zO o, v1] (zO o :: st) A K := zx_aload_n z126 dX4_init_202 rfl rfl
theorem s126_203 : zX d 126 203 ls st A K = zX d 126 204 ls (zI 3 :: st) A K := zx_const z126 dX4_init_203 (by decide) rfl
theorem s126_204 (h : 0 ≤ x) (h2 : x ≤ 1000000) : zX d 126 204 ls (zI x :: st) A K = zX d 126 206 ls (zO (some (nx A)) :: st) (nA A 22 (List.replicate x.toNat 0)) K := zx_new_boolean z126 dX4_init_204 rfl h h2
theorem s126_206 (h : tg A a = 9) : zX d 126 206 ls (zO o :: zO (some a) :: st) A K = zX d 126 209 ls st (pF A a 32 (zO o)) K := zx_putf (q := 3) z126 zo126 dX4_init_206 F10_85 rfl rfl rfl h rfl
theorem s126_209 : zX d 126 209 [zO o, v1] st A K = zX d 126 210 [zO o, v1] (zO o :: st) A K := zx_aload_n z126 dX4_init_209 rfl rfl
theorem s126_210 : zX d 126 210 ls st A K = zX d 126 213 ls (zI (240) :: st) A K := zx_sipush z126 dX4_init_210 (by decide) rfl
theorem s126_213 (h : 0 ≤ x) (h2 : x ≤ 1000000) : zX d 126 213 ls (zI x :: st) A K = zX d 126 215 ls (zO (some (nx A)) :: st) (nA A 22 (List.replicate x.toNat 0)) K := zx_new_boolean z126 dX4_init_213 rfl h h2
theorem s126_215 (h : tg A a = 9) : zX d 126 215 ls (zO o :: zO (some a) :: st) A K = zX d 126 218 ls st (pF A a 33 (zO o)) K := zx_putf (q := 3) z126 zo126 dX4_init_215 F10_88 rfl rfl rfl h rfl
theorem s126_218 : zX d 126 218 [zO o, v1] st A K = zX d 126 219 [zO o, v1] (zO o :: st) A K := zx_aload_n z126 dX4_init_218 rfl rfl
theorem s126_219 : zX d 126 219 ls st A K = zX d 126 222 ls (zI (160) :: st) A K := zx_sipush z126 dX4_init_219 (by decide) rfl
theorem s126_222 (h : 0 ≤ x) (h2 : x ≤ 1000000) : zX d 126 222 ls (zI x :: st) A K = zX d 126 224 ls (zO (some (nx A)) :: st) (nA A 20 (List.replicate x.toNat 0)) K := zx_new_int z126 dX4_init_222 rfl h h2
theorem s126_224 (h : tg A a = 9) : zX d 126 224 ls (zO o :: zO (some a) :: st) A K = zX d 126 227 ls st (pF A a 34 (zO o)) K := zx_putf (q := 3) z126 zo126 dX4_init_224 F10_91 rfl rfl rfl h rfl
theorem s126_227 : zX d 126 227 [zO o, v1] st A K = zX d 126 228 [zO o, v1] (zO o :: st) A K := zx_aload_n z126 dX4_init_227 rfl rfl
theorem s126_228 : zX d 126 228 ls st A K = zX d 126 230 ls (zI (115296) :: st) A K := zx_ldc z126 zo126 dX4_init_228 rfl rfl
theorem s126_230 (h : 0 ≤ x) (h2 : x ≤ 1000000) : zX d 126 230 ls (zI x :: st) A K = zX d 126 232 ls (zO (some (nx A)) :: st) (nA A 20 (List.replicate x.toNat 0)) K := zx_new_int z126 dX4_init_230 rfl h h2
theorem s126_232 (h : tg A a = 9) : zX d 126 232 ls (zO o :: zO (some a) :: st) A K = zX d 126 235 ls st (pF A a 36 (zO o)) K := zx_putf (q := 3) z126 zo126 dX4_init_232 F10_95 rfl rfl rfl h rfl
theorem s126_235 : zX d 126 235 [zO o, v1] st A K = zX d 126 236 [zO o, v1] (zO o :: st) A K := zx_aload_n z126 dX4_init_235 rfl rfl
theorem s126_236 : zX d 126 236 ls st A K = zX d 126 239 ls (zI (1201) :: st) A K := zx_sipush z126 dX4_init_236 (by decide) rfl
theorem s126_239 (h : 0 ≤ x) (h2 : x ≤ 1000000) : zX d 126 239 ls (zI x :: st) A K = zX d 126 241 ls (zO (some (nx A)) :: st) (nA A 22 (List.replicate x.toNat 0)) K := zx_new_boolean z126 dX4_init_239 rfl h h2
theorem s126_241 (h : tg A a = 9) : zX d 126 241 ls (zO o :: zO (some a) :: st) A K = zX d 126 244 ls st (pF A a 37 (zO o)) K := zx_putf (q := 3) z126 zo126 dX4_init_241 F10_98 rfl rfl rfl h rfl
theorem s126_244 : zX d 126 244 [zO o, v1] st A K = zX d 126 245 [zO o, v1] (zO o :: st) A K := zx_aload_n z126 dX4_init_244 rfl rfl
theorem s126_245 (h : tg A a = 9) : zX d 126 245 ls (zO (some a) :: st) A K = zX d 126 248 ls (fd A a 0 :: st) A K := zx_getf z126 zo126 dX4_init_245 F10_9 rfl h
theorem s126_248 : zX d 126 248 ls st A K = zX d 126 249 ls (zI 0 :: st) A K := zx_const z126 dX4_init_248 (by decide) rfl
theorem s126_249 : zX d 126 249 ls st A K = zX d 126 250 ls (zI 2 :: st) A K := zx_const z126 dX4_init_249 (by decide) rfl
theorem s126_250 (h : tg A a = 20) (h0 : 0 ≤ x) (h1 : x.toNat < (ia A a).length) : zX d 126 250 ls (zI y :: zI x :: zO (some a) :: st) A K = zX d 126 251 ls st (pI A a ((ia A a).set x.toNat y)) K := zx_iast z126 dX4_init_250 rfl h h0 h1
theorem s126_251 : zX d 126 251 [zO o, v1] st A K = zX d 126 252 [zO o, v1] (zO o :: st) A K := zx_aload_n z126 dX4_init_251 rfl rfl
theorem s126_252 (h : tg A a = 9) : zX d 126 252 ls (zO (some a) :: st) A K = zX d 126 255 ls (fd A a 0 :: st) A K := zx_getf z126 zo126 dX4_init_252 F10_9 rfl h
theorem s126_255 : zX d 126 255 ls st A K = zX d 126 256 ls (zI 1 :: st) A K := zx_const z126 dX4_init_255 (by decide) rfl
theorem s126_256 : zX d 126 256 ls st A K = zX d 126 257 ls (zI 2 :: st) A K := zx_const z126 dX4_init_256 (by decide) rfl
theorem s126_257 (h : tg A a = 20) (h0 : 0 ≤ x) (h1 : x.toNat < (ia A a).length) : zX d 126 257 ls (zI y :: zI x :: zO (some a) :: st) A K = zX d 126 258 ls st (pI A a ((ia A a).set x.toNat y)) K := zx_iast z126 dX4_init_257 rfl h h0 h1
theorem s126_258 : zX d 126 258 [zO o, v1] st A K = zX d 126 259 [zO o, v1] (zO o :: st) A K := zx_aload_n z126 dX4_init_258 rfl rfl
theorem s126_259 (h : tg A a = 9) : zX d 126 259 ls (zO (some a) :: st) A K = zX d 126 262 ls (fd A a 0 :: st) A K := zx_getf z126 zo126 dX4_init_259 F10_9 rfl h
theorem s126_262 : zX d 126 262 ls st A K = zX d 126 263 ls (zI 2 :: st) A K := zx_const z126 dX4_init_262 (by decide) rfl
theorem s126_263 : zX d 126 263 ls st A K = zX d 126 264 ls (zI 1 :: st) A K := zx_const z126 dX4_init_263 (by decide) rfl
theorem s126_264 (h : tg A a = 20) (h0 : 0 ≤ x) (h1 : x.toNat < (ia A a).length) : zX d 126 264 ls (zI y :: zI x :: zO (some a) :: st) A K = zX d 126 265 ls st (pI A a ((ia A a).set x.toNat y)) K := zx_iast z126 dX4_init_264 rfl h h0 h1
theorem s126_265 : zX d 126 265 ls st A K = zX d 126 266 ls (zI 0 :: st) A K := zx_const z126 dX4_init_265 (by decide) rfl
theorem s126_266 : zX d 126 266 [v0, v1] (zI x :: st) A K = zX d 126 267 [v0, zI x] st A K := zx_istore_n z126 dX4_init_266 (Nat.le_of_ble_eq_true rfl) rfl rfl
theorem s126_267 : zX d 126 267 [v0, zI x] st A K = zX d 126 268 [v0, zI x] (zI x :: st) A K := zx_iload_n z126 dX4_init_267 rfl rfl
theorem s126_268 : zX d 126 268 ls st A K = zX d 126 269 ls (zI 4 :: st) A K := zx_const z126 dX4_init_268 (by decide) rfl
theorem s126_269 : zX d 126 269 ls (zI y :: zI x :: st) A K = (if y ≤ x then zX d 126 283 ls st A K else zX d 126 272 ls st A K) := zx_ic_ge z126 dX4_init_269 rfl rfl
theorem s126_272 : zX d 126 272 [zO o, v1] st A K = zX d 126 273 [zO o, v1] (zO o :: st) A K := zx_aload_n z126 dX4_init_272 rfl rfl
theorem s126_273 : zX d 126 273 [v0, zI x] st A K = zX d 126 274 [v0, zI x] (zI x :: st) A K := zx_iload_n z126 dX4_init_273 rfl rfl
theorem s126_274 (h : tg A a = 9)  : zX (d + 1) 126 274 ls (zI i0 :: zO (some a) :: []) A K = zX d 127 0 [zO (some a), zI i0] [] A (zK (d + 1) 126 274 277 ls [] K) := zx_callV (t := 9) z126 zo126 dX4_init_274 rfl C10_101 rfl rfl zm127 rfl rfl (zwt_le (Nat.le_of_ble_eq_true rfl)) rfl h
theorem s126_277 : zX d 126 277 [v0, zI x] st A K = zX d 126 280 [v0, zI (zw (x + 1))] st A K := zx_iinc z126 dX4_init_277 rfl rfl rfl
theorem s126_280 : zX d 126 280 ls st A K = zX d 126 267 ls st A K := zx_goto z126 dX4_init_280 rfl
theorem s126_283 : zX d 126 283 ls [] A K = K (Sum.inl none) A := zx_vret z126 dX4_init_283 rfl
theorem s127_0 : zX d 127 0 [zO o, v1] st A K = zX d 127 1 [zO o, v1] (zO o :: st) A K := zx_aload_n z127 dX4_setToZ_0 rfl rfl
theorem s127_1 (h : tg A a = 9) : zX d 127 1 ls (zO (some a) :: st) A K = zX d 127 4 ls (fd A a 4 :: st) A K := zx_getf z127 zo127 dX4_setToZ_1 F10_22 rfl h
theorem s127_4 : zX d 127 4 ls st A K = zX d 127 6 ls (zI (96) :: st) A K := zx_bipush z127 dX4_setToZ_4 (by decide) rfl
theorem s127_6 : zX d 127 6 [v0, zI x] st A K = zX d 127 7 [v0, zI x] (zI x :: st) A K := zx_iload_n z127 dX4_setToZ_6 rfl rfl
theorem s127_7 : zX d 127 7 ls (zI y :: zI x :: st) A K = zX d 127 8 ls (zI (zw (x * y)) :: st) A K := zx_imul z127 dX4_setToZ_7 rfl
theorem s127_8 : zX d 127 8 ls st A K = zX d 127 9 ls (zI 1 :: st) A K := zx_const z127 dX4_setToZ_8 (by decide) rfl
theorem s127_9 (h : tg A a = 20) (h0 : 0 ≤ x) (h1 : x.toNat < (ia A a).length) : zX d 127 9 ls (zI y :: zI x :: zO (some a) :: st) A K = zX d 127 10 ls st (pI A a ((ia A a).set x.toNat y)) K := zx_iast z127 dX4_setToZ_9 rfl h h0 h1
theorem s127_10 : zX d 127 10 [zO o, v1] st A K = zX d 127 11 [zO o, v1] (zO o :: st) A K := zx_aload_n z127 dX4_setToZ_10 rfl rfl
theorem s127_11 (h : tg A a = 9) : zX d 127 11 ls (zO (some a) :: st) A K = zX d 127 14 ls (fd A a 4 :: st) A K := zx_getf z127 zo127 dX4_setToZ_11 F10_22 rfl h
theorem s127_14 : zX d 127 14 ls st A K = zX d 127 16 ls (zI (96) :: st) A K := zx_bipush z127 dX4_setToZ_14 (by decide) rfl
theorem s127_16 : zX d 127 16 [v0, zI x] st A K = zX d 127 17 [v0, zI x] (zI x :: st) A K := zx_iload_n z127 dX4_setToZ_16 rfl rfl
theorem s127_17 : zX d 127 17 ls (zI y :: zI x :: st) A K = zX d 127 18 ls (zI (zw (x * y)) :: st) A K := zx_imul z127 dX4_setToZ_17 rfl
theorem s127_18 : zX d 127 18 ls st A K = zX d 127 19 ls (zI 1 :: st) A K := zx_const z127 dX4_setToZ_18 (by decide) rfl
theorem s127_19 : zX d 127 19 ls (zI y :: zI x :: st) A K = zX d 127 20 ls (zI (zw (x + y)) :: st) A K := zx_iadd z127 dX4_setToZ_19 rfl
theorem s127_20 : zX d 127 20 ls st A K = zX d 127 22 ls (zI (122) :: st) A K := zx_bipush z127 dX4_setToZ_20 (by decide) rfl
theorem s127_22 (h : tg A a = 20) (h0 : 0 ≤ x) (h1 : x.toNat < (ia A a).length) : zX d 127 22 ls (zI y :: zI x :: zO (some a) :: st) A K = zX d 127 23 ls st (pI A a ((ia A a).set x.toNat y)) K := zx_iast z127 dX4_setToZ_22 rfl h h0 h1
theorem s127_23 : zX d 127 23 ls [] A K = K (Sum.inl none) A := zx_vret z127 dX4_setToZ_23 rfl
theorem s128_0 : zX d 128 0 [v0, zI x, v2, v3, v4, v5, v6] st A K = zX d 128 1 [v0, zI x, v2, v3, v4, v5, v6] (zI x :: st) A K := zx_iload_n z128 dX4_setArity_0 rfl rfl
theorem s128_1 : zX d 128 1 ls st A K = zX d 128 2 ls (zI 0 :: st) A K := zx_const z128 dX4_setArity_1 (by decide) rfl
theorem s128_2 : zX d 128 2 ls st A K = zX d 128 3 ls (zI 2 :: st) A K := zx_const z128 dX4_setArity_2 (by decide) rfl
theorem s128_3 : zX (d + 1) 128 3 ls (zI i2 :: zI i1 :: zI i0 :: []) A K = zX d 129 0 [zI i0, zI i1, zI i2] [] A (zK (d + 1) 128 3 6 ls [] K) := zx_callS z128 zo128 dX4_setArity_3 rfl C10_105 rfl rfl zm129 rfl rfl (zwt_le (Nat.le_of_ble_eq_true rfl)) rfl
theorem s128_6 : zX d 128 6 ls (zI x :: st) A K = (if x ≠ 0 then zX d 128 11 ls st A K else zX d 128 9 ls st A K) := zx_if_ne z128 dX4_setArity_6 rfl rfl
theorem s128_9 : zX d 128 9 ls st A K = zX d 128 10 ls (zI (-1) :: st) A K := zx_const z128 dX4_setArity_9 (by decide) rfl
theorem s128_10 : zX d 128 10 ls [zI x] A K = K (Sum.inl (some (zI x))) A := zx_iret z128 dX4_setArity_10 zk128 rfl
theorem s128_11 : zX d 128 11 [v0, v1, zI x, v3, v4, v5, v6] st A K = zX d 128 12 [v0, v1, zI x, v3, v4, v5, v6] (zI x :: st) A K := zx_iload_n z128 dX4_setArity_11 rfl rfl
theorem s128_12 : zX d 128 12 ls st A K = zX d 128 13 ls (zI 1 :: st) A K := zx_const z128 dX4_setArity_12 (by decide) rfl
theorem s128_13 : zX d 128 13 ls st A K = zX d 128 14 ls (zI 3 :: st) A K := zx_const z128 dX4_setArity_13 (by decide) rfl
theorem s128_14 : zX (d + 1) 128 14 ls (zI i2 :: zI i1 :: zI i0 :: []) A K = zX d 129 0 [zI i0, zI i1, zI i2] [] A (zK (d + 1) 128 14 17 ls [] K) := zx_callS z128 zo128 dX4_setArity_14 rfl C10_105 rfl rfl zm129 rfl rfl (zwt_le (Nat.le_of_ble_eq_true rfl)) rfl
theorem s128_17 : zX d 128 17 ls (zI x :: st) A K = (if x ≠ 0 then zX d 128 23 ls st A K else zX d 128 20 ls st A K) := zx_if_ne z128 dX4_setArity_17 rfl rfl
theorem s128_20 : zX d 128 20 ls st A K = zX d 128 22 ls (zI (-2) :: st) A K := zx_bipush z128 dX4_setArity_20 (by decide) rfl
theorem s128_22 : zX d 128 22 ls [zI x] A K = K (Sum.inl (some (zI x))) A := zx_iret z128 dX4_setArity_22 zk128 rfl
theorem s128_23 : zX d 128 23 [zO o, v1, v2, v3, v4, v5, v6] st A K = zX d 128 24 [zO o, v1, v2, v3, v4, v5, v6] (zO o :: st) A K := zx_aload_n z128 dX4_setArity_23 rfl rfl
theorem s128_24 (h : tg A a = 9) : zX d 128 24 ls (zO (some a) :: st) A K = zX d 128 27 ls (fd A a 6 :: st) A K := zx_getf z128 zo128 dX4_setArity_24 F10_121 rfl h
theorem s128_27 : zX d 128 27 ls (zI x :: st) A K = (if x ≤ 0 then zX d 128 33 ls st A K else zX d 128 30 ls st A K) := zx_if_le z128 dX4_setArity_27 rfl rfl
theorem s128_30 : zX d 128 30 ls st A K = zX d 128 32 ls (zI (-3) :: st) A K := zx_bipush z128 dX4_setArity_30 (by decide) rfl
theorem s128_32 : zX d 128 32 ls [zI x] A K = K (Sum.inl (some (zI x))) A := zx_iret z128 dX4_setArity_32 zk128 rfl
theorem s128_33 : zX d 128 33 [zO o, v1, v2, v3, v4, v5, v6] st A K = zX d 128 34 [zO o, v1, v2, v3, v4, v5, v6] (zO o :: st) A K := zx_aload_n z128 dX4_setArity_33 rfl rfl
theorem s128_34 (h : tg A a = 9) : zX d 128 34 ls (zO (some a) :: st) A K = zX d 128 37 ls (fd A a 0 :: st) A K := zx_getf z128 zo128 dX4_setArity_34 F10_9 rfl h
theorem s128_37 : zX d 128 37 [v0, zI x, v2, v3, v4, v5, v6] st A K = zX d 128 38 [v0, zI x, v2, v3, v4, v5, v6] (zI x :: st) A K := zx_iload_n z128 dX4_setArity_37 rfl rfl
theorem s128_38 (h : tg A a = 20) (h0 : 0 ≤ x) (h1 : x.toNat < (ia A a).length) : zX d 128 38 ls (zI x :: zO (some a) :: st) A K = zX d 128 39 ls (zI ((ia A a).getD x.toNat 0) :: st) A K := zx_iald z128 dX4_setArity_38 rfl h h0 h1
theorem s128_38s (h : tg A a = 30) (h0 : 0 ≤ x) (h1 : x.toNat < (ia A a).length) : zX d 128 38 ls (zI x :: zO (some a) :: st) A K = zX d 128 39 ls (zI ((ia A a).getD x.toNat 0) :: st) A K := zx_sald z128 dX4_setArity_38 rfl h h0 h1
theorem s128_39 : zX d 128 39 [v0, v1, v2, v3, v4, v5, v6] (zI x :: st) A K = zX d 128 40 [v0, v1, v2, zI x, v4, v5, v6] st A K := zx_istore_n z128 dX4_setArity_39 (Nat.le_of_ble_eq_true rfl) rfl rfl
theorem s128_40 : zX d 128 40 [zO o, v1, v2, v3, v4, v5, v6] st A K = zX d 128 41 [zO o, v1, v2, v3, v4, v5, v6] (zO o :: st) A K := zx_aload_n z128 dX4_setArity_40 rfl rfl
theorem s128_41 (h : tg A a = 9) : zX d 128 41 ls (zO (some a) :: st) A K = zX d 128 44 ls (fd A a 0 :: st) A K := zx_getf z128 zo128 dX4_setArity_41 F10_9 rfl h
theorem s128_44 : zX d 128 44 [v0, zI x, v2, v3, v4, v5, v6] st A K = zX d 128 45 [v0, zI x, v2, v3, v4, v5, v6] (zI x :: st) A K := zx_iload_n z128 dX4_setArity_44 rfl rfl
theorem s128_45 : zX d 128 45 [v0, v1, zI x, v3, v4, v5, v6] st A K = zX d 128 46 [v0, v1, zI x, v3, v4, v5, v6] (zI x :: st) A K := zx_iload_n z128 dX4_setArity_45 rfl rfl
theorem s128_46 (h : tg A a = 20) (h0 : 0 ≤ x) (h1 : x.toNat < (ia A a).length) : zX d 128 46 ls (zI y :: zI x :: zO (some a) :: st) A K = zX d 128 47 ls st (pI A a ((ia A a).set x.toNat y)) K := zx_iast z128 dX4_setArity_46 rfl h h0 h1
theorem s128_47 : zX d 128 47 ls st A K = zX d 128 48 ls (zI 0 :: st) A K := zx_const z128 dX4_setArity_47 (by decide) rfl
theorem s128_48 : zX d 128 48 [v0, v1, v2, v3, v4, v5, v6] (zI x :: st) A K = zX d 128 50 [v0, v1, v2, v3, zI x, v5, v6] st A K := zx_istore z128 dX4_setArity_48 (Nat.le_of_ble_eq_true rfl) rfl rfl
theorem s128_50 : zX d 128 50 [v0, v1, v2, v3, zI x, v5, v6] st A K = zX d 128 52 [v0, v1, v2, v3, zI x, v5, v6] (zI x :: st) A K := zx_iload z128 dX4_setArity_50 rfl rfl
theorem s128_52 : zX d 128 52 ls st A K = zX d 128 53 ls (zI 4 :: st) A K := zx_const z128 dX4_setArity_52 (by decide) rfl
theorem s128_53 : zX d 128 53 ls (zI y :: zI x :: st) A K = (if y ≤ x then zX d 128 130 ls st A K else zX d 128 56 ls st A K) := zx_ic_ge z128 dX4_setArity_53 rfl rfl
theorem s128_56 : zX d 128 56 ls st A K = zX d 128 57 ls (zI 0 :: st) A K := zx_const z128 dX4_setArity_56 (by decide) rfl
theorem s128_57 : zX d 128 57 [v0, v1, v2, v3, v4, v5, v6] (zI x :: st) A K = zX d 128 59 [v0, v1, v2, v3, v4, zI x, v6] st A K := zx_istore z128 dX4_setArity_57 (Nat.le_of_ble_eq_true rfl) rfl rfl
theorem s128_59 : zX d 128 59 ls st A K = zX d 128 60 ls (zI 1 :: st) A K := zx_const z128 dX4_setArity_59 (by decide) rfl
theorem s128_60 : zX d 128 60 [v0, v1, v2, v3, v4, v5, v6] (zI x :: st) A K = zX d 128 62 [v0, v1, v2, v3, v4, v5, zI x] st A K := zx_istore z128 dX4_setArity_60 (Nat.le_of_ble_eq_true rfl) rfl rfl
theorem s128_62 : zX d 128 62 [v0, v1, v2, v3, v4, v5, zI x] st A K = zX d 128 64 [v0, v1, v2, v3, v4, v5, zI x] (zI x :: st) A K := zx_iload z128 dX4_setArity_62 rfl rfl
theorem s128_64 : zX d 128 64 [zO o, v1, v2, v3, v4, v5, v6] st A K = zX d 128 65 [zO o, v1, v2, v3, v4, v5, v6] (zO o :: st) A K := zx_aload_n z128 dX4_setArity_64 rfl rfl
theorem s128_65 (h : tg A a = 9) : zX d 128 65 ls (zO (some a) :: st) A K = zX d 128 68 ls (fd A a 4 :: st) A K := zx_getf z128 zo128 dX4_setArity_65 F10_22 rfl h
theorem s128_68 : zX d 128 68 ls st A K = zX d 128 70 ls (zI (96) :: st) A K := zx_bipush z128 dX4_setArity_68 (by decide) rfl
theorem s128_70 : zX d 128 70 [v0, v1, v2, v3, zI x, v5, v6] st A K = zX d 128 72 [v0, v1, v2, v3, zI x, v5, v6] (zI x :: st) A K := zx_iload z128 dX4_setArity_70 rfl rfl
theorem s128_72 : zX d 128 72 ls (zI y :: zI x :: st) A K = zX d 128 73 ls (zI (zw (x * y)) :: st) A K := zx_imul z128 dX4_setArity_72 rfl
theorem s128_73 (h : tg A a = 20) (h0 : 0 ≤ x) (h1 : x.toNat < (ia A a).length) : zX d 128 73 ls (zI x :: zO (some a) :: st) A K = zX d 128 74 ls (zI ((ia A a).getD x.toNat 0) :: st) A K := zx_iald z128 dX4_setArity_73 rfl h h0 h1
theorem s128_73s (h : tg A a = 30) (h0 : 0 ≤ x) (h1 : x.toNat < (ia A a).length) : zX d 128 73 ls (zI x :: zO (some a) :: st) A K = zX d 128 74 ls (zI ((ia A a).getD x.toNat 0) :: st) A K := zx_sald z128 dX4_setArity_73 rfl h h0 h1
theorem s128_74 : zX d 128 74 ls (zI y :: zI x :: st) A K = (if y < x then zX d 128 113 ls st A K else zX d 128 77 ls st A K) := zx_ic_gt z128 dX4_setArity_74 rfl rfl
theorem s128_77 : zX d 128 77 [v0, v1, v2, v3, v4, zI x, v6] st A K = zX d 128 79 [v0, v1, v2, v3, v4, zI x, v6] (zI x :: st) A K := zx_iload z128 dX4_setArity_77 rfl rfl
theorem s128_79 : zX d 128 79 [zO o, v1, v2, v3, v4, v5, v6] st A K = zX d 128 80 [zO o, v1, v2, v3, v4, v5, v6] (zO o :: st) A K := zx_aload_n z128 dX4_setArity_79 rfl rfl
theorem s128_80 (h : tg A a = 9) : zX d 128 80 ls (zO (some a) :: st) A K = zX d 128 83 ls (fd A a 4 :: st) A K := zx_getf z128 zo128 dX4_setArity_80 F10_22 rfl h
theorem s128_83 : zX d 128 83 ls st A K = zX d 128 85 ls (zI (96) :: st) A K := zx_bipush z128 dX4_setArity_83 (by decide) rfl
theorem s128_85 : zX d 128 85 [v0, v1, v2, v3, zI x, v5, v6] st A K = zX d 128 87 [v0, v1, v2, v3, zI x, v5, v6] (zI x :: st) A K := zx_iload z128 dX4_setArity_85 rfl rfl
theorem s128_87 : zX d 128 87 ls (zI y :: zI x :: st) A K = zX d 128 88 ls (zI (zw (x * y)) :: st) A K := zx_imul z128 dX4_setArity_87 rfl
theorem s128_88 : zX d 128 88 [v0, v1, v2, v3, v4, v5, zI x] st A K = zX d 128 90 [v0, v1, v2, v3, v4, v5, zI x] (zI x :: st) A K := zx_iload z128 dX4_setArity_88 rfl rfl
theorem s128_90 : zX d 128 90 ls (zI y :: zI x :: st) A K = zX d 128 91 ls (zI (zw (x + y)) :: st) A K := zx_iadd z128 dX4_setArity_90 rfl
theorem s128_91 (h : tg A a = 20) (h0 : 0 ≤ x) (h1 : x.toNat < (ia A a).length) : zX d 128 91 ls (zI x :: zO (some a) :: st) A K = zX d 128 92 ls (zI ((ia A a).getD x.toNat 0) :: st) A K := zx_iald z128 dX4_setArity_91 rfl h h0 h1
theorem s128_91s (h : tg A a = 30) (h0 : 0 ≤ x) (h1 : x.toNat < (ia A a).length) : zX d 128 91 ls (zI x :: zO (some a) :: st) A K = zX d 128 92 ls (zI ((ia A a).getD x.toNat 0) :: st) A K := zx_sald z128 dX4_setArity_91 rfl h h0 h1
theorem s128_92 : zX d 128 92 ls st A K = zX d 128 94 ls (zI (102) :: st) A K := zx_bipush z128 dX4_setArity_92 (by decide) rfl
theorem s128_94 : zX d 128 94 [v0, zI x, v2, v3, v4, v5, v6] st A K = zX d 128 95 [v0, zI x, v2, v3, v4, v5, v6] (zI x :: st) A K := zx_iload_n z128 dX4_setArity_94 rfl rfl
theorem s128_95 : zX d 128 95 ls (zI y :: zI x :: st) A K = zX d 128 96 ls (zI (zw (x + y)) :: st) A K := zx_iadd z128 dX4_setArity_95 rfl
theorem s128_96 : zX d 128 96 ls (zI y :: zI x :: st) A K = (if x ≠ y then zX d 128 103 ls st A K else zX d 128 99 ls st A K) := zx_ic_ne z128 dX4_setArity_96 rfl rfl
theorem s128_99 : zX d 128 99 ls st A K = zX d 128 100 ls (zI 1 :: st) A K := zx_const z128 dX4_setArity_99 (by decide) rfl
theorem s128_100 : zX d 128 100 ls st A K = zX d 128 104 ls st A K := zx_goto z128 dX4_setArity_100 rfl
theorem s128_103 : zX d 128 103 ls st A K = zX d 128 104 ls (zI 0 :: st) A K := zx_const z128 dX4_setArity_103 (by decide) rfl
theorem s128_104 : zX d 128 104 ls (zI y :: zI x :: st) A K = zX d 128 105 ls (zI ((Int32.ofInt x ||| Int32.ofInt y).toInt) :: st) A K := zx_ior z128 dX4_setArity_104 rfl
theorem s128_105 : zX d 128 105 [v0, v1, v2, v3, v4, v5, v6] (zI x :: st) A K = zX d 128 107 [v0, v1, v2, v3, v4, zI x, v6] st A K := zx_istore z128 dX4_setArity_105 (Nat.le_of_ble_eq_true rfl) rfl rfl
theorem s128_107 : zX d 128 107 [v0, v1, v2, v3, v4, v5, zI x] st A K = zX d 128 110 [v0, v1, v2, v3, v4, v5, zI (zw (x + 1))] st A K := zx_iinc z128 dX4_setArity_107 rfl rfl rfl
theorem s128_110 : zX d 128 110 ls st A K = zX d 128 62 ls st A K := zx_goto z128 dX4_setArity_110 rfl
theorem s128_113 : zX d 128 113 [v0, v1, v2, v3, v4, zI x, v6] st A K = zX d 128 115 [v0, v1, v2, v3, v4, zI x, v6] (zI x :: st) A K := zx_iload z128 dX4_setArity_113 rfl rfl
theorem s128_115 : zX d 128 115 ls (zI x :: st) A K = (if x = 0 then zX d 128 124 ls st A K else zX d 128 118 ls st A K) := zx_if_eq z128 dX4_setArity_115 rfl rfl
theorem s128_118 : zX d 128 118 [zO o, v1, v2, v3, v4, v5, v6] st A K = zX d 128 119 [zO o, v1, v2, v3, v4, v5, v6] (zO o :: st) A K := zx_aload_n z128 dX4_setArity_118 rfl rfl
theorem s128_119 : zX d 128 119 [v0, v1, v2, v3, zI x, v5, v6] st A K = zX d 128 121 [v0, v1, v2, v3, zI x, v5, v6] (zI x :: st) A K := zx_iload z128 dX4_setArity_119 rfl rfl
theorem s128_121 (h : tg A a = 9)  : zX (d + 1) 128 121 ls (zI i0 :: zO (some a) :: []) A K = zX d 127 0 [zO (some a), zI i0] [] A (zK (d + 1) 128 121 124 ls [] K) := zx_callV (t := 9) z128 zo128 dX4_setArity_121 rfl C10_101 rfl rfl zm127 rfl rfl (zwt_le (Nat.le_of_ble_eq_true rfl)) rfl h
theorem s128_124 : zX d 128 124 [v0, v1, v2, v3, zI x, v5, v6] st A K = zX d 128 127 [v0, v1, v2, v3, zI (zw (x + 1)), v5, v6] st A K := zx_iinc z128 dX4_setArity_124 rfl rfl rfl
theorem s128_127 : zX d 128 127 ls st A K = zX d 128 50 ls st A K := zx_goto z128 dX4_setArity_127 rfl
theorem s128_130 : zX d 128 130 [v0, v1, v2, zI x, v4, v5, v6] st A K = zX d 128 131 [v0, v1, v2, zI x, v4, v5, v6] (zI x :: st) A K := zx_iload_n z128 dX4_setArity_130 rfl rfl
theorem s128_131 : zX d 128 131 ls [zI x] A K = K (Sum.inl (some (zI x))) A := zx_iret z128 dX4_setArity_131 zk128 rfl
theorem s129_0 : zX d 129 0 [zI x, v1, v2] st A K = zX d 129 1 [zI x, v1, v2] (zI x :: st) A K := zx_iload_n z129 dX4_isIn_0 rfl rfl
theorem s129_1 : zX d 129 1 [v0, zI x, v2] st A K = zX d 129 2 [v0, zI x, v2] (zI x :: st) A K := zx_iload_n z129 dX4_isIn_1 rfl rfl
theorem s129_2 : zX d 129 2 ls (zI y :: zI x :: st) A K = (if x < y then zX d 129 14 ls st A K else zX d 129 5 ls st A K) := zx_ic_lt z129 dX4_isIn_2 rfl rfl
theorem s129_5 : zX d 129 5 [zI x, v1, v2] st A K = zX d 129 6 [zI x, v1, v2] (zI x :: st) A K := zx_iload_n z129 dX4_isIn_5 rfl rfl
theorem s129_6 : zX d 129 6 [v0, v1, zI x] st A K = zX d 129 7 [v0, v1, zI x] (zI x :: st) A K := zx_iload_n z129 dX4_isIn_6 rfl rfl
theorem s129_7 : zX d 129 7 ls (zI y :: zI x :: st) A K = (if y < x then zX d 129 14 ls st A K else zX d 129 10 ls st A K) := zx_ic_gt z129 dX4_isIn_7 rfl rfl
theorem s129_10 : zX d 129 10 ls st A K = zX d 129 11 ls (zI 1 :: st) A K := zx_const z129 dX4_isIn_10 (by decide) rfl
theorem s129_11 : zX d 129 11 ls st A K = zX d 129 15 ls st A K := zx_goto z129 dX4_isIn_11 rfl
theorem s129_14 : zX d 129 14 ls st A K = zX d 129 15 ls (zI 0 :: st) A K := zx_const z129 dX4_isIn_14 (by decide) rfl
theorem s129_15 (h : x = 0 ∨ x = 1) : zX d 129 15 ls [zI x] A K = K (Sum.inl (some (zI x))) A := zx_iret z129 dX4_isIn_15 zk129 (by rcases h with q | q <;> subst q <;> rfl)
theorem s130_0 : zX d 130 0 [v0, zI x] st A K = zX d 130 1 [v0, zI x] (zI x :: st) A K := zx_iload_n z130 dX4_arity_0 rfl rfl
theorem s130_1 : zX d 130 1 ls st A K = zX d 130 2 ls (zI 0 :: st) A K := zx_const z130 dX4_arity_1 (by decide) rfl
theorem s130_2 : zX d 130 2 ls st A K = zX d 130 3 ls (zI 2 :: st) A K := zx_const z130 dX4_arity_2 (by decide) rfl
theorem s130_3 : zX (d + 1) 130 3 ls (zI i2 :: zI i1 :: zI i0 :: []) A K = zX d 129 0 [zI i0, zI i1, zI i2] [] A (zK (d + 1) 130 3 6 ls [] K) := zx_callS z130 zo130 dX4_arity_3 rfl C10_105 rfl rfl zm129 rfl rfl (zwt_le (Nat.le_of_ble_eq_true rfl)) rfl
theorem s130_6 : zX d 130 6 ls (zI x :: st) A K = (if x = 0 then zX d 130 18 ls st A K else zX d 130 9 ls st A K) := zx_if_eq z130 dX4_arity_6 rfl rfl
theorem s130_9 : zX d 130 9 [zO o, v1] st A K = zX d 130 10 [zO o, v1] (zO o :: st) A K := zx_aload_n z130 dX4_arity_9 rfl rfl
theorem s130_10 (h : tg A a = 9) : zX d 130 10 ls (zO (some a) :: st) A K = zX d 130 13 ls (fd A a 0 :: st) A K := zx_getf z130 zo130 dX4_arity_10 F10_9 rfl h
theorem s130_13 : zX d 130 13 [v0, zI x] st A K = zX d 130 14 [v0, zI x] (zI x :: st) A K := zx_iload_n z130 dX4_arity_13 rfl rfl
theorem s130_14 (h : tg A a = 20) (h0 : 0 ≤ x) (h1 : x.toNat < (ia A a).length) : zX d 130 14 ls (zI x :: zO (some a) :: st) A K = zX d 130 15 ls (zI ((ia A a).getD x.toNat 0) :: st) A K := zx_iald z130 dX4_arity_14 rfl h h0 h1
theorem s130_14s (h : tg A a = 30) (h0 : 0 ≤ x) (h1 : x.toNat < (ia A a).length) : zX d 130 14 ls (zI x :: zO (some a) :: st) A K = zX d 130 15 ls (zI ((ia A a).getD x.toNat 0) :: st) A K := zx_sald z130 dX4_arity_14 rfl h h0 h1
theorem s130_15 : zX d 130 15 ls st A K = zX d 130 19 ls st A K := zx_goto z130 dX4_arity_15 rfl
theorem s130_18 : zX d 130 18 ls st A K = zX d 130 19 ls (zI (-1) :: st) A K := zx_const z130 dX4_arity_18 (by decide) rfl
theorem s130_19 : zX d 130 19 ls [zI x] A K = K (Sum.inl (some (zI x))) A := zx_iret z130 dX4_arity_19 zk130 rfl
theorem s131_0 : zX d 131 0 [zO o, v1] st A K = zX d 131 1 [zO o, v1] (zO o :: st) A K := zx_aload_n z131 dX4_addRule_0 rfl rfl
theorem s131_1 (h : tg A a = 9) : zX d 131 1 ls (zO (some a) :: st) A K = zX d 131 4 ls (fd A a 6 :: st) A K := zx_getf z131 zo131 dX4_addRule_1 F10_121 rfl h
theorem s131_4 : zX d 131 4 ls st A K = zX d 131 6 ls (zI (6) :: st) A K := zx_bipush z131 dX4_addRule_4 (by decide) rfl
theorem s131_6 : zX d 131 6 ls (zI y :: zI x :: st) A K = (if x ≠ y then zX d 131 12 ls st A K else zX d 131 9 ls st A K) := zx_ic_ne z131 dX4_addRule_6 rfl rfl
theorem s131_9 : zX d 131 9 ls st A K = zX d 131 11 ls (zI (-4) :: st) A K := zx_bipush z131 dX4_addRule_9 (by decide) rfl
theorem s131_11 : zX d 131 11 ls [zI x] A K = K (Sum.inl (some (zI x))) A := zx_iret z131 dX4_addRule_11 zk131 rfl
theorem s131_12 : zX d 131 12 [zO o, v1] st A K = zX d 131 13 [zO o, v1] (zO o :: st) A K := zx_aload_n z131 dX4_addRule_12 rfl rfl
theorem s131_13 : zX d 131 13 ls st A K = zX d 131 14 ls (zI 0 :: st) A K := zx_const z131 dX4_addRule_13 (by decide) rfl
theorem s131_14 (h : tg A a = 9) : zX d 131 14 ls (zI x :: zO (some a) :: st) A K = zX d 131 17 ls st (pF A a 16 (zI x)) K := zx_putf (q := 0) z131 zo131 dX4_addRule_14 F10_148 rfl rfl rfl h rfl
theorem s131_17 : zX d 131 17 [zO o, v1] st A K = zX d 131 18 [zO o, v1] (zO o :: st) A K := zx_aload_n z131 dX4_addRule_17 rfl rfl
theorem s131_18 (h : tg A a = 9) : zX d 131 18 ls (zO (some a) :: st) A K = zX d 131 21 ls (fd A a 13 :: st) A K := zx_getf z131 zo131 dX4_addRule_18 F10_40 rfl h
theorem s131_21 : zX d 131 21 ls st A K = zX d 131 22 ls (zI 0 :: st) A K := zx_const z131 dX4_addRule_21 (by decide) rfl
theorem s131_22 : zX d 131 22 ls st A K = zX d 131 23 ls (zI 0 :: st) A K := zx_const z131 dX4_addRule_22 (by decide) rfl
theorem s131_23 (h : tg A a = 20) (h0 : 0 ≤ x) (h1 : x.toNat < (ia A a).length) : zX d 131 23 ls (zI y :: zI x :: zO (some a) :: st) A K = zX d 131 24 ls st (pI A a ((ia A a).set x.toNat y)) K := zx_iast z131 dX4_addRule_23 rfl h h0 h1
theorem s131_24 : zX d 131 24 [zO o, v1] st A K = zX d 131 25 [zO o, v1] (zO o :: st) A K := zx_aload_n z131 dX4_addRule_24 rfl rfl
theorem s131_25 (h : tg A a = 9)  : zX (d + 1) 131 25 ls (zO (some a) :: []) A K = zX d 132 0 [zO (some a), zU, zU, zU] [] A (zK (d + 1) 131 25 28 ls [] K) := zx_callV (t := 9) z131 zo131 dX4_addRule_25 rfl C10_161 rfl rfl zm132 rfl rfl (zwt_le (Nat.le_of_ble_eq_true rfl)) rfl h
theorem s131_28 : zX d 131 28 ls (zI x :: st) A K = (if x = 0 then zX d 131 44 ls st A K else zX d 131 31 ls st A K) := zx_if_eq z131 dX4_addRule_28 rfl rfl
theorem s131_31 : zX d 131 31 [zO o, v1] st A K = zX d 131 32 [zO o, v1] (zO o :: st) A K := zx_aload_n z131 dX4_addRule_31 rfl rfl
theorem s131_32 : zX d 131 32 ls st A K = zX d 131 34 ls (zI (62) :: st) A K := zx_bipush z131 dX4_addRule_32 (by decide) rfl
theorem s131_34 (h : tg A a = 9)  : zX (d + 1) 131 34 ls (zI i0 :: zO (some a) :: []) A K = zX d 137 0 [zO (some a), zI i0] [] A (zK (d + 1) 131 34 37 ls [] K) := zx_callV (t := 9) z131 zo131 dX4_addRule_34 rfl C10_158 rfl rfl zm137 rfl rfl (zwt_le (Nat.le_of_ble_eq_true rfl)) rfl h
theorem s131_37 : zX d 131 37 ls (zI x :: st) A K = (if x = 0 then zX d 131 44 ls st A K else zX d 131 40 ls st A K) := zx_if_eq z131 dX4_addRule_37 rfl rfl
theorem s131_40 : zX d 131 40 ls st A K = zX d 131 41 ls (zI 1 :: st) A K := zx_const z131 dX4_addRule_40 (by decide) rfl
theorem s131_41 : zX d 131 41 ls st A K = zX d 131 45 ls st A K := zx_goto z131 dX4_addRule_41 rfl
theorem s131_44 : zX d 131 44 ls st A K = zX d 131 45 ls (zI 0 :: st) A K := zx_const z131 dX4_addRule_44 (by decide) rfl
theorem s131_45 : zX d 131 45 [v0, v1] (zI x :: st) A K = zX d 131 46 [v0, zI x] st A K := zx_istore_n z131 dX4_addRule_45 (Nat.le_of_ble_eq_true rfl) rfl rfl
theorem s131_46 : zX d 131 46 [v0, zI x] st A K = zX d 131 47 [v0, zI x] (zI x :: st) A K := zx_iload_n z131 dX4_addRule_46 rfl rfl
theorem s131_47 : zX d 131 47 ls (zI x :: st) A K = (if x = 0 then zX d 131 96 ls st A K else zX d 131 50 ls st A K) := zx_if_eq z131 dX4_addRule_47 rfl rfl
theorem s131_50 : zX d 131 50 [zO o, v1] st A K = zX d 131 51 [zO o, v1] (zO o :: st) A K := zx_aload_n z131 dX4_addRule_50 rfl rfl
theorem s131_51 (h : tg A a = 9) : zX d 131 51 ls (zO (some a) :: st) A K = zX d 131 54 ls (fd A a 13 :: st) A K := zx_getf z131 zo131 dX4_addRule_51 F10_40 rfl h
theorem s131_54 : zX d 131 54 ls st A K = zX d 131 55 ls (zI 0 :: st) A K := zx_const z131 dX4_addRule_54 (by decide) rfl
theorem s131_55 : zX d 131 55 [zO o, v1] st A K = zX d 131 56 [zO o, v1] (zO o :: st) A K := zx_aload_n z131 dX4_addRule_55 rfl rfl
theorem s131_56 (h : tg A a = 9) : zX d 131 56 ls (zO (some a) :: st) A K = zX d 131 59 ls (fd A a 14 :: st) A K := zx_getf z131 zo131 dX4_addRule_56 F10_43 rfl h
theorem s131_59 : zX d 131 59 ls st A K = zX d 131 60 ls (zI 0 :: st) A K := zx_const z131 dX4_addRule_59 (by decide) rfl
theorem s131_60 : zX d 131 60 ls st A K = zX d 131 62 ls (zI (96) :: st) A K := zx_bipush z131 dX4_addRule_60 (by decide) rfl
theorem s131_62 : zX (d + 1) 131 62 ls (zI i4 :: zI i3 :: zO o2 :: zI i1 :: zO o0 :: []) A K = zX d 138 0 [zO o0, zI i1, zO o2, zI i3, zI i4, zU] [] A (zK (d + 1) 131 62 65 ls [] K) := zx_callS z131 zo131 dX4_addRule_62 rfl C10_169 rfl rfl zm138 rfl rfl (zwt_le (Nat.le_of_ble_eq_true rfl)) rfl
theorem s131_65 : zX d 131 65 [zO o, v1] st A K = zX d 131 66 [zO o, v1] (zO o :: st) A K := zx_aload_n z131 dX4_addRule_65 rfl rfl
theorem s131_66 (h : tg A a = 9) : zX d 131 66 ls (zO (some a) :: st) A K = zX d 131 69 ls (fd A a 13 :: st) A K := zx_getf z131 zo131 dX4_addRule_66 F10_40 rfl h
theorem s131_69 : zX d 131 69 ls st A K = zX d 131 70 ls (zI 0 :: st) A K := zx_const z131 dX4_addRule_69 (by decide) rfl
theorem s131_70 : zX d 131 70 ls st A K = zX d 131 71 ls (zI 0 :: st) A K := zx_const z131 dX4_addRule_70 (by decide) rfl
theorem s131_71 (h : tg A a = 20) (h0 : 0 ≤ x) (h1 : x.toNat < (ia A a).length) : zX d 131 71 ls (zI y :: zI x :: zO (some a) :: st) A K = zX d 131 72 ls st (pI A a ((ia A a).set x.toNat y)) K := zx_iast z131 dX4_addRule_71 rfl h h0 h1
theorem s131_72 : zX d 131 72 [zO o, v1] st A K = zX d 131 73 [zO o, v1] (zO o :: st) A K := zx_aload_n z131 dX4_addRule_72 rfl rfl
theorem s131_73 (h : tg A a = 9)  : zX (d + 1) 131 73 ls (zO (some a) :: []) A K = zX d 132 0 [zO (some a), zU, zU, zU] [] A (zK (d + 1) 131 73 76 ls [] K) := zx_callV (t := 9) z131 zo131 dX4_addRule_73 rfl C10_161 rfl rfl zm132 rfl rfl (zwt_le (Nat.le_of_ble_eq_true rfl)) rfl h
theorem s131_76 : zX d 131 76 ls (zI x :: st) A K = (if x = 0 then zX d 131 94 ls st A K else zX d 131 79 ls st A K) := zx_if_eq z131 dX4_addRule_76 rfl rfl
theorem s131_79 : zX d 131 79 [zO o, v1] st A K = zX d 131 80 [zO o, v1] (zO o :: st) A K := zx_aload_n z131 dX4_addRule_79 rfl rfl
theorem s131_80 (h : tg A a = 9) : zX d 131 80 ls (zO (some a) :: st) A K = zX d 131 83 ls (fd A a 16 :: st) A K := zx_getf z131 zo131 dX4_addRule_80 F10_148 rfl h
theorem s131_83 : zX d 131 83 [zO o, v1] st A K = zX d 131 84 [zO o, v1] (zO o :: st) A K := zx_aload_n z131 dX4_addRule_83 rfl rfl
theorem s131_84 (h : tg A a = 9) : zX d 131 84 ls (zO (some a) :: st) A K = zX d 131 87 ls (fd A a 15 :: st) A K := zx_getf z131 zo131 dX4_addRule_84 F10_151 rfl h
theorem s131_87 : zX d 131 87 ls (zI y :: zI x :: st) A K = (if x ≠ y then zX d 131 94 ls st A K else zX d 131 90 ls st A K) := zx_ic_ne z131 dX4_addRule_87 rfl rfl
theorem s131_90 : zX d 131 90 ls st A K = zX d 131 91 ls (zI 1 :: st) A K := zx_const z131 dX4_addRule_90 (by decide) rfl
theorem s131_91 : zX d 131 91 ls st A K = zX d 131 95 ls st A K := zx_goto z131 dX4_addRule_91 rfl
theorem s131_94 : zX d 131 94 ls st A K = zX d 131 95 ls (zI 0 :: st) A K := zx_const z131 dX4_addRule_94 (by decide) rfl
theorem s131_95 : zX d 131 95 [v0, v1] (zI x :: st) A K = zX d 131 96 [v0, zI x] st A K := zx_istore_n z131 dX4_addRule_95 (Nat.le_of_ble_eq_true rfl) rfl rfl
theorem s131_96 : zX d 131 96 [zO o, v1] st A K = zX d 131 97 [zO o, v1] (zO o :: st) A K := zx_aload_n z131 dX4_addRule_96 rfl rfl
theorem s131_97 : zX d 131 97 ls st A K = zX d 131 98 ls (zI 0 :: st) A K := zx_const z131 dX4_addRule_97 (by decide) rfl
theorem s131_98 (h : tg A a = 9) : zX d 131 98 ls (zI x :: zO (some a) :: st) A K = zX d 131 101 ls st (pF A a 15 (zI x)) K := zx_putf (q := 0) z131 zo131 dX4_addRule_98 F10_151 rfl rfl rfl h rfl
theorem s131_101 : zX d 131 101 [v0, zI x] st A K = zX d 131 102 [v0, zI x] (zI x :: st) A K := zx_iload_n z131 dX4_addRule_101 rfl rfl
theorem s131_102 : zX d 131 102 ls (zI x :: st) A K = (if x ≠ 0 then zX d 131 113 ls st A K else zX d 131 105 ls st A K) := zx_if_ne z131 dX4_addRule_102 rfl rfl
theorem s131_105 : zX d 131 105 ls st A K = zX d 131 107 ls (zI (-100) :: st) A K := zx_bipush z131 dX4_addRule_105 (by decide) rfl
theorem s131_107 : zX d 131 107 [zO o, v1] st A K = zX d 131 108 [zO o, v1] (zO o :: st) A K := zx_aload_n z131 dX4_addRule_107 rfl rfl
theorem s131_108 (h : tg A a = 9) : zX d 131 108 ls (zO (some a) :: st) A K = zX d 131 111 ls (fd A a 16 :: st) A K := zx_getf z131 zo131 dX4_addRule_108 F10_148 rfl h
theorem s131_111 : zX d 131 111 ls (zI y :: zI x :: st) A K = zX d 131 112 ls (zI (zw (x - y)) :: st) A K := zx_isub z131 dX4_addRule_111 rfl
theorem s131_112 : zX d 131 112 ls [zI x] A K = K (Sum.inl (some (zI x))) A := zx_iret z131 dX4_addRule_112 zk131 rfl
theorem s131_113 : zX d 131 113 [zO o, v1] st A K = zX d 131 114 [zO o, v1] (zO o :: st) A K := zx_aload_n z131 dX4_addRule_113 rfl rfl
theorem s131_114 (h : tg A a = 9)  : zX (d + 1) 131 114 ls (zO (some a) :: []) A K = zX d 139 0 [zO (some a), zU, zU] [] A (zK (d + 1) 131 114 117 ls [] K) := zx_callV (t := 9) z131 zo131 dX4_addRule_114 rfl C10_173 rfl rfl zm139 rfl rfl (zwt_le (Nat.le_of_ble_eq_true rfl)) rfl h
theorem s131_117 : zX d 131 117 ls (zI x :: st) A K = (if x ≠ 0 then zX d 131 123 ls st A K else zX d 131 120 ls st A K) := zx_if_ne z131 dX4_addRule_117 rfl rfl
theorem s131_120 : zX d 131 120 ls st A K = zX d 131 122 ls (zI (-6) :: st) A K := zx_bipush z131 dX4_addRule_120 (by decide) rfl
theorem s131_122 : zX d 131 122 ls [zI x] A K = K (Sum.inl (some (zI x))) A := zx_iret z131 dX4_addRule_122 zk131 rfl
theorem s131_123 : zX d 131 123 [zO o, v1] st A K = zX d 131 124 [zO o, v1] (zO o :: st) A K := zx_aload_n z131 dX4_addRule_123 rfl rfl
theorem s131_124 (h : tg A a = 9) : zX d 131 124 ls (zO (some a) :: st) A K = zX d 131 127 ls (fd A a 14 :: st) A K := zx_getf z131 zo131 dX4_addRule_124 F10_43 rfl h
theorem s131_127 : zX d 131 127 ls st A K = zX d 131 128 ls (zI 0 :: st) A K := zx_const z131 dX4_addRule_127 (by decide) rfl
theorem s131_128 : zX d 131 128 [zO o, v1] st A K = zX d 131 129 [zO o, v1] (zO o :: st) A K := zx_aload_n z131 dX4_addRule_128 rfl rfl
theorem s131_129 (h : tg A a = 9) : zX d 131 129 ls (zO (some a) :: st) A K = zX d 131 132 ls (fd A a 2 :: st) A K := zx_getf z131 zo131 dX4_addRule_129 F10_16 rfl h
theorem s131_132 : zX d 131 132 [zO o, v1] st A K = zX d 131 133 [zO o, v1] (zO o :: st) A K := zx_aload_n z131 dX4_addRule_132 rfl rfl
theorem s131_133 (h : tg A a = 9) : zX d 131 133 ls (zO (some a) :: st) A K = zX d 131 136 ls (fd A a 6 :: st) A K := zx_getf z131 zo131 dX4_addRule_133 F10_121 rfl h
theorem s131_136 : zX (d + 1) 131 136 ls (zI i0 :: [w0, w1, w2]) A K = zX d 141 0 [zI i0] [] A (zK (d + 1) 131 136 139 ls [w0, w1, w2] K) := zx_callS z131 zo131 dX4_addRule_136 rfl C10_125 rfl rfl zm141 rfl rfl (zwt_le (Nat.le_of_ble_eq_true rfl)) rfl
theorem s131_139 : zX d 131 139 ls st A K = zX d 131 141 ls (zI (96) :: st) A K := zx_bipush z131 dX4_addRule_139 (by decide) rfl
theorem s131_141 : zX (d + 1) 131 141 ls (zI i4 :: zI i3 :: zO o2 :: zI i1 :: zO o0 :: []) A K = zX d 138 0 [zO o0, zI i1, zO o2, zI i3, zI i4, zU] [] A (zK (d + 1) 131 141 144 ls [] K) := zx_callS z131 zo131 dX4_addRule_141 rfl C10_169 rfl rfl zm138 rfl rfl (zwt_le (Nat.le_of_ble_eq_true rfl)) rfl
theorem s131_144 : zX d 131 144 [zO o, v1] st A K = zX d 131 145 [zO o, v1] (zO o :: st) A K := zx_aload_n z131 dX4_addRule_144 rfl rfl
theorem s131_145 (h : tg A a = 9) : zX d 131 145 ls (zO (some a) :: st) A K = zX d 131 148 ls (fd A a 13 :: st) A K := zx_getf z131 zo131 dX4_addRule_145 F10_40 rfl h
theorem s131_148 : zX d 131 148 ls st A K = zX d 131 149 ls (zI 0 :: st) A K := zx_const z131 dX4_addRule_148 (by decide) rfl
theorem s131_149 : zX d 131 149 [zO o, v1] st A K = zX d 131 150 [zO o, v1] (zO o :: st) A K := zx_aload_n z131 dX4_addRule_149 rfl rfl
theorem s131_150 (h : tg A a = 9) : zX d 131 150 ls (zO (some a) :: st) A K = zX d 131 153 ls (fd A a 2 :: st) A K := zx_getf z131 zo131 dX4_addRule_150 F10_16 rfl h
theorem s131_153 : zX d 131 153 [zO o, v1] st A K = zX d 131 154 [zO o, v1] (zO o :: st) A K := zx_aload_n z131 dX4_addRule_153 rfl rfl
theorem s131_154 (h : tg A a = 9) : zX d 131 154 ls (zO (some a) :: st) A K = zX d 131 157 ls (fd A a 6 :: st) A K := zx_getf z131 zo131 dX4_addRule_154 F10_121 rfl h
theorem s131_157 : zX (d + 1) 131 157 ls (zI i0 :: [w0, w1, w2]) A K = zX d 142 0 [zI i0] [] A (zK (d + 1) 131 157 160 ls [w0, w1, w2] K) := zx_callS z131 zo131 dX4_addRule_157 rfl C10_145 rfl rfl zm142 rfl rfl (zwt_le (Nat.le_of_ble_eq_true rfl)) rfl
theorem s131_160 : zX d 131 160 ls st A K = zX d 131 162 ls (zI (96) :: st) A K := zx_bipush z131 dX4_addRule_160 (by decide) rfl
theorem s131_162 : zX (d + 1) 131 162 ls (zI i4 :: zI i3 :: zO o2 :: zI i1 :: zO o0 :: []) A K = zX d 138 0 [zO o0, zI i1, zO o2, zI i3, zI i4, zU] [] A (zK (d + 1) 131 162 165 ls [] K) := zx_callS z131 zo131 dX4_addRule_162 rfl C10_169 rfl rfl zm138 rfl rfl (zwt_le (Nat.le_of_ble_eq_true rfl)) rfl
theorem s131_165 : zX d 131 165 [zO o, v1] st A K = zX d 131 166 [zO o, v1] (zO o :: st) A K := zx_aload_n z131 dX4_addRule_165 rfl rfl
theorem s131_166 (h : zc v = true) : zX d 131 166 ls (v :: st) A K = zX d 131 167 ls (v :: v :: st) A K := zx_dup z131 dX4_addRule_166 rfl h
theorem s131_167 (h : tg A a = 9) : zX d 131 167 ls (zO (some a) :: st) A K = zX d 131 170 ls (fd A a 6 :: st) A K := zx_getf z131 zo131 dX4_addRule_167 F10_121 rfl h
theorem s131_170 : zX d 131 170 ls st A K = zX d 131 171 ls (zI 1 :: st) A K := zx_const z131 dX4_addRule_170 (by decide) rfl
theorem s131_171 : zX d 131 171 ls (zI y :: zI x :: st) A K = zX d 131 172 ls (zI (zw (x + y)) :: st) A K := zx_iadd z131 dX4_addRule_171 rfl
theorem s131_172 (h : tg A a = 9) : zX d 131 172 ls (zI x :: zO (some a) :: st) A K = zX d 131 175 ls st (pF A a 6 (zI x)) K := zx_putf (q := 0) z131 zo131 dX4_addRule_172 F10_121 rfl rfl rfl h rfl
theorem s131_175 : zX d 131 175 [zO o, v1] st A K = zX d 131 176 [zO o, v1] (zO o :: st) A K := zx_aload_n z131 dX4_addRule_175 rfl rfl
theorem s131_176 (h : tg A a = 9) : zX d 131 176 ls (zO (some a) :: st) A K = zX d 131 179 ls (fd A a 6 :: st) A K := zx_getf z131 zo131 dX4_addRule_176 F10_121 rfl h
theorem s131_179 : zX d 131 179 ls st A K = zX d 131 180 ls (zI 1 :: st) A K := zx_const z131 dX4_addRule_179 (by decide) rfl
theorem s131_180 : zX d 131 180 ls (zI y :: zI x :: st) A K = zX d 131 181 ls (zI (zw (x - y)) :: st) A K := zx_isub z131 dX4_addRule_180 rfl
theorem s131_181 : zX d 131 181 ls [zI x] A K = K (Sum.inl (some (zI x))) A := zx_iret z131 dX4_addRule_181 zk131 rfl
theorem s132_0 : zX d 132 0 [zO o, v1, v2, v3] st A K = zX d 132 1 [zO o, v1, v2, v3] (zO o :: st) A K := zx_aload_n z132 dX4_parsesTerm_0 rfl rfl
theorem s132_1 (h : tg A a = 9)  : zX (d + 1) 132 1 ls (zO (some a) :: []) A K = zX d 133 0 [zO (some a)] [] A (zK (d + 1) 132 1 4 ls [] K) := zx_callV (t := 9) z132 zo132 dX4_parsesTerm_1 rfl C10_154 rfl rfl zm133 rfl rfl (zwt_le (Nat.le_of_ble_eq_true rfl)) rfl h
theorem s132_4 : zX d 132 4 [v0, v1, v2, v3] (zI x :: st) A K = zX d 132 5 [v0, zI x, v2, v3] st A K := zx_istore_n z132 dX4_parsesTerm_4 (Nat.le_of_ble_eq_true rfl) rfl rfl
theorem s132_5 : zX d 132 5 [v0, zI x, v2, v3] st A K = zX d 132 6 [v0, zI x, v2, v3] (zI x :: st) A K := zx_iload_n z132 dX4_parsesTerm_5 rfl rfl
theorem s132_6 : zX (d + 1) 132 6 ls (zI i0 :: []) A K = zX d 134 0 [zI i0] [] A (zK (d + 1) 132 6 9 ls [] K) := zx_callS z132 zo132 dX4_parsesTerm_6 rfl C10_109 rfl rfl zm134 rfl rfl (zwt_le (Nat.le_of_ble_eq_true rfl)) rfl
theorem s132_9 : zX d 132 9 ls (zI x :: st) A K = (if x ≠ 0 then zX d 132 39 ls st A K else zX d 132 12 ls st A K) := zx_if_ne z132 dX4_parsesTerm_9 rfl rfl
theorem s132_12 : zX d 132 12 [v0, zI x, v2, v3] st A K = zX d 132 13 [v0, zI x, v2, v3] (zI x :: st) A K := zx_iload_n z132 dX4_parsesTerm_12 rfl rfl
theorem s132_13 : zX (d + 1) 132 13 ls (zI i0 :: []) A K = zX d 135 0 [zI i0] [] A (zK (d + 1) 132 13 16 ls [] K) := zx_callS z132 zo132 dX4_parsesTerm_13 rfl C10_128 rfl rfl zm135 rfl rfl (zwt_le (Nat.le_of_ble_eq_true rfl)) rfl
theorem s132_16 : zX d 132 16 ls (zI x :: st) A K = (if x ≠ 0 then zX d 132 39 ls st A K else zX d 132 19 ls st A K) := zx_if_ne z132 dX4_parsesTerm_16 rfl rfl
theorem s132_19 : zX d 132 19 [v0, zI x, v2, v3] st A K = zX d 132 20 [v0, zI x, v2, v3] (zI x :: st) A K := zx_iload_n z132 dX4_parsesTerm_19 rfl rfl
theorem s132_20 : zX d 132 20 ls st A K = zX d 132 22 ls (zI (122) :: st) A K := zx_bipush z132 dX4_parsesTerm_20 (by decide) rfl
theorem s132_22 : zX d 132 22 ls (zI y :: zI x :: st) A K = (if x = y then zX d 132 39 ls st A K else zX d 132 25 ls st A K) := zx_ic_eq z132 dX4_parsesTerm_22 rfl rfl
theorem s132_25 : zX d 132 25 [v0, zI x, v2, v3] st A K = zX d 132 26 [v0, zI x, v2, v3] (zI x :: st) A K := zx_iload_n z132 dX4_parsesTerm_25 rfl rfl
theorem s132_26 : zX d 132 26 ls st A K = zX d 132 28 ls (zI (115) :: st) A K := zx_bipush z132 dX4_parsesTerm_26 (by decide) rfl
theorem s132_28 : zX d 132 28 ls (zI y :: zI x :: st) A K = (if x = y then zX d 132 39 ls st A K else zX d 132 31 ls st A K) := zx_ic_eq z132 dX4_parsesTerm_28 rfl rfl
theorem s132_31 : zX d 132 31 [v0, zI x, v2, v3] st A K = zX d 132 32 [v0, zI x, v2, v3] (zI x :: st) A K := zx_iload_n z132 dX4_parsesTerm_31 rfl rfl
theorem s132_32 : zX d 132 32 ls st A K = zX d 132 34 ls (zI (99) :: st) A K := zx_bipush z132 dX4_parsesTerm_32 (by decide) rfl
theorem s132_34 : zX d 132 34 ls (zI y :: zI x :: st) A K = (if x = y then zX d 132 39 ls st A K else zX d 132 37 ls st A K) := zx_ic_eq z132 dX4_parsesTerm_34 rfl rfl
theorem s132_37 : zX d 132 37 ls st A K = zX d 132 38 ls (zI 0 :: st) A K := zx_const z132 dX4_parsesTerm_37 (by decide) rfl
theorem s132_38 (h : x = 0 ∨ x = 1) : zX d 132 38 ls [zI x] A K = K (Sum.inl (some (zI x))) A := zx_iret z132 dX4_parsesTerm_38 zk132 (by rcases h with q | q <;> subst q <;> rfl)
theorem s132_39 : zX d 132 39 [zO o, v1, v2, v3] st A K = zX d 132 40 [zO o, v1, v2, v3] (zO o :: st) A K := zx_aload_n z132 dX4_parsesTerm_39 rfl rfl
theorem s132_40 (h : zc v = true) : zX d 132 40 ls (v :: st) A K = zX d 132 41 ls (v :: v :: st) A K := zx_dup z132 dX4_parsesTerm_40 rfl h
theorem s132_41 (h : tg A a = 9) : zX d 132 41 ls (zO (some a) :: st) A K = zX d 132 44 ls (fd A a 16 :: st) A K := zx_getf z132 zo132 dX4_parsesTerm_41 F10_148 rfl h
theorem s132_44 : zX d 132 44 ls st A K = zX d 132 45 ls (zI 1 :: st) A K := zx_const z132 dX4_parsesTerm_44 (by decide) rfl
theorem s132_45 : zX d 132 45 ls (zI y :: zI x :: st) A K = zX d 132 46 ls (zI (zw (x + y)) :: st) A K := zx_iadd z132 dX4_parsesTerm_45 rfl
theorem s132_46 (h : tg A a = 9) : zX d 132 46 ls (zI x :: zO (some a) :: st) A K = zX d 132 49 ls st (pF A a 16 (zI x)) K := zx_putf (q := 0) z132 zo132 dX4_parsesTerm_46 F10_148 rfl rfl rfl h rfl
theorem s132_49 : zX d 132 49 [zO o, v1, v2, v3] st A K = zX d 132 50 [zO o, v1, v2, v3] (zO o :: st) A K := zx_aload_n z132 dX4_parsesTerm_49 rfl rfl
theorem s132_50 (h : tg A a = 9) : zX d 132 50 ls (zO (some a) :: st) A K = zX d 132 53 ls (fd A a 13 :: st) A K := zx_getf z132 zo132 dX4_parsesTerm_50 F10_40 rfl h
theorem s132_53 : zX d 132 53 ls st A K = zX d 132 54 ls (zI 0 :: st) A K := zx_const z132 dX4_parsesTerm_53 (by decide) rfl
theorem s132_54 (h : zc v = true) (h2 : zc u = true) : zX d 132 54 ls (v :: u :: st) A K = zX d 132 55 ls (v :: u :: v :: u :: st) A K := zx_dup2 z132 dX4_parsesTerm_54 rfl h h2
theorem s132_55 (h : tg A a = 20) (h0 : 0 ≤ x) (h1 : x.toNat < (ia A a).length) : zX d 132 55 ls (zI x :: zO (some a) :: st) A K = zX d 132 56 ls (zI ((ia A a).getD x.toNat 0) :: st) A K := zx_iald z132 dX4_parsesTerm_55 rfl h h0 h1
theorem s132_55s (h : tg A a = 30) (h0 : 0 ≤ x) (h1 : x.toNat < (ia A a).length) : zX d 132 55 ls (zI x :: zO (some a) :: st) A K = zX d 132 56 ls (zI ((ia A a).getD x.toNat 0) :: st) A K := zx_sald z132 dX4_parsesTerm_55 rfl h h0 h1
theorem s132_56 : zX d 132 56 ls st A K = zX d 132 57 ls (zI 1 :: st) A K := zx_const z132 dX4_parsesTerm_56 (by decide) rfl
theorem s132_57 : zX d 132 57 ls (zI y :: zI x :: st) A K = zX d 132 58 ls (zI (zw (x + y)) :: st) A K := zx_iadd z132 dX4_parsesTerm_57 rfl
theorem s132_58 (h : tg A a = 20) (h0 : 0 ≤ x) (h1 : x.toNat < (ia A a).length) : zX d 132 58 ls (zI y :: zI x :: zO (some a) :: st) A K = zX d 132 59 ls st (pI A a ((ia A a).set x.toNat y)) K := zx_iast z132 dX4_parsesTerm_58 rfl h h0 h1
theorem s132_59 : zX d 132 59 [zO o, v1, v2, v3] st A K = zX d 132 60 [zO o, v1, v2, v3] (zO o :: st) A K := zx_aload_n z132 dX4_parsesTerm_59 rfl rfl
theorem s132_60 (h : tg A a = 9) : zX d 132 60 ls (zO (some a) :: st) A K = zX d 132 63 ls (fd A a 13 :: st) A K := zx_getf z132 zo132 dX4_parsesTerm_60 F10_40 rfl h
theorem s132_63 : zX d 132 63 [zO o, v1, v2, v3] st A K = zX d 132 64 [zO o, v1, v2, v3] (zO o :: st) A K := zx_aload_n z132 dX4_parsesTerm_63 rfl rfl
theorem s132_64 (h : tg A a = 9) : zX d 132 64 ls (zO (some a) :: st) A K = zX d 132 67 ls (fd A a 13 :: st) A K := zx_getf z132 zo132 dX4_parsesTerm_64 F10_40 rfl h
theorem s132_67 : zX d 132 67 ls st A K = zX d 132 68 ls (zI 0 :: st) A K := zx_const z132 dX4_parsesTerm_67 (by decide) rfl
theorem s132_68 (h : tg A a = 20) (h0 : 0 ≤ x) (h1 : x.toNat < (ia A a).length) : zX d 132 68 ls (zI x :: zO (some a) :: st) A K = zX d 132 69 ls (zI ((ia A a).getD x.toNat 0) :: st) A K := zx_iald z132 dX4_parsesTerm_68 rfl h h0 h1
theorem s132_68s (h : tg A a = 30) (h0 : 0 ≤ x) (h1 : x.toNat < (ia A a).length) : zX d 132 68 ls (zI x :: zO (some a) :: st) A K = zX d 132 69 ls (zI ((ia A a).getD x.toNat 0) :: st) A K := zx_sald z132 dX4_parsesTerm_68 rfl h h0 h1
theorem s132_69 : zX d 132 69 [v0, zI x, v2, v3] st A K = zX d 132 70 [v0, zI x, v2, v3] (zI x :: st) A K := zx_iload_n z132 dX4_parsesTerm_69 rfl rfl
theorem s132_70 (h : tg A a = 20) (h0 : 0 ≤ x) (h1 : x.toNat < (ia A a).length) : zX d 132 70 ls (zI y :: zI x :: zO (some a) :: st) A K = zX d 132 71 ls st (pI A a ((ia A a).set x.toNat y)) K := zx_iast z132 dX4_parsesTerm_70 rfl h h0 h1
theorem s132_71 : zX d 132 71 [zO o, v1, v2, v3] st A K = zX d 132 72 [zO o, v1, v2, v3] (zO o :: st) A K := zx_aload_n z132 dX4_parsesTerm_71 rfl rfl
theorem s132_72 : zX d 132 72 [v0, zI x, v2, v3] st A K = zX d 132 73 [v0, zI x, v2, v3] (zI x :: st) A K := zx_iload_n z132 dX4_parsesTerm_72 rfl rfl
theorem s132_73 (h : tg A a = 9)  : zX (d + 1) 132 73 ls (zI i0 :: zO (some a) :: []) A K = zX d 136 0 [zO (some a), zI i0] [] A (zK (d + 1) 132 73 76 ls [] K) := zx_callV (t := 9) z132 zo132 dX4_parsesTerm_73 rfl C10_113 rfl rfl zm136 rfl rfl (zwt_le (Nat.le_of_ble_eq_true rfl)) rfl h
theorem s132_76 : zX d 132 76 [v0, v1, v2, v3] (zI x :: st) A K = zX d 132 77 [v0, v1, zI x, v3] st A K := zx_istore_n z132 dX4_parsesTerm_76 (Nat.le_of_ble_eq_true rfl) rfl rfl
theorem s132_77 : zX d 132 77 ls st A K = zX d 132 78 ls (zI 0 :: st) A K := zx_const z132 dX4_parsesTerm_77 (by decide) rfl
theorem s132_78 : zX d 132 78 [v0, v1, v2, v3] (zI x :: st) A K = zX d 132 79 [v0, v1, v2, zI x] st A K := zx_istore_n z132 dX4_parsesTerm_78 (Nat.le_of_ble_eq_true rfl) rfl rfl
theorem s132_79 : zX d 132 79 [v0, v1, v2, zI x] st A K = zX d 132 80 [v0, v1, v2, zI x] (zI x :: st) A K := zx_iload_n z132 dX4_parsesTerm_79 rfl rfl
theorem s132_80 : zX d 132 80 [v0, v1, zI x, v3] st A K = zX d 132 81 [v0, v1, zI x, v3] (zI x :: st) A K := zx_iload_n z132 dX4_parsesTerm_80 rfl rfl
theorem s132_81 : zX d 132 81 ls (zI y :: zI x :: st) A K = (if y ≤ x then zX d 132 117 ls st A K else zX d 132 84 ls st A K) := zx_ic_ge z132 dX4_parsesTerm_81 rfl rfl
theorem s132_84 : zX d 132 84 [zO o, v1, v2, v3] st A K = zX d 132 85 [zO o, v1, v2, v3] (zO o :: st) A K := zx_aload_n z132 dX4_parsesTerm_84 rfl rfl
theorem s132_85 : zX d 132 85 [v0, v1, v2, zI x] st A K = zX d 132 86 [v0, v1, v2, zI x] (zI x :: st) A K := zx_iload_n z132 dX4_parsesTerm_85 rfl rfl
theorem s132_86 : zX d 132 86 ls (zI x :: st) A K = (if x ≠ 0 then zX d 132 94 ls st A K else zX d 132 89 ls st A K) := zx_if_ne z132 dX4_parsesTerm_86 rfl rfl
theorem s132_89 : zX d 132 89 ls st A K = zX d 132 91 ls (zI (40) :: st) A K := zx_bipush z132 dX4_parsesTerm_89 (by decide) rfl
theorem s132_91 : zX d 132 91 ls st A K = zX d 132 96 ls st A K := zx_goto z132 dX4_parsesTerm_91 rfl
theorem s132_94 : zX d 132 94 ls st A K = zX d 132 96 ls (zI (44) :: st) A K := zx_bipush z132 dX4_parsesTerm_94 (by decide) rfl
theorem s132_96 (h : tg A a = 9)  : zX (d + 1) 132 96 ls (zI i0 :: zO (some a) :: []) A K = zX d 137 0 [zO (some a), zI i0] [] A (zK (d + 1) 132 96 99 ls [] K) := zx_callV (t := 9) z132 zo132 dX4_parsesTerm_96 rfl C10_158 rfl rfl zm137 rfl rfl (zwt_le (Nat.le_of_ble_eq_true rfl)) rfl h
theorem s132_99 : zX d 132 99 ls (zI x :: st) A K = (if x = 0 then zX d 132 109 ls st A K else zX d 132 102 ls st A K) := zx_if_eq z132 dX4_parsesTerm_99 rfl rfl
theorem s132_102 : zX d 132 102 [zO o, v1, v2, v3] st A K = zX d 132 103 [zO o, v1, v2, v3] (zO o :: st) A K := zx_aload_n z132 dX4_parsesTerm_102 rfl rfl
theorem s132_103 (h : tg A a = 9)  : zX (d + 1) 132 103 ls (zO (some a) :: []) A K = zX d 132 0 [zO (some a), zU, zU, zU] [] A (zK (d + 1) 132 103 106 ls [] K) := zx_callV (t := 9) z132 zo132 dX4_parsesTerm_103 rfl C10_161 rfl rfl zm132 rfl rfl (zwt_le (Nat.le_of_ble_eq_true rfl)) rfl h
theorem s132_106 : zX d 132 106 ls (zI x :: st) A K = (if x ≠ 0 then zX d 132 111 ls st A K else zX d 132 109 ls st A K) := zx_if_ne z132 dX4_parsesTerm_106 rfl rfl
theorem s132_109 : zX d 132 109 ls st A K = zX d 132 110 ls (zI 0 :: st) A K := zx_const z132 dX4_parsesTerm_109 (by decide) rfl
theorem s132_110 (h : x = 0 ∨ x = 1) : zX d 132 110 ls [zI x] A K = K (Sum.inl (some (zI x))) A := zx_iret z132 dX4_parsesTerm_110 zk132 (by rcases h with q | q <;> subst q <;> rfl)
theorem s132_111 : zX d 132 111 [v0, v1, v2, zI x] st A K = zX d 132 114 [v0, v1, v2, zI (zw (x + 1))] st A K := zx_iinc z132 dX4_parsesTerm_111 rfl rfl rfl
theorem s132_114 : zX d 132 114 ls st A K = zX d 132 79 ls st A K := zx_goto z132 dX4_parsesTerm_114 rfl
theorem s132_117 : zX d 132 117 [v0, v1, zI x, v3] st A K = zX d 132 118 [v0, v1, zI x, v3] (zI x :: st) A K := zx_iload_n z132 dX4_parsesTerm_117 rfl rfl
theorem s132_118 : zX d 132 118 ls (zI x :: st) A K = (if x = 0 then zX d 132 130 ls st A K else zX d 132 121 ls st A K) := zx_if_eq z132 dX4_parsesTerm_118 rfl rfl
theorem s132_121 : zX d 132 121 [zO o, v1, v2, v3] st A K = zX d 132 122 [zO o, v1, v2, v3] (zO o :: st) A K := zx_aload_n z132 dX4_parsesTerm_121 rfl rfl
theorem s132_122 : zX d 132 122 ls st A K = zX d 132 124 ls (zI (41) :: st) A K := zx_bipush z132 dX4_parsesTerm_122 (by decide) rfl
theorem s132_124 (h : tg A a = 9)  : zX (d + 1) 132 124 ls (zI i0 :: zO (some a) :: []) A K = zX d 137 0 [zO (some a), zI i0] [] A (zK (d + 1) 132 124 127 ls [] K) := zx_callV (t := 9) z132 zo132 dX4_parsesTerm_124 rfl C10_158 rfl rfl zm137 rfl rfl (zwt_le (Nat.le_of_ble_eq_true rfl)) rfl h
theorem s132_127 : zX d 132 127 ls (zI x :: st) A K = (if x = 0 then zX d 132 134 ls st A K else zX d 132 130 ls st A K) := zx_if_eq z132 dX4_parsesTerm_127 rfl rfl
theorem s132_130 : zX d 132 130 ls st A K = zX d 132 131 ls (zI 1 :: st) A K := zx_const z132 dX4_parsesTerm_130 (by decide) rfl
theorem s132_131 : zX d 132 131 ls st A K = zX d 132 135 ls st A K := zx_goto z132 dX4_parsesTerm_131 rfl
theorem s132_134 : zX d 132 134 ls st A K = zX d 132 135 ls (zI 0 :: st) A K := zx_const z132 dX4_parsesTerm_134 (by decide) rfl
theorem s132_135 (h : x = 0 ∨ x = 1) : zX d 132 135 ls [zI x] A K = K (Sum.inl (some (zI x))) A := zx_iret z132 dX4_parsesTerm_135 zk132 (by rcases h with q | q <;> subst q <;> rfl)
theorem s133_0 : zX d 133 0 [zO o] st A K = zX d 133 1 [zO o] (zO o :: st) A K := zx_aload_n z133 dX4_next_0 rfl rfl
theorem s133_1 (h : tg A a = 9) : zX d 133 1 ls (zO (some a) :: st) A K = zX d 133 4 ls (fd A a 16 :: st) A K := zx_getf z133 zo133 dX4_next_1 F10_148 rfl h
theorem s133_4 : zX d 133 4 [zO o] st A K = zX d 133 5 [zO o] (zO o :: st) A K := zx_aload_n z133 dX4_next_4 rfl rfl
theorem s133_5 (h : tg A a = 9) : zX d 133 5 ls (zO (some a) :: st) A K = zX d 133 8 ls (fd A a 15 :: st) A K := zx_getf z133 zo133 dX4_next_5 F10_151 rfl h
theorem s133_8 : zX d 133 8 ls (zI y :: zI x :: st) A K = (if y ≤ x then zX d 133 23 ls st A K else zX d 133 11 ls st A K) := zx_ic_ge z133 dX4_next_8 rfl rfl
theorem s133_11 : zX d 133 11 [zO o] st A K = zX d 133 12 [zO o] (zO o :: st) A K := zx_aload_n z133 dX4_next_11 rfl rfl
theorem s133_12 (h : tg A a = 9) : zX d 133 12 ls (zO (some a) :: st) A K = zX d 133 15 ls (fd A a 12 :: st) A K := zx_getf z133 zo133 dX4_next_12 F10_37 rfl h
theorem s133_15 : zX d 133 15 [zO o] st A K = zX d 133 16 [zO o] (zO o :: st) A K := zx_aload_n z133 dX4_next_15 rfl rfl
theorem s133_16 (h : tg A a = 9) : zX d 133 16 ls (zO (some a) :: st) A K = zX d 133 19 ls (fd A a 16 :: st) A K := zx_getf z133 zo133 dX4_next_16 F10_148 rfl h
theorem s133_19 (h : tg A a = 20) (h0 : 0 ≤ x) (h1 : x.toNat < (ia A a).length) : zX d 133 19 ls (zI x :: zO (some a) :: st) A K = zX d 133 20 ls (zI ((ia A a).getD x.toNat 0) :: st) A K := zx_iald z133 dX4_next_19 rfl h h0 h1
theorem s133_19s (h : tg A a = 30) (h0 : 0 ≤ x) (h1 : x.toNat < (ia A a).length) : zX d 133 19 ls (zI x :: zO (some a) :: st) A K = zX d 133 20 ls (zI ((ia A a).getD x.toNat 0) :: st) A K := zx_sald z133 dX4_next_19 rfl h h0 h1
theorem s133_20 : zX d 133 20 ls st A K = zX d 133 24 ls st A K := zx_goto z133 dX4_next_20 rfl
theorem s133_23 : zX d 133 23 ls st A K = zX d 133 24 ls (zI (-1) :: st) A K := zx_const z133 dX4_next_23 (by decide) rfl
theorem s133_24 : zX d 133 24 ls [zI x] A K = K (Sum.inl (some (zI x))) A := zx_iret z133 dX4_next_24 zk133 rfl
theorem s134_0 : zX d 134 0 [zI x] st A K = zX d 134 1 [zI x] (zI x :: st) A K := zx_iload_n z134 dX4_isFunction_0 rfl rfl
theorem s134_1 : zX d 134 1 ls st A K = zX d 134 3 ls (zI (102) :: st) A K := zx_bipush z134 dX4_isFunction_1 (by decide) rfl
theorem s134_3 : zX d 134 3 ls st A K = zX d 134 5 ls (zI (104) :: st) A K := zx_bipush z134 dX4_isFunction_3 (by decide) rfl
theorem s134_5 : zX (d + 1) 134 5 ls (zI i2 :: zI i1 :: zI i0 :: []) A K = zX d 129 0 [zI i0, zI i1, zI i2] [] A (zK (d + 1) 134 5 8 ls [] K) := zx_callS z134 zo134 dX4_isFunction_5 rfl C10_105 rfl rfl zm129 rfl rfl (zwt_le (Nat.le_of_ble_eq_true rfl)) rfl
theorem s134_8 (h : x = 0 ∨ x = 1) : zX d 134 8 ls [zI x] A K = K (Sum.inl (some (zI x))) A := zx_iret z134 dX4_isFunction_8 zk134 (by rcases h with q | q <;> subst q <;> rfl)
theorem s135_0 : zX d 135 0 [zI x] st A K = zX d 135 1 [zI x] (zI x :: st) A K := zx_iload_n z135 dX4_isVariable_0 rfl rfl
theorem s135_1 : zX d 135 1 ls st A K = zX d 135 3 ls (zI (120) :: st) A K := zx_bipush z135 dX4_isVariable_1 (by decide) rfl
theorem s135_3 : zX d 135 3 ls (zI y :: zI x :: st) A K = (if x = y then zX d 135 18 ls st A K else zX d 135 6 ls st A K) := zx_ic_eq z135 dX4_isVariable_3 rfl rfl
theorem s135_6 : zX d 135 6 [zI x] st A K = zX d 135 7 [zI x] (zI x :: st) A K := zx_iload_n z135 dX4_isVariable_6 rfl rfl
theorem s135_7 : zX d 135 7 ls st A K = zX d 135 9 ls (zI (121) :: st) A K := zx_bipush z135 dX4_isVariable_7 (by decide) rfl
theorem s135_9 : zX d 135 9 ls (zI y :: zI x :: st) A K = (if x = y then zX d 135 18 ls st A K else zX d 135 12 ls st A K) := zx_ic_eq z135 dX4_isVariable_9 rfl rfl
theorem s135_12 : zX d 135 12 [zI x] st A K = zX d 135 13 [zI x] (zI x :: st) A K := zx_iload_n z135 dX4_isVariable_12 rfl rfl
theorem s135_13 : zX d 135 13 ls st A K = zX d 135 15 ls (zI (119) :: st) A K := zx_bipush z135 dX4_isVariable_13 (by decide) rfl
theorem s135_15 : zX d 135 15 ls (zI y :: zI x :: st) A K = (if x ≠ y then zX d 135 22 ls st A K else zX d 135 18 ls st A K) := zx_ic_ne z135 dX4_isVariable_15 rfl rfl
theorem s135_18 : zX d 135 18 ls st A K = zX d 135 19 ls (zI 1 :: st) A K := zx_const z135 dX4_isVariable_18 (by decide) rfl
theorem s135_19 : zX d 135 19 ls st A K = zX d 135 23 ls st A K := zx_goto z135 dX4_isVariable_19 rfl
theorem s135_22 : zX d 135 22 ls st A K = zX d 135 23 ls (zI 0 :: st) A K := zx_const z135 dX4_isVariable_22 (by decide) rfl
theorem s135_23 (h : x = 0 ∨ x = 1) : zX d 135 23 ls [zI x] A K = K (Sum.inl (some (zI x))) A := zx_iret z135 dX4_isVariable_23 zk135 (by rcases h with q | q <;> subst q <;> rfl)
theorem s136_0 : zX d 136 0 [v0, zI x] st A K = zX d 136 1 [v0, zI x] (zI x :: st) A K := zx_iload_n z136 dX4_arityOf_0 rfl rfl
theorem s136_1 : zX (d + 1) 136 1 ls (zI i0 :: []) A K = zX d 134 0 [zI i0] [] A (zK (d + 1) 136 1 4 ls [] K) := zx_callS z136 zo136 dX4_arityOf_1 rfl C10_109 rfl rfl zm134 rfl rfl (zwt_le (Nat.le_of_ble_eq_true rfl)) rfl
theorem s136_4 : zX d 136 4 ls (zI x :: st) A K = (if x = 0 then zX d 136 19 ls st A K else zX d 136 7 ls st A K) := zx_if_eq z136 dX4_arityOf_4 rfl rfl
theorem s136_7 : zX d 136 7 [zO o, v1] st A K = zX d 136 8 [zO o, v1] (zO o :: st) A K := zx_aload_n z136 dX4_arityOf_7 rfl rfl
theorem s136_8 (h : tg A a = 9) : zX d 136 8 ls (zO (some a) :: st) A K = zX d 136 11 ls (fd A a 0 :: st) A K := zx_getf z136 zo136 dX4_arityOf_8 F10_9 rfl h
theorem s136_11 : zX d 136 11 [v0, zI x] st A K = zX d 136 12 [v0, zI x] (zI x :: st) A K := zx_iload_n z136 dX4_arityOf_11 rfl rfl
theorem s136_12 : zX d 136 12 ls st A K = zX d 136 14 ls (zI (102) :: st) A K := zx_bipush z136 dX4_arityOf_12 (by decide) rfl
theorem s136_14 : zX d 136 14 ls (zI y :: zI x :: st) A K = zX d 136 15 ls (zI (zw (x - y)) :: st) A K := zx_isub z136 dX4_arityOf_14 rfl
theorem s136_15 (h : tg A a = 20) (h0 : 0 ≤ x) (h1 : x.toNat < (ia A a).length) : zX d 136 15 ls (zI x :: zO (some a) :: st) A K = zX d 136 16 ls (zI ((ia A a).getD x.toNat 0) :: st) A K := zx_iald z136 dX4_arityOf_15 rfl h h0 h1
theorem s136_15s (h : tg A a = 30) (h0 : 0 ≤ x) (h1 : x.toNat < (ia A a).length) : zX d 136 15 ls (zI x :: zO (some a) :: st) A K = zX d 136 16 ls (zI ((ia A a).getD x.toNat 0) :: st) A K := zx_sald z136 dX4_arityOf_15 rfl h h0 h1
theorem s136_16 : zX d 136 16 ls st A K = zX d 136 40 ls st A K := zx_goto z136 dX4_arityOf_16 rfl
theorem s136_19 : zX d 136 19 [v0, zI x] st A K = zX d 136 20 [v0, zI x] (zI x :: st) A K := zx_iload_n z136 dX4_arityOf_19 rfl rfl
theorem s136_20 : zX d 136 20 ls st A K = zX d 136 22 ls (zI (115) :: st) A K := zx_bipush z136 dX4_arityOf_20 (by decide) rfl
theorem s136_22 : zX d 136 22 ls (zI y :: zI x :: st) A K = (if x ≠ y then zX d 136 29 ls st A K else zX d 136 25 ls st A K) := zx_ic_ne z136 dX4_arityOf_22 rfl rfl
theorem s136_25 : zX d 136 25 ls st A K = zX d 136 26 ls (zI 1 :: st) A K := zx_const z136 dX4_arityOf_25 (by decide) rfl
theorem s136_26 : zX d 136 26 ls st A K = zX d 136 40 ls st A K := zx_goto z136 dX4_arityOf_26 rfl
theorem s136_29 : zX d 136 29 [v0, zI x] st A K = zX d 136 30 [v0, zI x] (zI x :: st) A K := zx_iload_n z136 dX4_arityOf_29 rfl rfl
theorem s136_30 : zX d 136 30 ls st A K = zX d 136 32 ls (zI (99) :: st) A K := zx_bipush z136 dX4_arityOf_30 (by decide) rfl
theorem s136_32 : zX d 136 32 ls (zI y :: zI x :: st) A K = (if x ≠ y then zX d 136 39 ls st A K else zX d 136 35 ls st A K) := zx_ic_ne z136 dX4_arityOf_32 rfl rfl
theorem s136_35 : zX d 136 35 ls st A K = zX d 136 36 ls (zI 2 :: st) A K := zx_const z136 dX4_arityOf_35 (by decide) rfl
theorem s136_36 : zX d 136 36 ls st A K = zX d 136 40 ls st A K := zx_goto z136 dX4_arityOf_36 rfl
theorem s136_39 : zX d 136 39 ls st A K = zX d 136 40 ls (zI 0 :: st) A K := zx_const z136 dX4_arityOf_39 (by decide) rfl
theorem s136_40 : zX d 136 40 ls [zI x] A K = K (Sum.inl (some (zI x))) A := zx_iret z136 dX4_arityOf_40 zk136 rfl
theorem s137_0 : zX d 137 0 [zO o, v1] st A K = zX d 137 1 [zO o, v1] (zO o :: st) A K := zx_aload_n z137 dX4_accepts_0 rfl rfl
theorem s137_1 (h : tg A a = 9)  : zX (d + 1) 137 1 ls (zO (some a) :: []) A K = zX d 133 0 [zO (some a)] [] A (zK (d + 1) 137 1 4 ls [] K) := zx_callV (t := 9) z137 zo137 dX4_accepts_1 rfl C10_154 rfl rfl zm133 rfl rfl (zwt_le (Nat.le_of_ble_eq_true rfl)) rfl h
theorem s137_4 : zX d 137 4 [v0, zI x] st A K = zX d 137 5 [v0, zI x] (zI x :: st) A K := zx_iload_n z137 dX4_accepts_4 rfl rfl
theorem s137_5 : zX d 137 5 ls (zI y :: zI x :: st) A K = (if x = y then zX d 137 10 ls st A K else zX d 137 8 ls st A K) := zx_ic_eq z137 dX4_accepts_5 rfl rfl
theorem s137_8 : zX d 137 8 ls st A K = zX d 137 9 ls (zI 0 :: st) A K := zx_const z137 dX4_accepts_8 (by decide) rfl
theorem s137_9 (h : x = 0 ∨ x = 1) : zX d 137 9 ls [zI x] A K = K (Sum.inl (some (zI x))) A := zx_iret z137 dX4_accepts_9 zk137 (by rcases h with q | q <;> subst q <;> rfl)
theorem s137_10 : zX d 137 10 [zO o, v1] st A K = zX d 137 11 [zO o, v1] (zO o :: st) A K := zx_aload_n z137 dX4_accepts_10 rfl rfl
theorem s137_11 (h : zc v = true) : zX d 137 11 ls (v :: st) A K = zX d 137 12 ls (v :: v :: st) A K := zx_dup z137 dX4_accepts_11 rfl h
theorem s137_12 (h : tg A a = 9) : zX d 137 12 ls (zO (some a) :: st) A K = zX d 137 15 ls (fd A a 16 :: st) A K := zx_getf z137 zo137 dX4_accepts_12 F10_148 rfl h
theorem s137_15 : zX d 137 15 ls st A K = zX d 137 16 ls (zI 1 :: st) A K := zx_const z137 dX4_accepts_15 (by decide) rfl
theorem s137_16 : zX d 137 16 ls (zI y :: zI x :: st) A K = zX d 137 17 ls (zI (zw (x + y)) :: st) A K := zx_iadd z137 dX4_accepts_16 rfl
theorem s137_17 (h : tg A a = 9) : zX d 137 17 ls (zI x :: zO (some a) :: st) A K = zX d 137 20 ls st (pF A a 16 (zI x)) K := zx_putf (q := 0) z137 zo137 dX4_accepts_17 F10_148 rfl rfl rfl h rfl
theorem s137_20 : zX d 137 20 ls st A K = zX d 137 21 ls (zI 1 :: st) A K := zx_const z137 dX4_accepts_20 (by decide) rfl
theorem s137_21 (h : x = 0 ∨ x = 1) : zX d 137 21 ls [zI x] A K = K (Sum.inl (some (zI x))) A := zx_iret z137 dX4_accepts_21 zk137 (by rcases h with q | q <;> subst q <;> rfl)
theorem s138_0 : zX d 138 0 ls st A K = zX d 138 1 ls (zI 0 :: st) A K := zx_const z138 dX4_copy_0 (by decide) rfl
theorem s138_1 : zX d 138 1 [v0, v1, v2, v3, v4, v5] (zI x :: st) A K = zX d 138 3 [v0, v1, v2, v3, v4, zI x] st A K := zx_istore z138 dX4_copy_1 (Nat.le_of_ble_eq_true rfl) rfl rfl
theorem s138_3 : zX d 138 3 [v0, v1, v2, v3, v4, zI x] st A K = zX d 138 5 [v0, v1, v2, v3, v4, zI x] (zI x :: st) A K := zx_iload z138 dX4_copy_3 rfl rfl
theorem s138_5 : zX d 138 5 [v0, v1, v2, v3, zI x, v5] st A K = zX d 138 7 [v0, v1, v2, v3, zI x, v5] (zI x :: st) A K := zx_iload z138 dX4_copy_5 rfl rfl
theorem s138_7 : zX d 138 7 ls (zI y :: zI x :: st) A K = (if y ≤ x then zX d 138 28 ls st A K else zX d 138 10 ls st A K) := zx_ic_ge z138 dX4_copy_7 rfl rfl
theorem s138_10 : zX d 138 10 [v0, v1, zO o, v3, v4, v5] st A K = zX d 138 11 [v0, v1, zO o, v3, v4, v5] (zO o :: st) A K := zx_aload_n z138 dX4_copy_10 rfl rfl
theorem s138_11 : zX d 138 11 [v0, v1, v2, zI x, v4, v5] st A K = zX d 138 12 [v0, v1, v2, zI x, v4, v5] (zI x :: st) A K := zx_iload_n z138 dX4_copy_11 rfl rfl
theorem s138_12 : zX d 138 12 [v0, v1, v2, v3, v4, zI x] st A K = zX d 138 14 [v0, v1, v2, v3, v4, zI x] (zI x :: st) A K := zx_iload z138 dX4_copy_12 rfl rfl
theorem s138_14 : zX d 138 14 ls (zI y :: zI x :: st) A K = zX d 138 15 ls (zI (zw (x + y)) :: st) A K := zx_iadd z138 dX4_copy_14 rfl
theorem s138_15 : zX d 138 15 [zO o, v1, v2, v3, v4, v5] st A K = zX d 138 16 [zO o, v1, v2, v3, v4, v5] (zO o :: st) A K := zx_aload_n z138 dX4_copy_15 rfl rfl
theorem s138_16 : zX d 138 16 [v0, zI x, v2, v3, v4, v5] st A K = zX d 138 17 [v0, zI x, v2, v3, v4, v5] (zI x :: st) A K := zx_iload_n z138 dX4_copy_16 rfl rfl
theorem s138_17 : zX d 138 17 [v0, v1, v2, v3, v4, zI x] st A K = zX d 138 19 [v0, v1, v2, v3, v4, zI x] (zI x :: st) A K := zx_iload z138 dX4_copy_17 rfl rfl
theorem s138_19 : zX d 138 19 ls (zI y :: zI x :: st) A K = zX d 138 20 ls (zI (zw (x + y)) :: st) A K := zx_iadd z138 dX4_copy_19 rfl
theorem s138_20 (h : tg A a = 20) (h0 : 0 ≤ x) (h1 : x.toNat < (ia A a).length) : zX d 138 20 ls (zI x :: zO (some a) :: st) A K = zX d 138 21 ls (zI ((ia A a).getD x.toNat 0) :: st) A K := zx_iald z138 dX4_copy_20 rfl h h0 h1
theorem s138_20s (h : tg A a = 30) (h0 : 0 ≤ x) (h1 : x.toNat < (ia A a).length) : zX d 138 20 ls (zI x :: zO (some a) :: st) A K = zX d 138 21 ls (zI ((ia A a).getD x.toNat 0) :: st) A K := zx_sald z138 dX4_copy_20 rfl h h0 h1
theorem s138_21 (h : tg A a = 20) (h0 : 0 ≤ x) (h1 : x.toNat < (ia A a).length) : zX d 138 21 ls (zI y :: zI x :: zO (some a) :: st) A K = zX d 138 22 ls st (pI A a ((ia A a).set x.toNat y)) K := zx_iast z138 dX4_copy_21 rfl h h0 h1
theorem s138_22 : zX d 138 22 [v0, v1, v2, v3, v4, zI x] st A K = zX d 138 25 [v0, v1, v2, v3, v4, zI (zw (x + 1))] st A K := zx_iinc z138 dX4_copy_22 rfl rfl rfl
theorem s138_25 : zX d 138 25 ls st A K = zX d 138 3 ls st A K := zx_goto z138 dX4_copy_25 rfl
theorem s138_28 : zX d 138 28 ls [] A K = K (Sum.inl none) A := zx_vret z138 dX4_copy_28 rfl
theorem s139_0 : zX d 139 0 [zO o, v1, v2] st A K = zX d 139 1 [zO o, v1, v2] (zO o :: st) A K := zx_aload_n z139 dX4_isValidRule_0 rfl rfl
theorem s139_1 (h : tg A a = 9) : zX d 139 1 ls (zO (some a) :: st) A K = zX d 139 4 ls (fd A a 14 :: st) A K := zx_getf z139 zo139 dX4_isValidRule_1 F10_43 rfl h
theorem s139_4 : zX d 139 4 ls st A K = zX d 139 5 ls (zI 1 :: st) A K := zx_const z139 dX4_isValidRule_4 (by decide) rfl
theorem s139_5 (h : tg A a = 20) (h0 : 0 ≤ x) (h1 : x.toNat < (ia A a).length) : zX d 139 5 ls (zI x :: zO (some a) :: st) A K = zX d 139 6 ls (zI ((ia A a).getD x.toNat 0) :: st) A K := zx_iald z139 dX4_isValidRule_5 rfl h h0 h1
theorem s139_5s (h : tg A a = 30) (h0 : 0 ≤ x) (h1 : x.toNat < (ia A a).length) : zX d 139 5 ls (zI x :: zO (some a) :: st) A K = zX d 139 6 ls (zI ((ia A a).getD x.toNat 0) :: st) A K := zx_sald z139 dX4_isValidRule_5 rfl h h0 h1
theorem s139_6 : zX (d + 1) 139 6 ls (zI i0 :: []) A K = zX d 134 0 [zI i0] [] A (zK (d + 1) 139 6 9 ls [] K) := zx_callS z139 zo139 dX4_isValidRule_6 rfl C10_109 rfl rfl zm134 rfl rfl (zwt_le (Nat.le_of_ble_eq_true rfl)) rfl
theorem s139_9 : zX d 139 9 ls (zI x :: st) A K = (if x = 0 then zX d 139 38 ls st A K else zX d 139 12 ls st A K) := zx_if_eq z139 dX4_isValidRule_9 rfl rfl
theorem s139_12 : zX d 139 12 [zO o, v1, v2] st A K = zX d 139 13 [zO o, v1, v2] (zO o :: st) A K := zx_aload_n z139 dX4_isValidRule_12 rfl rfl
theorem s139_13 (h : tg A a = 9) : zX d 139 13 ls (zO (some a) :: st) A K = zX d 139 16 ls (fd A a 14 :: st) A K := zx_getf z139 zo139 dX4_isValidRule_13 F10_43 rfl h
theorem s139_16 : zX d 139 16 ls st A K = zX d 139 17 ls (zI 0 :: st) A K := zx_const z139 dX4_isValidRule_16 (by decide) rfl
theorem s139_17 (h : tg A a = 20) (h0 : 0 ≤ x) (h1 : x.toNat < (ia A a).length) : zX d 139 17 ls (zI x :: zO (some a) :: st) A K = zX d 139 18 ls (zI ((ia A a).getD x.toNat 0) :: st) A K := zx_iald z139 dX4_isValidRule_17 rfl h h0 h1
theorem s139_17s (h : tg A a = 30) (h0 : 0 ≤ x) (h1 : x.toNat < (ia A a).length) : zX d 139 17 ls (zI x :: zO (some a) :: st) A K = zX d 139 18 ls (zI ((ia A a).getD x.toNat 0) :: st) A K := zx_sald z139 dX4_isValidRule_17 rfl h h0 h1
theorem s139_18 : zX d 139 18 ls st A K = zX d 139 20 ls (zI (40) :: st) A K := zx_bipush z139 dX4_isValidRule_18 (by decide) rfl
theorem s139_20 : zX d 139 20 ls (zI y :: zI x :: st) A K = (if y < x then zX d 139 38 ls st A K else zX d 139 23 ls st A K) := zx_ic_gt z139 dX4_isValidRule_20 rfl rfl
theorem s139_23 : zX d 139 23 [zO o, v1, v2] st A K = zX d 139 24 [zO o, v1, v2] (zO o :: st) A K := zx_aload_n z139 dX4_isValidRule_23 rfl rfl
theorem s139_24 (h : tg A a = 9) : zX d 139 24 ls (zO (some a) :: st) A K = zX d 139 27 ls (fd A a 13 :: st) A K := zx_getf z139 zo139 dX4_isValidRule_24 F10_40 rfl h
theorem s139_27 : zX d 139 27 ls st A K = zX d 139 28 ls (zI 0 :: st) A K := zx_const z139 dX4_isValidRule_27 (by decide) rfl
theorem s139_28 (h : tg A a = 20) (h0 : 0 ≤ x) (h1 : x.toNat < (ia A a).length) : zX d 139 28 ls (zI x :: zO (some a) :: st) A K = zX d 139 29 ls (zI ((ia A a).getD x.toNat 0) :: st) A K := zx_iald z139 dX4_isValidRule_28 rfl h h0 h1
theorem s139_28s (h : tg A a = 30) (h0 : 0 ≤ x) (h1 : x.toNat < (ia A a).length) : zX d 139 28 ls (zI x :: zO (some a) :: st) A K = zX d 139 29 ls (zI ((ia A a).getD x.toNat 0) :: st) A K := zx_sald z139 dX4_isValidRule_28 rfl h h0 h1
theorem s139_29 : zX d 139 29 ls st A K = zX d 139 31 ls (zI (40) :: st) A K := zx_bipush z139 dX4_isValidRule_29 (by decide) rfl
theorem s139_31 : zX d 139 31 ls (zI y :: zI x :: st) A K = (if y < x then zX d 139 38 ls st A K else zX d 139 34 ls st A K) := zx_ic_gt z139 dX4_isValidRule_31 rfl rfl
theorem s139_34 : zX d 139 34 ls st A K = zX d 139 35 ls (zI 1 :: st) A K := zx_const z139 dX4_isValidRule_34 (by decide) rfl
theorem s139_35 : zX d 139 35 ls st A K = zX d 139 39 ls st A K := zx_goto z139 dX4_isValidRule_35 rfl
theorem s139_38 : zX d 139 38 ls st A K = zX d 139 39 ls (zI 0 :: st) A K := zx_const z139 dX4_isValidRule_38 (by decide) rfl
theorem s139_39 : zX d 139 39 [v0, v1, v2] (zI x :: st) A K = zX d 139 40 [v0, zI x, v2] st A K := zx_istore_n z139 dX4_isValidRule_39 (Nat.le_of_ble_eq_true rfl) rfl rfl
theorem s139_40 : zX d 139 40 ls st A K = zX d 139 41 ls (zI 2 :: st) A K := zx_const z139 dX4_isValidRule_40 (by decide) rfl
theorem s139_41 : zX d 139 41 [v0, v1, v2] (zI x :: st) A K = zX d 139 42 [v0, v1, zI x] st A K := zx_istore_n z139 dX4_isValidRule_41 (Nat.le_of_ble_eq_true rfl) rfl rfl
theorem s139_42 : zX d 139 42 [v0, v1, zI x] st A K = zX d 139 43 [v0, v1, zI x] (zI x :: st) A K := zx_iload_n z139 dX4_isValidRule_42 rfl rfl
theorem s139_43 : zX d 139 43 [zO o, v1, v2] st A K = zX d 139 44 [zO o, v1, v2] (zO o :: st) A K := zx_aload_n z139 dX4_isValidRule_43 rfl rfl
theorem s139_44 (h : tg A a = 9) : zX d 139 44 ls (zO (some a) :: st) A K = zX d 139 47 ls (fd A a 14 :: st) A K := zx_getf z139 zo139 dX4_isValidRule_44 F10_43 rfl h
theorem s139_47 : zX d 139 47 ls st A K = zX d 139 48 ls (zI 0 :: st) A K := zx_const z139 dX4_isValidRule_47 (by decide) rfl
theorem s139_48 (h : tg A a = 20) (h0 : 0 ≤ x) (h1 : x.toNat < (ia A a).length) : zX d 139 48 ls (zI x :: zO (some a) :: st) A K = zX d 139 49 ls (zI ((ia A a).getD x.toNat 0) :: st) A K := zx_iald z139 dX4_isValidRule_48 rfl h h0 h1
theorem s139_48s (h : tg A a = 30) (h0 : 0 ≤ x) (h1 : x.toNat < (ia A a).length) : zX d 139 48 ls (zI x :: zO (some a) :: st) A K = zX d 139 49 ls (zI ((ia A a).getD x.toNat 0) :: st) A K := zx_sald z139 dX4_isValidRule_48 rfl h h0 h1
theorem s139_49 : zX d 139 49 ls (zI y :: zI x :: st) A K = (if y < x then zX d 139 78 ls st A K else zX d 139 52 ls st A K) := zx_ic_gt z139 dX4_isValidRule_49 rfl rfl
theorem s139_52 : zX d 139 52 [v0, zI x, v2] st A K = zX d 139 53 [v0, zI x, v2] (zI x :: st) A K := zx_iload_n z139 dX4_isValidRule_52 rfl rfl
theorem s139_53 : zX d 139 53 [zO o, v1, v2] st A K = zX d 139 54 [zO o, v1, v2] (zO o :: st) A K := zx_aload_n z139 dX4_isValidRule_53 rfl rfl
theorem s139_54 (h : tg A a = 9) : zX d 139 54 ls (zO (some a) :: st) A K = zX d 139 57 ls (fd A a 14 :: st) A K := zx_getf z139 zo139 dX4_isValidRule_54 F10_43 rfl h
theorem s139_57 : zX d 139 57 [v0, v1, zI x] st A K = zX d 139 58 [v0, v1, zI x] (zI x :: st) A K := zx_iload_n z139 dX4_isValidRule_57 rfl rfl
theorem s139_58 (h : tg A a = 20) (h0 : 0 ≤ x) (h1 : x.toNat < (ia A a).length) : zX d 139 58 ls (zI x :: zO (some a) :: st) A K = zX d 139 59 ls (zI ((ia A a).getD x.toNat 0) :: st) A K := zx_iald z139 dX4_isValidRule_58 rfl h h0 h1
theorem s139_58s (h : tg A a = 30) (h0 : 0 ≤ x) (h1 : x.toNat < (ia A a).length) : zX d 139 58 ls (zI x :: zO (some a) :: st) A K = zX d 139 59 ls (zI ((ia A a).getD x.toNat 0) :: st) A K := zx_sald z139 dX4_isValidRule_58 rfl h h0 h1
theorem s139_59 : zX (d + 1) 139 59 ls (zI i0 :: [w0]) A K = zX d 134 0 [zI i0] [] A (zK (d + 1) 139 59 62 ls [w0] K) := zx_callS z139 zo139 dX4_isValidRule_59 rfl C10_109 rfl rfl zm134 rfl rfl (zwt_le (Nat.le_of_ble_eq_true rfl)) rfl
theorem s139_62 : zX d 139 62 ls (zI x :: st) A K = (if x ≠ 0 then zX d 139 69 ls st A K else zX d 139 65 ls st A K) := zx_if_ne z139 dX4_isValidRule_62 rfl rfl
theorem s139_65 : zX d 139 65 ls st A K = zX d 139 66 ls (zI 1 :: st) A K := zx_const z139 dX4_isValidRule_65 (by decide) rfl
theorem s139_66 : zX d 139 66 ls st A K = zX d 139 70 ls st A K := zx_goto z139 dX4_isValidRule_66 rfl
theorem s139_69 : zX d 139 69 ls st A K = zX d 139 70 ls (zI 0 :: st) A K := zx_const z139 dX4_isValidRule_69 (by decide) rfl
theorem s139_70 : zX d 139 70 ls (zI y :: zI x :: st) A K = zX d 139 71 ls (zI ((Int32.ofInt x &&& Int32.ofInt y).toInt) :: st) A K := zx_iand z139 dX4_isValidRule_70 rfl
theorem s139_71 : zX d 139 71 [v0, v1, v2] (zI x :: st) A K = zX d 139 72 [v0, zI x, v2] st A K := zx_istore_n z139 dX4_isValidRule_71 (Nat.le_of_ble_eq_true rfl) rfl rfl
theorem s139_72 : zX d 139 72 [v0, v1, zI x] st A K = zX d 139 75 [v0, v1, zI (zw (x + 1))] st A K := zx_iinc z139 dX4_isValidRule_72 rfl rfl rfl
theorem s139_75 : zX d 139 75 ls st A K = zX d 139 42 ls st A K := zx_goto z139 dX4_isValidRule_75 rfl
theorem s139_78 : zX d 139 78 ls st A K = zX d 139 79 ls (zI 1 :: st) A K := zx_const z139 dX4_isValidRule_78 (by decide) rfl
theorem s139_79 : zX d 139 79 [v0, v1, v2] (zI x :: st) A K = zX d 139 80 [v0, v1, zI x] st A K := zx_istore_n z139 dX4_isValidRule_79 (Nat.le_of_ble_eq_true rfl) rfl rfl
theorem s139_80 : zX d 139 80 [v0, v1, zI x] st A K = zX d 139 81 [v0, v1, zI x] (zI x :: st) A K := zx_iload_n z139 dX4_isValidRule_80 rfl rfl
theorem s139_81 : zX d 139 81 [zO o, v1, v2] st A K = zX d 139 82 [zO o, v1, v2] (zO o :: st) A K := zx_aload_n z139 dX4_isValidRule_81 rfl rfl
theorem s139_82 (h : tg A a = 9) : zX d 139 82 ls (zO (some a) :: st) A K = zX d 139 85 ls (fd A a 13 :: st) A K := zx_getf z139 zo139 dX4_isValidRule_82 F10_40 rfl h
theorem s139_85 : zX d 139 85 ls st A K = zX d 139 86 ls (zI 0 :: st) A K := zx_const z139 dX4_isValidRule_85 (by decide) rfl
theorem s139_86 (h : tg A a = 20) (h0 : 0 ≤ x) (h1 : x.toNat < (ia A a).length) : zX d 139 86 ls (zI x :: zO (some a) :: st) A K = zX d 139 87 ls (zI ((ia A a).getD x.toNat 0) :: st) A K := zx_iald z139 dX4_isValidRule_86 rfl h h0 h1
theorem s139_86s (h : tg A a = 30) (h0 : 0 ≤ x) (h1 : x.toNat < (ia A a).length) : zX d 139 86 ls (zI x :: zO (some a) :: st) A K = zX d 139 87 ls (zI ((ia A a).getD x.toNat 0) :: st) A K := zx_sald z139 dX4_isValidRule_86 rfl h h0 h1
theorem s139_87 : zX d 139 87 ls (zI y :: zI x :: st) A K = (if y < x then zX d 139 132 ls st A K else zX d 139 90 ls st A K) := zx_ic_gt z139 dX4_isValidRule_87 rfl rfl
theorem s139_90 : zX d 139 90 [v0, zI x, v2] st A K = zX d 139 91 [v0, zI x, v2] (zI x :: st) A K := zx_iload_n z139 dX4_isValidRule_90 rfl rfl
theorem s139_91 : zX d 139 91 [zO o, v1, v2] st A K = zX d 139 92 [zO o, v1, v2] (zO o :: st) A K := zx_aload_n z139 dX4_isValidRule_91 rfl rfl
theorem s139_92 (h : tg A a = 9) : zX d 139 92 ls (zO (some a) :: st) A K = zX d 139 95 ls (fd A a 13 :: st) A K := zx_getf z139 zo139 dX4_isValidRule_92 F10_40 rfl h
theorem s139_95 : zX d 139 95 [v0, v1, zI x] st A K = zX d 139 96 [v0, v1, zI x] (zI x :: st) A K := zx_iload_n z139 dX4_isValidRule_95 rfl rfl
theorem s139_96 (h : tg A a = 20) (h0 : 0 ≤ x) (h1 : x.toNat < (ia A a).length) : zX d 139 96 ls (zI x :: zO (some a) :: st) A K = zX d 139 97 ls (zI ((ia A a).getD x.toNat 0) :: st) A K := zx_iald z139 dX4_isValidRule_96 rfl h h0 h1
theorem s139_96s (h : tg A a = 30) (h0 : 0 ≤ x) (h1 : x.toNat < (ia A a).length) : zX d 139 96 ls (zI x :: zO (some a) :: st) A K = zX d 139 97 ls (zI ((ia A a).getD x.toNat 0) :: st) A K := zx_sald z139 dX4_isValidRule_96 rfl h h0 h1
theorem s139_97 : zX (d + 1) 139 97 ls (zI i0 :: [w0]) A K = zX d 135 0 [zI i0] [] A (zK (d + 1) 139 97 100 ls [w0] K) := zx_callS z139 zo139 dX4_isValidRule_97 rfl C10_128 rfl rfl zm135 rfl rfl (zwt_le (Nat.le_of_ble_eq_true rfl)) rfl
theorem s139_100 : zX d 139 100 ls (zI x :: st) A K = (if x = 0 then zX d 139 119 ls st A K else zX d 139 103 ls st A K) := zx_if_eq z139 dX4_isValidRule_100 rfl rfl
theorem s139_103 : zX d 139 103 [zO o, v1, v2] st A K = zX d 139 104 [zO o, v1, v2] (zO o :: st) A K := zx_aload_n z139 dX4_isValidRule_103 rfl rfl
theorem s139_104 (h : tg A a = 9) : zX d 139 104 ls (zO (some a) :: st) A K = zX d 139 107 ls (fd A a 14 :: st) A K := zx_getf z139 zo139 dX4_isValidRule_104 F10_43 rfl h
theorem s139_107 : zX d 139 107 [zO o, v1, v2] st A K = zX d 139 108 [zO o, v1, v2] (zO o :: st) A K := zx_aload_n z139 dX4_isValidRule_107 rfl rfl
theorem s139_108 (h : tg A a = 9) : zX d 139 108 ls (zO (some a) :: st) A K = zX d 139 111 ls (fd A a 13 :: st) A K := zx_getf z139 zo139 dX4_isValidRule_108 F10_40 rfl h
theorem s139_111 : zX d 139 111 [v0, v1, zI x] st A K = zX d 139 112 [v0, v1, zI x] (zI x :: st) A K := zx_iload_n z139 dX4_isValidRule_111 rfl rfl
theorem s139_112 (h : tg A a = 20) (h0 : 0 ≤ x) (h1 : x.toNat < (ia A a).length) : zX d 139 112 ls (zI x :: zO (some a) :: st) A K = zX d 139 113 ls (zI ((ia A a).getD x.toNat 0) :: st) A K := zx_iald z139 dX4_isValidRule_112 rfl h h0 h1
theorem s139_112s (h : tg A a = 30) (h0 : 0 ≤ x) (h1 : x.toNat < (ia A a).length) : zX d 139 112 ls (zI x :: zO (some a) :: st) A K = zX d 139 113 ls (zI ((ia A a).getD x.toNat 0) :: st) A K := zx_sald z139 dX4_isValidRule_112 rfl h h0 h1
theorem s139_113 : zX (d + 1) 139 113 ls (zI i1 :: zO o0 :: [w0]) A K = zX d 140 0 [zO o0, zI i1, zU, zU] [] A (zK (d + 1) 139 113 116 ls [w0] K) := zx_callS z139 zo139 dX4_isValidRule_113 rfl C10_165 rfl rfl zm140 rfl rfl (zwt_le (Nat.le_of_ble_eq_true rfl)) rfl
theorem s139_116 : zX d 139 116 ls (zI x :: st) A K = (if x = 0 then zX d 139 123 ls st A K else zX d 139 119 ls st A K) := zx_if_eq z139 dX4_isValidRule_116 rfl rfl
theorem s139_119 : zX d 139 119 ls st A K = zX d 139 120 ls (zI 1 :: st) A K := zx_const z139 dX4_isValidRule_119 (by decide) rfl
theorem s139_120 : zX d 139 120 ls st A K = zX d 139 124 ls st A K := zx_goto z139 dX4_isValidRule_120 rfl
theorem s139_123 : zX d 139 123 ls st A K = zX d 139 124 ls (zI 0 :: st) A K := zx_const z139 dX4_isValidRule_123 (by decide) rfl
theorem s139_124 : zX d 139 124 ls (zI y :: zI x :: st) A K = zX d 139 125 ls (zI ((Int32.ofInt x &&& Int32.ofInt y).toInt) :: st) A K := zx_iand z139 dX4_isValidRule_124 rfl
theorem s139_125 : zX d 139 125 [v0, v1, v2] (zI x :: st) A K = zX d 139 126 [v0, zI x, v2] st A K := zx_istore_n z139 dX4_isValidRule_125 (Nat.le_of_ble_eq_true rfl) rfl rfl
theorem s139_126 : zX d 139 126 [v0, v1, zI x] st A K = zX d 139 129 [v0, v1, zI (zw (x + 1))] st A K := zx_iinc z139 dX4_isValidRule_126 rfl rfl rfl
theorem s139_129 : zX d 139 129 ls st A K = zX d 139 80 ls st A K := zx_goto z139 dX4_isValidRule_129 rfl
theorem s139_132 : zX d 139 132 [v0, zI x, v2] st A K = zX d 139 133 [v0, zI x, v2] (zI x :: st) A K := zx_iload_n z139 dX4_isValidRule_132 rfl rfl
theorem s139_133 (h : x = 0 ∨ x = 1) : zX d 139 133 ls [zI x] A K = K (Sum.inl (some (zI x))) A := zx_iret z139 dX4_isValidRule_133 zk139 (by rcases h with q | q <;> subst q <;> rfl)
theorem s140_0 : zX d 140 0 ls st A K = zX d 140 1 ls (zI 0 :: st) A K := zx_const z140 dX4_hasSymbol_0 (by decide) rfl
theorem s140_1 : zX d 140 1 [v0, v1, v2, v3] (zI x :: st) A K = zX d 140 2 [v0, v1, zI x, v3] st A K := zx_istore_n z140 dX4_hasSymbol_1 (Nat.le_of_ble_eq_true rfl) rfl rfl
theorem s140_2 : zX d 140 2 ls st A K = zX d 140 3 ls (zI 1 :: st) A K := zx_const z140 dX4_hasSymbol_2 (by decide) rfl
theorem s140_3 : zX d 140 3 [v0, v1, v2, v3] (zI x :: st) A K = zX d 140 4 [v0, v1, v2, zI x] st A K := zx_istore_n z140 dX4_hasSymbol_3 (Nat.le_of_ble_eq_true rfl) rfl rfl
theorem s140_4 : zX d 140 4 [v0, v1, v2, zI x] st A K = zX d 140 5 [v0, v1, v2, zI x] (zI x :: st) A K := zx_iload_n z140 dX4_hasSymbol_4 rfl rfl
theorem s140_5 : zX d 140 5 [zO o, v1, v2, v3] st A K = zX d 140 6 [zO o, v1, v2, v3] (zO o :: st) A K := zx_aload_n z140 dX4_hasSymbol_5 rfl rfl
theorem s140_6 : zX d 140 6 ls st A K = zX d 140 7 ls (zI 0 :: st) A K := zx_const z140 dX4_hasSymbol_6 (by decide) rfl
theorem s140_7 (h : tg A a = 20) (h0 : 0 ≤ x) (h1 : x.toNat < (ia A a).length) : zX d 140 7 ls (zI x :: zO (some a) :: st) A K = zX d 140 8 ls (zI ((ia A a).getD x.toNat 0) :: st) A K := zx_iald z140 dX4_hasSymbol_7 rfl h h0 h1
theorem s140_7s (h : tg A a = 30) (h0 : 0 ≤ x) (h1 : x.toNat < (ia A a).length) : zX d 140 7 ls (zI x :: zO (some a) :: st) A K = zX d 140 8 ls (zI ((ia A a).getD x.toNat 0) :: st) A K := zx_sald z140 dX4_hasSymbol_7 rfl h h0 h1
theorem s140_8 : zX d 140 8 ls (zI y :: zI x :: st) A K = (if y < x then zX d 140 32 ls st A K else zX d 140 11 ls st A K) := zx_ic_gt z140 dX4_hasSymbol_8 rfl rfl
theorem s140_11 : zX d 140 11 [v0, v1, zI x, v3] st A K = zX d 140 12 [v0, v1, zI x, v3] (zI x :: st) A K := zx_iload_n z140 dX4_hasSymbol_11 rfl rfl
theorem s140_12 : zX d 140 12 [zO o, v1, v2, v3] st A K = zX d 140 13 [zO o, v1, v2, v3] (zO o :: st) A K := zx_aload_n z140 dX4_hasSymbol_12 rfl rfl
theorem s140_13 : zX d 140 13 [v0, v1, v2, zI x] st A K = zX d 140 14 [v0, v1, v2, zI x] (zI x :: st) A K := zx_iload_n z140 dX4_hasSymbol_13 rfl rfl
theorem s140_14 (h : tg A a = 20) (h0 : 0 ≤ x) (h1 : x.toNat < (ia A a).length) : zX d 140 14 ls (zI x :: zO (some a) :: st) A K = zX d 140 15 ls (zI ((ia A a).getD x.toNat 0) :: st) A K := zx_iald z140 dX4_hasSymbol_14 rfl h h0 h1
theorem s140_14s (h : tg A a = 30) (h0 : 0 ≤ x) (h1 : x.toNat < (ia A a).length) : zX d 140 14 ls (zI x :: zO (some a) :: st) A K = zX d 140 15 ls (zI ((ia A a).getD x.toNat 0) :: st) A K := zx_sald z140 dX4_hasSymbol_14 rfl h h0 h1
theorem s140_15 : zX d 140 15 [v0, zI x, v2, v3] st A K = zX d 140 16 [v0, zI x, v2, v3] (zI x :: st) A K := zx_iload_n z140 dX4_hasSymbol_15 rfl rfl
theorem s140_16 : zX d 140 16 ls (zI y :: zI x :: st) A K = (if x ≠ y then zX d 140 23 ls st A K else zX d 140 19 ls st A K) := zx_ic_ne z140 dX4_hasSymbol_16 rfl rfl
theorem s140_19 : zX d 140 19 ls st A K = zX d 140 20 ls (zI 1 :: st) A K := zx_const z140 dX4_hasSymbol_19 (by decide) rfl
theorem s140_20 : zX d 140 20 ls st A K = zX d 140 24 ls st A K := zx_goto z140 dX4_hasSymbol_20 rfl
theorem s140_23 : zX d 140 23 ls st A K = zX d 140 24 ls (zI 0 :: st) A K := zx_const z140 dX4_hasSymbol_23 (by decide) rfl
theorem s140_24 : zX d 140 24 ls (zI y :: zI x :: st) A K = zX d 140 25 ls (zI ((Int32.ofInt x ||| Int32.ofInt y).toInt) :: st) A K := zx_ior z140 dX4_hasSymbol_24 rfl
theorem s140_25 : zX d 140 25 [v0, v1, v2, v3] (zI x :: st) A K = zX d 140 26 [v0, v1, zI x, v3] st A K := zx_istore_n z140 dX4_hasSymbol_25 (Nat.le_of_ble_eq_true rfl) rfl rfl
theorem s140_26 : zX d 140 26 [v0, v1, v2, zI x] st A K = zX d 140 29 [v0, v1, v2, zI (zw (x + 1))] st A K := zx_iinc z140 dX4_hasSymbol_26 rfl rfl rfl
theorem s140_29 : zX d 140 29 ls st A K = zX d 140 4 ls st A K := zx_goto z140 dX4_hasSymbol_29 rfl
theorem s140_32 : zX d 140 32 [v0, v1, zI x, v3] st A K = zX d 140 33 [v0, v1, zI x, v3] (zI x :: st) A K := zx_iload_n z140 dX4_hasSymbol_32 rfl rfl
theorem s140_33 (h : x = 0 ∨ x = 1) : zX d 140 33 ls [zI x] A K = K (Sum.inl (some (zI x))) A := zx_iret z140 dX4_hasSymbol_33 zk140 (by rcases h with q | q <;> subst q <;> rfl)
theorem s141_0 : zX d 141 0 ls st A K = zX d 141 1 ls (zI 2 :: st) A K := zx_const z141 dX4_left_0 (by decide) rfl
theorem s141_1 : zX d 141 1 [zI x] st A K = zX d 141 2 [zI x] (zI x :: st) A K := zx_iload_n z141 dX4_left_1 rfl rfl
theorem s141_2 : zX d 141 2 ls (zI y :: zI x :: st) A K = zX d 141 3 ls (zI (zw (x * y)) :: st) A K := zx_imul z141 dX4_left_2 rfl
theorem s141_3 : zX d 141 3 ls st A K = zX d 141 5 ls (zI (96) :: st) A K := zx_bipush z141 dX4_left_3 (by decide) rfl
theorem s141_5 : zX d 141 5 ls (zI y :: zI x :: st) A K = zX d 141 6 ls (zI (zw (x * y)) :: st) A K := zx_imul z141 dX4_left_5 rfl
theorem s141_6 : zX d 141 6 ls [zI x] A K = K (Sum.inl (some (zI x))) A := zx_iret z141 dX4_left_6 zk141 rfl
theorem s142_0 : zX d 142 0 ls st A K = zX d 142 1 ls (zI 2 :: st) A K := zx_const z142 dX4_right_0 (by decide) rfl
theorem s142_1 : zX d 142 1 [zI x] st A K = zX d 142 2 [zI x] (zI x :: st) A K := zx_iload_n z142 dX4_right_1 rfl rfl
theorem s142_2 : zX d 142 2 ls (zI y :: zI x :: st) A K = zX d 142 3 ls (zI (zw (x * y)) :: st) A K := zx_imul z142 dX4_right_2 rfl
theorem s142_3 : zX d 142 3 ls st A K = zX d 142 4 ls (zI 1 :: st) A K := zx_const z142 dX4_right_3 (by decide) rfl
theorem s142_4 : zX d 142 4 ls (zI y :: zI x :: st) A K = zX d 142 5 ls (zI (zw (x + y)) :: st) A K := zx_iadd z142 dX4_right_4 rfl
theorem s142_5 : zX d 142 5 ls st A K = zX d 142 7 ls (zI (96) :: st) A K := zx_bipush z142 dX4_right_5 (by decide) rfl
theorem s142_7 : zX d 142 7 ls (zI y :: zI x :: st) A K = zX d 142 8 ls (zI (zw (x * y)) :: st) A K := zx_imul z142 dX4_right_7 rfl
theorem s142_8 : zX d 142 8 ls [zI x] A K = K (Sum.inl (some (zI x))) A := zx_iret z142 dX4_right_8 zk142 rfl
theorem s143_0 : zX d 143 0 [zO o, v1, v2] st A K = zX d 143 1 [zO o, v1, v2] (zO o :: st) A K := zx_aload_n z143 dX4_removeRule_0 rfl rfl
theorem s143_1 : zX d 143 1 [v0, zI x, v2] st A K = zX d 143 2 [v0, zI x, v2] (zI x :: st) A K := zx_iload_n z143 dX4_removeRule_1 rfl rfl
theorem s143_2 (h : tg A a = 9)  : zX (d + 1) 143 2 ls (zI i0 :: zO (some a) :: []) A K = zX d 144 0 [zO (some a), zI i0] [] A (zK (d + 1) 143 2 5 ls [] K) := zx_callV (t := 9) z143 zo143 dX4_removeRule_2 rfl C10_176 rfl rfl zm144 rfl rfl (zwt_le (Nat.le_of_ble_eq_true rfl)) rfl h
theorem s143_5 : zX d 143 5 ls (zI x :: st) A K = (if x ≠ 0 then zX d 143 10 ls st A K else zX d 143 8 ls st A K) := zx_if_ne z143 dX4_removeRule_5 rfl rfl
theorem s143_8 : zX d 143 8 ls st A K = zX d 143 9 ls (zI (-1) :: st) A K := zx_const z143 dX4_removeRule_8 (by decide) rfl
theorem s143_9 : zX d 143 9 ls [zI x] A K = K (Sum.inl (some (zI x))) A := zx_iret z143 dX4_removeRule_9 zk143 rfl
theorem s143_10 : zX d 143 10 [v0, zI x, v2] st A K = zX d 143 11 [v0, zI x, v2] (zI x :: st) A K := zx_iload_n z143 dX4_removeRule_10 rfl rfl
theorem s143_11 : zX (d + 1) 143 11 ls (zI i0 :: []) A K = zX d 141 0 [zI i0] [] A (zK (d + 1) 143 11 14 ls [] K) := zx_callS z143 zo143 dX4_removeRule_11 rfl C10_125 rfl rfl zm141 rfl rfl (zwt_le (Nat.le_of_ble_eq_true rfl)) rfl
theorem s143_14 : zX d 143 14 [v0, v1, v2] (zI x :: st) A K = zX d 143 15 [v0, v1, zI x] st A K := zx_istore_n z143 dX4_removeRule_14 (Nat.le_of_ble_eq_true rfl) rfl rfl
theorem s143_15 : zX d 143 15 [v0, v1, zI x] st A K = zX d 143 16 [v0, v1, zI x] (zI x :: st) A K := zx_iload_n z143 dX4_removeRule_15 rfl rfl
theorem s143_16 : zX d 143 16 [zO o, v1, v2] st A K = zX d 143 17 [zO o, v1, v2] (zO o :: st) A K := zx_aload_n z143 dX4_removeRule_16 rfl rfl
theorem s143_17 (h : tg A a = 9) : zX d 143 17 ls (zO (some a) :: st) A K = zX d 143 20 ls (fd A a 6 :: st) A K := zx_getf z143 zo143 dX4_removeRule_17 F10_121 rfl h
theorem s143_20 : zX d 143 20 ls st A K = zX d 143 21 ls (zI 1 :: st) A K := zx_const z143 dX4_removeRule_20 (by decide) rfl
theorem s143_21 : zX d 143 21 ls (zI y :: zI x :: st) A K = zX d 143 22 ls (zI (zw (x - y)) :: st) A K := zx_isub z143 dX4_removeRule_21 rfl
theorem s143_22 : zX (d + 1) 143 22 ls (zI i0 :: [w0]) A K = zX d 141 0 [zI i0] [] A (zK (d + 1) 143 22 25 ls [w0] K) := zx_callS z143 zo143 dX4_removeRule_22 rfl C10_125 rfl rfl zm141 rfl rfl (zwt_le (Nat.le_of_ble_eq_true rfl)) rfl
theorem s143_25 : zX d 143 25 ls (zI y :: zI x :: st) A K = (if y ≤ x then zX d 143 50 ls st A K else zX d 143 28 ls st A K) := zx_ic_ge z143 dX4_removeRule_25 rfl rfl
theorem s143_28 : zX d 143 28 [zO o, v1, v2] st A K = zX d 143 29 [zO o, v1, v2] (zO o :: st) A K := zx_aload_n z143 dX4_removeRule_28 rfl rfl
theorem s143_29 (h : tg A a = 9) : zX d 143 29 ls (zO (some a) :: st) A K = zX d 143 32 ls (fd A a 2 :: st) A K := zx_getf z143 zo143 dX4_removeRule_29 F10_16 rfl h
theorem s143_32 : zX d 143 32 [v0, v1, zI x] st A K = zX d 143 33 [v0, v1, zI x] (zI x :: st) A K := zx_iload_n z143 dX4_removeRule_32 rfl rfl
theorem s143_33 : zX d 143 33 [zO o, v1, v2] st A K = zX d 143 34 [zO o, v1, v2] (zO o :: st) A K := zx_aload_n z143 dX4_removeRule_33 rfl rfl
theorem s143_34 (h : tg A a = 9) : zX d 143 34 ls (zO (some a) :: st) A K = zX d 143 37 ls (fd A a 2 :: st) A K := zx_getf z143 zo143 dX4_removeRule_34 F10_16 rfl h
theorem s143_37 : zX d 143 37 [v0, v1, zI x] st A K = zX d 143 38 [v0, v1, zI x] (zI x :: st) A K := zx_iload_n z143 dX4_removeRule_37 rfl rfl
theorem s143_38 : zX d 143 38 ls st A K = zX d 143 41 ls (zI (192) :: st) A K := zx_sipush z143 dX4_removeRule_38 (by decide) rfl
theorem s143_41 : zX d 143 41 ls (zI y :: zI x :: st) A K = zX d 143 42 ls (zI (zw (x + y)) :: st) A K := zx_iadd z143 dX4_removeRule_41 rfl
theorem s143_42 (h : tg A a = 20) (h0 : 0 ≤ x) (h1 : x.toNat < (ia A a).length) : zX d 143 42 ls (zI x :: zO (some a) :: st) A K = zX d 143 43 ls (zI ((ia A a).getD x.toNat 0) :: st) A K := zx_iald z143 dX4_removeRule_42 rfl h h0 h1
theorem s143_42s (h : tg A a = 30) (h0 : 0 ≤ x) (h1 : x.toNat < (ia A a).length) : zX d 143 42 ls (zI x :: zO (some a) :: st) A K = zX d 143 43 ls (zI ((ia A a).getD x.toNat 0) :: st) A K := zx_sald z143 dX4_removeRule_42 rfl h h0 h1
theorem s143_43 (h : tg A a = 20) (h0 : 0 ≤ x) (h1 : x.toNat < (ia A a).length) : zX d 143 43 ls (zI y :: zI x :: zO (some a) :: st) A K = zX d 143 44 ls st (pI A a ((ia A a).set x.toNat y)) K := zx_iast z143 dX4_removeRule_43 rfl h h0 h1
theorem s143_44 : zX d 143 44 [v0, v1, zI x] st A K = zX d 143 47 [v0, v1, zI (zw (x + 1))] st A K := zx_iinc z143 dX4_removeRule_44 rfl rfl rfl
theorem s143_47 : zX d 143 47 ls st A K = zX d 143 15 ls st A K := zx_goto z143 dX4_removeRule_47 rfl
theorem s143_50 : zX d 143 50 [zO o, v1, v2] st A K = zX d 143 51 [zO o, v1, v2] (zO o :: st) A K := zx_aload_n z143 dX4_removeRule_50 rfl rfl
theorem s143_51 (h : zc v = true) : zX d 143 51 ls (v :: st) A K = zX d 143 52 ls (v :: v :: st) A K := zx_dup z143 dX4_removeRule_51 rfl h
theorem s143_52 (h : tg A a = 9) : zX d 143 52 ls (zO (some a) :: st) A K = zX d 143 55 ls (fd A a 6 :: st) A K := zx_getf z143 zo143 dX4_removeRule_52 F10_121 rfl h
theorem s143_55 : zX d 143 55 ls st A K = zX d 143 56 ls (zI 1 :: st) A K := zx_const z143 dX4_removeRule_55 (by decide) rfl
theorem s143_56 : zX d 143 56 ls (zI y :: zI x :: st) A K = zX d 143 57 ls (zI (zw (x - y)) :: st) A K := zx_isub z143 dX4_removeRule_56 rfl
theorem s143_57 (h : tg A a = 9) : zX d 143 57 ls (zI x :: zO (some a) :: st) A K = zX d 143 60 ls st (pF A a 6 (zI x)) K := zx_putf (q := 0) z143 zo143 dX4_removeRule_57 F10_121 rfl rfl rfl h rfl
theorem s143_60 : zX d 143 60 [zO o, v1, v2] st A K = zX d 143 61 [zO o, v1, v2] (zO o :: st) A K := zx_aload_n z143 dX4_removeRule_60 rfl rfl
theorem s143_61 (h : tg A a = 9) : zX d 143 61 ls (zO (some a) :: st) A K = zX d 143 64 ls (fd A a 6 :: st) A K := zx_getf z143 zo143 dX4_removeRule_61 F10_121 rfl h
theorem s143_64 : zX d 143 64 ls [zI x] A K = K (Sum.inl (some (zI x))) A := zx_iret z143 dX4_removeRule_64 zk143 rfl
theorem s144_0 : zX d 144 0 [v0, zI x] st A K = zX d 144 1 [v0, zI x] (zI x :: st) A K := zx_iload_n z144 dX4_isRule_0 rfl rfl
theorem s144_1 : zX d 144 1 ls st A K = zX d 144 2 ls (zI 0 :: st) A K := zx_const z144 dX4_isRule_1 (by decide) rfl
theorem s144_2 : zX d 144 2 [zO o, v1] st A K = zX d 144 3 [zO o, v1] (zO o :: st) A K := zx_aload_n z144 dX4_isRule_2 rfl rfl
theorem s144_3 (h : tg A a = 9) : zX d 144 3 ls (zO (some a) :: st) A K = zX d 144 6 ls (fd A a 6 :: st) A K := zx_getf z144 zo144 dX4_isRule_3 F10_121 rfl h
theorem s144_6 : zX d 144 6 ls st A K = zX d 144 7 ls (zI 1 :: st) A K := zx_const z144 dX4_isRule_6 (by decide) rfl
theorem s144_7 : zX d 144 7 ls (zI y :: zI x :: st) A K = zX d 144 8 ls (zI (zw (x - y)) :: st) A K := zx_isub z144 dX4_isRule_7 rfl
theorem s144_8 : zX (d + 1) 144 8 ls (zI i2 :: zI i1 :: zI i0 :: []) A K = zX d 129 0 [zI i0, zI i1, zI i2] [] A (zK (d + 1) 144 8 11 ls [] K) := zx_callS z144 zo144 dX4_isRule_8 rfl C10_105 rfl rfl zm129 rfl rfl (zwt_le (Nat.le_of_ble_eq_true rfl)) rfl
theorem s144_11 (h : x = 0 ∨ x = 1) : zX d 144 11 ls [zI x] A K = K (Sum.inl (some (zI x))) A := zx_iret z144 dX4_isRule_11 zk144 (by rcases h with q | q <;> subst q <;> rfl)
theorem s145_0 : zX d 145 0 [zO o] st A K = zX d 145 1 [zO o] (zO o :: st) A K := zx_aload_n z145 dX4_ruleCount_0 rfl rfl
theorem s145_1 (h : tg A a = 9) : zX d 145 1 ls (zO (some a) :: st) A K = zX d 145 4 ls (fd A a 6 :: st) A K := zx_getf z145 zo145 dX4_ruleCount_1 F10_121 rfl h
theorem s145_4 : zX d 145 4 ls [zI x] A K = K (Sum.inl (some (zI x))) A := zx_iret z145 dX4_ruleCount_4 zk145 rfl
theorem s146_0 : zX d 146 0 [zO o, v1] st A K = zX d 146 1 [zO o, v1] (zO o :: st) A K := zx_aload_n z146 dX4_leftSize_0 rfl rfl
theorem s146_1 : zX d 146 1 [v0, zI x] st A K = zX d 146 2 [v0, zI x] (zI x :: st) A K := zx_iload_n z146 dX4_leftSize_1 rfl rfl
theorem s146_2 (h : tg A a = 9)  : zX (d + 1) 146 2 ls (zI i0 :: zO (some a) :: []) A K = zX d 144 0 [zO (some a), zI i0] [] A (zK (d + 1) 146 2 5 ls [] K) := zx_callV (t := 9) z146 zo146 dX4_leftSize_2 rfl C10_176 rfl rfl zm144 rfl rfl (zwt_le (Nat.le_of_ble_eq_true rfl)) rfl h
theorem s146_5 : zX d 146 5 ls (zI x :: st) A K = (if x = 0 then zX d 146 20 ls st A K else zX d 146 8 ls st A K) := zx_if_eq z146 dX4_leftSize_5 rfl rfl
theorem s146_8 : zX d 146 8 [zO o, v1] st A K = zX d 146 9 [zO o, v1] (zO o :: st) A K := zx_aload_n z146 dX4_leftSize_8 rfl rfl
theorem s146_9 (h : tg A a = 9) : zX d 146 9 ls (zO (some a) :: st) A K = zX d 146 12 ls (fd A a 2 :: st) A K := zx_getf z146 zo146 dX4_leftSize_9 F10_16 rfl h
theorem s146_12 : zX d 146 12 [v0, zI x] st A K = zX d 146 13 [v0, zI x] (zI x :: st) A K := zx_iload_n z146 dX4_leftSize_12 rfl rfl
theorem s146_13 : zX (d + 1) 146 13 ls (zI i0 :: [w0]) A K = zX d 141 0 [zI i0] [] A (zK (d + 1) 146 13 16 ls [w0] K) := zx_callS z146 zo146 dX4_leftSize_13 rfl C10_125 rfl rfl zm141 rfl rfl (zwt_le (Nat.le_of_ble_eq_true rfl)) rfl
theorem s146_16 (h : tg A a = 20) (h0 : 0 ≤ x) (h1 : x.toNat < (ia A a).length) : zX d 146 16 ls (zI x :: zO (some a) :: st) A K = zX d 146 17 ls (zI ((ia A a).getD x.toNat 0) :: st) A K := zx_iald z146 dX4_leftSize_16 rfl h h0 h1
theorem s146_16s (h : tg A a = 30) (h0 : 0 ≤ x) (h1 : x.toNat < (ia A a).length) : zX d 146 16 ls (zI x :: zO (some a) :: st) A K = zX d 146 17 ls (zI ((ia A a).getD x.toNat 0) :: st) A K := zx_sald z146 dX4_leftSize_16 rfl h h0 h1
theorem s146_17 : zX d 146 17 ls st A K = zX d 146 21 ls st A K := zx_goto z146 dX4_leftSize_17 rfl
theorem s146_20 : zX d 146 20 ls st A K = zX d 146 21 ls (zI (-1) :: st) A K := zx_const z146 dX4_leftSize_20 (by decide) rfl
theorem s146_21 : zX d 146 21 ls [zI x] A K = K (Sum.inl (some (zI x))) A := zx_iret z146 dX4_leftSize_21 zk146 rfl
theorem s147_0 : zX d 147 0 [zO o, v1] st A K = zX d 147 1 [zO o, v1] (zO o :: st) A K := zx_aload_n z147 dX4_rightSize_0 rfl rfl
theorem s147_1 : zX d 147 1 [v0, zI x] st A K = zX d 147 2 [v0, zI x] (zI x :: st) A K := zx_iload_n z147 dX4_rightSize_1 rfl rfl
theorem s147_2 (h : tg A a = 9)  : zX (d + 1) 147 2 ls (zI i0 :: zO (some a) :: []) A K = zX d 144 0 [zO (some a), zI i0] [] A (zK (d + 1) 147 2 5 ls [] K) := zx_callV (t := 9) z147 zo147 dX4_rightSize_2 rfl C10_176 rfl rfl zm144 rfl rfl (zwt_le (Nat.le_of_ble_eq_true rfl)) rfl h
theorem s147_5 : zX d 147 5 ls (zI x :: st) A K = (if x = 0 then zX d 147 20 ls st A K else zX d 147 8 ls st A K) := zx_if_eq z147 dX4_rightSize_5 rfl rfl
theorem s147_8 : zX d 147 8 [zO o, v1] st A K = zX d 147 9 [zO o, v1] (zO o :: st) A K := zx_aload_n z147 dX4_rightSize_8 rfl rfl
theorem s147_9 (h : tg A a = 9) : zX d 147 9 ls (zO (some a) :: st) A K = zX d 147 12 ls (fd A a 2 :: st) A K := zx_getf z147 zo147 dX4_rightSize_9 F10_16 rfl h
theorem s147_12 : zX d 147 12 [v0, zI x] st A K = zX d 147 13 [v0, zI x] (zI x :: st) A K := zx_iload_n z147 dX4_rightSize_12 rfl rfl
theorem s147_13 : zX (d + 1) 147 13 ls (zI i0 :: [w0]) A K = zX d 142 0 [zI i0] [] A (zK (d + 1) 147 13 16 ls [w0] K) := zx_callS z147 zo147 dX4_rightSize_13 rfl C10_145 rfl rfl zm142 rfl rfl (zwt_le (Nat.le_of_ble_eq_true rfl)) rfl
theorem s147_16 (h : tg A a = 20) (h0 : 0 ≤ x) (h1 : x.toNat < (ia A a).length) : zX d 147 16 ls (zI x :: zO (some a) :: st) A K = zX d 147 17 ls (zI ((ia A a).getD x.toNat 0) :: st) A K := zx_iald z147 dX4_rightSize_16 rfl h h0 h1
theorem s147_16s (h : tg A a = 30) (h0 : 0 ≤ x) (h1 : x.toNat < (ia A a).length) : zX d 147 16 ls (zI x :: zO (some a) :: st) A K = zX d 147 17 ls (zI ((ia A a).getD x.toNat 0) :: st) A K := zx_sald z147 dX4_rightSize_16 rfl h h0 h1
theorem s147_17 : zX d 147 17 ls st A K = zX d 147 21 ls st A K := zx_goto z147 dX4_rightSize_17 rfl
theorem s147_20 : zX d 147 20 ls st A K = zX d 147 21 ls (zI (-1) :: st) A K := zx_const z147 dX4_rightSize_20 (by decide) rfl
theorem s147_21 : zX d 147 21 ls [zI x] A K = K (Sum.inl (some (zI x))) A := zx_iret z147 dX4_rightSize_21 zk147 rfl
theorem s148_0 : zX d 148 0 [zO o] st A K = zX d 148 1 [zO o] (zO o :: st) A K := zx_aload_n z148 dX4_pairCount_0 rfl rfl
theorem s148_1 (h : tg A a = 9)  : zX (d + 1) 148 1 ls (zO (some a) :: []) A K = zX d 149 0 [zO (some a), zU, zU, zU] [] A (zK (d + 1) 148 1 4 ls [] K) := zx_callV (t := 9) z148 zo148 dX4_pairCount_1 rfl C10_185 rfl rfl zm149 rfl rfl (zwt_le (Nat.le_of_ble_eq_true rfl)) rfl h
theorem s148_4 : zX d 148 4 ls [zI x] A K = K (Sum.inl (some (zI x))) A := zx_iret z148 dX4_pairCount_4 zk148 rfl
theorem s149_0 : zX d 149 0 ls st A K = zX d 149 1 ls (zI 0 :: st) A K := zx_const z149 dX4_findPairs_0 (by decide) rfl
theorem s149_1 : zX d 149 1 [v0, v1, v2, v3] (zI x :: st) A K = zX d 149 2 [v0, zI x, v2, v3] st A K := zx_istore_n z149 dX4_findPairs_1 (Nat.le_of_ble_eq_true rfl) rfl rfl
theorem s149_2 : zX d 149 2 ls st A K = zX d 149 3 ls (zI 0 :: st) A K := zx_const z149 dX4_findPairs_2 (by decide) rfl
theorem s149_3 : zX d 149 3 [v0, v1, v2, v3] (zI x :: st) A K = zX d 149 4 [v0, v1, zI x, v3] st A K := zx_istore_n z149 dX4_findPairs_3 (Nat.le_of_ble_eq_true rfl) rfl rfl
theorem s149_4 : zX d 149 4 [v0, v1, zI x, v3] st A K = zX d 149 5 [v0, v1, zI x, v3] (zI x :: st) A K := zx_iload_n z149 dX4_findPairs_4 rfl rfl
theorem s149_5 : zX d 149 5 [zO o, v1, v2, v3] st A K = zX d 149 6 [zO o, v1, v2, v3] (zO o :: st) A K := zx_aload_n z149 dX4_findPairs_5 rfl rfl
theorem s149_6 (h : tg A a = 9) : zX d 149 6 ls (zO (some a) :: st) A K = zX d 149 9 ls (fd A a 6 :: st) A K := zx_getf z149 zo149 dX4_findPairs_6 F10_121 rfl h
theorem s149_9 : zX d 149 9 ls (zI y :: zI x :: st) A K = (if y ≤ x then zX d 149 75 ls st A K else zX d 149 12 ls st A K) := zx_ic_ge z149 dX4_findPairs_9 rfl rfl
theorem s149_12 : zX d 149 12 ls st A K = zX d 149 13 ls (zI 0 :: st) A K := zx_const z149 dX4_findPairs_12 (by decide) rfl
theorem s149_13 : zX d 149 13 [v0, v1, v2, v3] (zI x :: st) A K = zX d 149 14 [v0, v1, v2, zI x] st A K := zx_istore_n z149 dX4_findPairs_13 (Nat.le_of_ble_eq_true rfl) rfl rfl
theorem s149_14 : zX d 149 14 [v0, v1, v2, zI x] st A K = zX d 149 15 [v0, v1, v2, zI x] (zI x :: st) A K := zx_iload_n z149 dX4_findPairs_14 rfl rfl
theorem s149_15 : zX d 149 15 [zO o, v1, v2, v3] st A K = zX d 149 16 [zO o, v1, v2, v3] (zO o :: st) A K := zx_aload_n z149 dX4_findPairs_15 rfl rfl
theorem s149_16 (h : tg A a = 9) : zX d 149 16 ls (zO (some a) :: st) A K = zX d 149 19 ls (fd A a 2 :: st) A K := zx_getf z149 zo149 dX4_findPairs_16 F10_16 rfl h
theorem s149_19 : zX d 149 19 [v0, v1, zI x, v3] st A K = zX d 149 20 [v0, v1, zI x, v3] (zI x :: st) A K := zx_iload_n z149 dX4_findPairs_19 rfl rfl
theorem s149_20 : zX (d + 1) 149 20 ls (zI i0 :: [w0, w1]) A K = zX d 142 0 [zI i0] [] A (zK (d + 1) 149 20 23 ls [w0, w1] K) := zx_callS z149 zo149 dX4_findPairs_20 rfl C10_145 rfl rfl zm142 rfl rfl (zwt_le (Nat.le_of_ble_eq_true rfl)) rfl
theorem s149_23 (h : tg A a = 20) (h0 : 0 ≤ x) (h1 : x.toNat < (ia A a).length) : zX d 149 23 ls (zI x :: zO (some a) :: st) A K = zX d 149 24 ls (zI ((ia A a).getD x.toNat 0) :: st) A K := zx_iald z149 dX4_findPairs_23 rfl h h0 h1
theorem s149_23s (h : tg A a = 30) (h0 : 0 ≤ x) (h1 : x.toNat < (ia A a).length) : zX d 149 23 ls (zI x :: zO (some a) :: st) A K = zX d 149 24 ls (zI ((ia A a).getD x.toNat 0) :: st) A K := zx_sald z149 dX4_findPairs_23 rfl h h0 h1
theorem s149_24 : zX d 149 24 ls (zI y :: zI x :: st) A K = (if y ≤ x then zX d 149 69 ls st A K else zX d 149 27 ls st A K) := zx_ic_ge z149 dX4_findPairs_24 rfl rfl
theorem s149_27 : zX d 149 27 [zO o, v1, v2, v3] st A K = zX d 149 28 [zO o, v1, v2, v3] (zO o :: st) A K := zx_aload_n z149 dX4_findPairs_27 rfl rfl
theorem s149_28 (h : tg A a = 9) : zX d 149 28 ls (zO (some a) :: st) A K = zX d 149 31 ls (fd A a 2 :: st) A K := zx_getf z149 zo149 dX4_findPairs_28 F10_16 rfl h
theorem s149_31 : zX d 149 31 [v0, v1, zI x, v3] st A K = zX d 149 32 [v0, v1, zI x, v3] (zI x :: st) A K := zx_iload_n z149 dX4_findPairs_31 rfl rfl
theorem s149_32 : zX (d + 1) 149 32 ls (zI i0 :: [w0]) A K = zX d 142 0 [zI i0] [] A (zK (d + 1) 149 32 35 ls [w0] K) := zx_callS z149 zo149 dX4_findPairs_32 rfl C10_145 rfl rfl zm142 rfl rfl (zwt_le (Nat.le_of_ble_eq_true rfl)) rfl
theorem s149_35 : zX d 149 35 ls st A K = zX d 149 36 ls (zI 1 :: st) A K := zx_const z149 dX4_findPairs_35 (by decide) rfl
theorem s149_36 : zX d 149 36 ls (zI y :: zI x :: st) A K = zX d 149 37 ls (zI (zw (x + y)) :: st) A K := zx_iadd z149 dX4_findPairs_36 rfl
theorem s149_37 : zX d 149 37 [v0, v1, v2, zI x] st A K = zX d 149 38 [v0, v1, v2, zI x] (zI x :: st) A K := zx_iload_n z149 dX4_findPairs_37 rfl rfl
theorem s149_38 : zX d 149 38 ls (zI y :: zI x :: st) A K = zX d 149 39 ls (zI (zw (x + y)) :: st) A K := zx_iadd z149 dX4_findPairs_38 rfl
theorem s149_39 (h : tg A a = 20) (h0 : 0 ≤ x) (h1 : x.toNat < (ia A a).length) : zX d 149 39 ls (zI x :: zO (some a) :: st) A K = zX d 149 40 ls (zI ((ia A a).getD x.toNat 0) :: st) A K := zx_iald z149 dX4_findPairs_39 rfl h h0 h1
theorem s149_39s (h : tg A a = 30) (h0 : 0 ≤ x) (h1 : x.toNat < (ia A a).length) : zX d 149 39 ls (zI x :: zO (some a) :: st) A K = zX d 149 40 ls (zI ((ia A a).getD x.toNat 0) :: st) A K := zx_sald z149 dX4_findPairs_39 rfl h h0 h1
theorem s149_40 : zX (d + 1) 149 40 ls (zI i0 :: []) A K = zX d 134 0 [zI i0] [] A (zK (d + 1) 149 40 43 ls [] K) := zx_callS z149 zo149 dX4_findPairs_40 rfl C10_109 rfl rfl zm134 rfl rfl (zwt_le (Nat.le_of_ble_eq_true rfl)) rfl
theorem s149_43 : zX d 149 43 ls (zI x :: st) A K = (if x = 0 then zX d 149 63 ls st A K else zX d 149 46 ls st A K) := zx_if_eq z149 dX4_findPairs_43 rfl rfl
theorem s149_46 : zX d 149 46 [zO o, v1, v2, v3] st A K = zX d 149 47 [zO o, v1, v2, v3] (zO o :: st) A K := zx_aload_n z149 dX4_findPairs_46 rfl rfl
theorem s149_47 (h : tg A a = 9) : zX d 149 47 ls (zO (some a) :: st) A K = zX d 149 50 ls (fd A a 17 :: st) A K := zx_getf z149 zo149 dX4_findPairs_47 F10_46 rfl h
theorem s149_50 : zX d 149 50 [v0, zI x, v2, v3] st A K = zX d 149 51 [v0, zI x, v2, v3] (zI x :: st) A K := zx_iload_n z149 dX4_findPairs_50 rfl rfl
theorem s149_51 : zX d 149 51 [v0, v1, zI x, v3] st A K = zX d 149 52 [v0, v1, zI x, v3] (zI x :: st) A K := zx_iload_n z149 dX4_findPairs_51 rfl rfl
theorem s149_52 (h : tg A a = 20) (h0 : 0 ≤ x) (h1 : x.toNat < (ia A a).length) : zX d 149 52 ls (zI y :: zI x :: zO (some a) :: st) A K = zX d 149 53 ls st (pI A a ((ia A a).set x.toNat y)) K := zx_iast z149 dX4_findPairs_52 rfl h h0 h1
theorem s149_53 : zX d 149 53 [zO o, v1, v2, v3] st A K = zX d 149 54 [zO o, v1, v2, v3] (zO o :: st) A K := zx_aload_n z149 dX4_findPairs_53 rfl rfl
theorem s149_54 (h : tg A a = 9) : zX d 149 54 ls (zO (some a) :: st) A K = zX d 149 57 ls (fd A a 18 :: st) A K := zx_getf z149 zo149 dX4_findPairs_54 F10_49 rfl h
theorem s149_57 : zX d 149 57 [v0, zI x, v2, v3] st A K = zX d 149 58 [v0, zI x, v2, v3] (zI x :: st) A K := zx_iload_n z149 dX4_findPairs_57 rfl rfl
theorem s149_58 : zX d 149 58 [v0, v1, v2, zI x] st A K = zX d 149 59 [v0, v1, v2, zI x] (zI x :: st) A K := zx_iload_n z149 dX4_findPairs_58 rfl rfl
theorem s149_59 (h : tg A a = 20) (h0 : 0 ≤ x) (h1 : x.toNat < (ia A a).length) : zX d 149 59 ls (zI y :: zI x :: zO (some a) :: st) A K = zX d 149 60 ls st (pI A a ((ia A a).set x.toNat y)) K := zx_iast z149 dX4_findPairs_59 rfl h h0 h1
theorem s149_60 : zX d 149 60 [v0, zI x, v2, v3] st A K = zX d 149 63 [v0, zI (zw (x + 1)), v2, v3] st A K := zx_iinc z149 dX4_findPairs_60 rfl rfl rfl
theorem s149_63 : zX d 149 63 [v0, v1, v2, zI x] st A K = zX d 149 66 [v0, v1, v2, zI (zw (x + 1))] st A K := zx_iinc z149 dX4_findPairs_63 rfl rfl rfl
theorem s149_66 : zX d 149 66 ls st A K = zX d 149 14 ls st A K := zx_goto z149 dX4_findPairs_66 rfl
theorem s149_69 : zX d 149 69 [v0, v1, zI x, v3] st A K = zX d 149 72 [v0, v1, zI (zw (x + 1)), v3] st A K := zx_iinc z149 dX4_findPairs_69 rfl rfl rfl
theorem s149_72 : zX d 149 72 ls st A K = zX d 149 4 ls st A K := zx_goto z149 dX4_findPairs_72 rfl
theorem s149_75 : zX d 149 75 [v0, zI x, v2, v3] st A K = zX d 149 76 [v0, zI x, v2, v3] (zI x :: st) A K := zx_iload_n z149 dX4_findPairs_75 rfl rfl
theorem s149_76 : zX d 149 76 ls [zI x] A K = K (Sum.inl (some (zI x))) A := zx_iret z149 dX4_findPairs_76 zk149 rfl
theorem s150_0 : zX d 150 0 [zO o, v1] st A K = zX d 150 1 [zO o, v1] (zO o :: st) A K := zx_aload_n z150 dX4_pairRule_0 rfl rfl
theorem s150_1 : zX d 150 1 [v0, zI x] st A K = zX d 150 2 [v0, zI x] (zI x :: st) A K := zx_iload_n z150 dX4_pairRule_1 rfl rfl
theorem s150_2 (h : tg A a = 9)  : zX (d + 1) 150 2 ls (zI i0 :: zO (some a) :: []) A K = zX d 151 0 [zO (some a), zI i0] [] A (zK (d + 1) 150 2 5 ls [] K) := zx_callV (t := 9) z150 zo150 dX4_pairRule_2 rfl C10_188 rfl rfl zm151 rfl rfl (zwt_le (Nat.le_of_ble_eq_true rfl)) rfl h
theorem s150_5 : zX d 150 5 ls (zI x :: st) A K = (if x = 0 then zX d 150 17 ls st A K else zX d 150 8 ls st A K) := zx_if_eq z150 dX4_pairRule_5 rfl rfl
theorem s150_8 : zX d 150 8 [zO o, v1] st A K = zX d 150 9 [zO o, v1] (zO o :: st) A K := zx_aload_n z150 dX4_pairRule_8 rfl rfl
theorem s150_9 (h : tg A a = 9) : zX d 150 9 ls (zO (some a) :: st) A K = zX d 150 12 ls (fd A a 17 :: st) A K := zx_getf z150 zo150 dX4_pairRule_9 F10_46 rfl h
theorem s150_12 : zX d 150 12 [v0, zI x] st A K = zX d 150 13 [v0, zI x] (zI x :: st) A K := zx_iload_n z150 dX4_pairRule_12 rfl rfl
theorem s150_13 (h : tg A a = 20) (h0 : 0 ≤ x) (h1 : x.toNat < (ia A a).length) : zX d 150 13 ls (zI x :: zO (some a) :: st) A K = zX d 150 14 ls (zI ((ia A a).getD x.toNat 0) :: st) A K := zx_iald z150 dX4_pairRule_13 rfl h h0 h1
theorem s150_13s (h : tg A a = 30) (h0 : 0 ≤ x) (h1 : x.toNat < (ia A a).length) : zX d 150 13 ls (zI x :: zO (some a) :: st) A K = zX d 150 14 ls (zI ((ia A a).getD x.toNat 0) :: st) A K := zx_sald z150 dX4_pairRule_13 rfl h h0 h1
theorem s150_14 : zX d 150 14 ls st A K = zX d 150 18 ls st A K := zx_goto z150 dX4_pairRule_14 rfl
theorem s150_17 : zX d 150 17 ls st A K = zX d 150 18 ls (zI (-1) :: st) A K := zx_const z150 dX4_pairRule_17 (by decide) rfl
theorem s150_18 : zX d 150 18 ls [zI x] A K = K (Sum.inl (some (zI x))) A := zx_iret z150 dX4_pairRule_18 zk150 rfl
theorem s151_0 : zX d 151 0 [v0, zI x] st A K = zX d 151 1 [v0, zI x] (zI x :: st) A K := zx_iload_n z151 dX4_isPair_0 rfl rfl
theorem s151_1 : zX d 151 1 ls st A K = zX d 151 2 ls (zI 0 :: st) A K := zx_const z151 dX4_isPair_1 (by decide) rfl
theorem s151_2 : zX d 151 2 [zO o, v1] st A K = zX d 151 3 [zO o, v1] (zO o :: st) A K := zx_aload_n z151 dX4_isPair_2 rfl rfl
theorem s151_3 (h : tg A a = 9)  : zX (d + 1) 151 3 ls (zO (some a) :: [w0, w1]) A K = zX d 149 0 [zO (some a), zU, zU, zU] [] A (zK (d + 1) 151 3 6 ls [w0, w1] K) := zx_callV (t := 9) z151 zo151 dX4_isPair_3 rfl C10_185 rfl rfl zm149 rfl rfl (zwt_le (Nat.le_of_ble_eq_true rfl)) rfl h
theorem s151_6 : zX d 151 6 ls st A K = zX d 151 7 ls (zI 1 :: st) A K := zx_const z151 dX4_isPair_6 (by decide) rfl
theorem s151_7 : zX d 151 7 ls (zI y :: zI x :: st) A K = zX d 151 8 ls (zI (zw (x - y)) :: st) A K := zx_isub z151 dX4_isPair_7 rfl
theorem s151_8 : zX (d + 1) 151 8 ls (zI i2 :: zI i1 :: zI i0 :: []) A K = zX d 129 0 [zI i0, zI i1, zI i2] [] A (zK (d + 1) 151 8 11 ls [] K) := zx_callS z151 zo151 dX4_isPair_8 rfl C10_105 rfl rfl zm129 rfl rfl (zwt_le (Nat.le_of_ble_eq_true rfl)) rfl
theorem s151_11 (h : x = 0 ∨ x = 1) : zX d 151 11 ls [zI x] A K = K (Sum.inl (some (zI x))) A := zx_iret z151 dX4_isPair_11 zk151 (by rcases h with q | q <;> subst q <;> rfl)
theorem s152_0 : zX d 152 0 [zO o, v1] st A K = zX d 152 1 [zO o, v1] (zO o :: st) A K := zx_aload_n z152 dX4_pairPosition_0 rfl rfl
theorem s152_1 : zX d 152 1 [v0, zI x] st A K = zX d 152 2 [v0, zI x] (zI x :: st) A K := zx_iload_n z152 dX4_pairPosition_1 rfl rfl
theorem s152_2 (h : tg A a = 9)  : zX (d + 1) 152 2 ls (zI i0 :: zO (some a) :: []) A K = zX d 151 0 [zO (some a), zI i0] [] A (zK (d + 1) 152 2 5 ls [] K) := zx_callV (t := 9) z152 zo152 dX4_pairPosition_2 rfl C10_188 rfl rfl zm151 rfl rfl (zwt_le (Nat.le_of_ble_eq_true rfl)) rfl h
theorem s152_5 : zX d 152 5 ls (zI x :: st) A K = (if x = 0 then zX d 152 17 ls st A K else zX d 152 8 ls st A K) := zx_if_eq z152 dX4_pairPosition_5 rfl rfl
theorem s152_8 : zX d 152 8 [zO o, v1] st A K = zX d 152 9 [zO o, v1] (zO o :: st) A K := zx_aload_n z152 dX4_pairPosition_8 rfl rfl
theorem s152_9 (h : tg A a = 9) : zX d 152 9 ls (zO (some a) :: st) A K = zX d 152 12 ls (fd A a 18 :: st) A K := zx_getf z152 zo152 dX4_pairPosition_9 F10_49 rfl h
theorem s152_12 : zX d 152 12 [v0, zI x] st A K = zX d 152 13 [v0, zI x] (zI x :: st) A K := zx_iload_n z152 dX4_pairPosition_12 rfl rfl
theorem s152_13 (h : tg A a = 20) (h0 : 0 ≤ x) (h1 : x.toNat < (ia A a).length) : zX d 152 13 ls (zI x :: zO (some a) :: st) A K = zX d 152 14 ls (zI ((ia A a).getD x.toNat 0) :: st) A K := zx_iald z152 dX4_pairPosition_13 rfl h h0 h1
theorem s152_13s (h : tg A a = 30) (h0 : 0 ≤ x) (h1 : x.toNat < (ia A a).length) : zX d 152 13 ls (zI x :: zO (some a) :: st) A K = zX d 152 14 ls (zI ((ia A a).getD x.toNat 0) :: st) A K := zx_sald z152 dX4_pairPosition_13 rfl h h0 h1
theorem s152_14 : zX d 152 14 ls st A K = zX d 152 18 ls st A K := zx_goto z152 dX4_pairPosition_14 rfl
theorem s152_17 : zX d 152 17 ls st A K = zX d 152 18 ls (zI (-1) :: st) A K := zx_const z152 dX4_pairPosition_17 (by decide) rfl
theorem s152_18 : zX d 152 18 ls [zI x] A K = K (Sum.inl (some (zI x))) A := zx_iret z152 dX4_pairPosition_18 zk152 rfl
theorem s153_0 : zX d 153 0 [zO o, v1] st A K = zX d 153 1 [zO o, v1] (zO o :: st) A K := zx_aload_n z153 dX4_sourceFunction_0 rfl rfl
theorem s153_1 : zX d 153 1 [v0, zI x] st A K = zX d 153 2 [v0, zI x] (zI x :: st) A K := zx_iload_n z153 dX4_sourceFunction_1 rfl rfl
theorem s153_2 (h : tg A a = 9)  : zX (d + 1) 153 2 ls (zI i0 :: zO (some a) :: []) A K = zX d 151 0 [zO (some a), zI i0] [] A (zK (d + 1) 153 2 5 ls [] K) := zx_callV (t := 9) z153 zo153 dX4_sourceFunction_2 rfl C10_188 rfl rfl zm151 rfl rfl (zwt_le (Nat.le_of_ble_eq_true rfl)) rfl h
theorem s153_5 : zX d 153 5 ls (zI x :: st) A K = (if x = 0 then zX d 153 16 ls st A K else zX d 153 8 ls st A K) := zx_if_eq z153 dX4_sourceFunction_5 rfl rfl
theorem s153_8 : zX d 153 8 [zO o, v1] st A K = zX d 153 9 [zO o, v1] (zO o :: st) A K := zx_aload_n z153 dX4_sourceFunction_8 rfl rfl
theorem s153_9 : zX d 153 9 [v0, zI x] st A K = zX d 153 10 [v0, zI x] (zI x :: st) A K := zx_iload_n z153 dX4_sourceFunction_9 rfl rfl
theorem s153_10 (h : tg A a = 9)  : zX (d + 1) 153 10 ls (zI i0 :: zO (some a) :: []) A K = zX d 154 0 [zO (some a), zI i0] [] A (zK (d + 1) 153 10 13 ls [] K) := zx_callV (t := 9) z153 zo153 dX4_sourceFunction_10 rfl C10_191 rfl rfl zm154 rfl rfl (zwt_le (Nat.le_of_ble_eq_true rfl)) rfl h
theorem s153_13 : zX d 153 13 ls st A K = zX d 153 17 ls st A K := zx_goto z153 dX4_sourceFunction_13 rfl
theorem s153_16 : zX d 153 16 ls st A K = zX d 153 17 ls (zI (-1) :: st) A K := zx_const z153 dX4_sourceFunction_16 (by decide) rfl
theorem s153_17 : zX d 153 17 ls [zI x] A K = K (Sum.inl (some (zI x))) A := zx_iret z153 dX4_sourceFunction_17 zk153 rfl
theorem s154_0 : zX d 154 0 [zO o, v1] st A K = zX d 154 1 [zO o, v1] (zO o :: st) A K := zx_aload_n z154 dX4_sourceOf_0 rfl rfl
theorem s154_1 (h : tg A a = 9) : zX d 154 1 ls (zO (some a) :: st) A K = zX d 154 4 ls (fd A a 2 :: st) A K := zx_getf z154 zo154 dX4_sourceOf_1 F10_16 rfl h
theorem s154_4 : zX d 154 4 [zO o, v1] st A K = zX d 154 5 [zO o, v1] (zO o :: st) A K := zx_aload_n z154 dX4_sourceOf_4 rfl rfl
theorem s154_5 : zX d 154 5 [v0, zI x] st A K = zX d 154 6 [v0, zI x] (zI x :: st) A K := zx_iload_n z154 dX4_sourceOf_5 rfl rfl
theorem s154_6 (h : tg A a = 9)  : zX (d + 1) 154 6 ls (zI i0 :: zO (some a) :: [w0]) A K = zX d 155 0 [zO (some a), zI i0] [] A (zK (d + 1) 154 6 9 ls [w0] K) := zx_callV (t := 9) z154 zo154 dX4_sourceOf_6 rfl C10_179 rfl rfl zm155 rfl rfl (zwt_le (Nat.le_of_ble_eq_true rfl)) rfl h
theorem s154_9 (h : tg A a = 20) (h0 : 0 ≤ x) (h1 : x.toNat < (ia A a).length) : zX d 154 9 ls (zI x :: zO (some a) :: st) A K = zX d 154 10 ls (zI ((ia A a).getD x.toNat 0) :: st) A K := zx_iald z154 dX4_sourceOf_9 rfl h h0 h1
theorem s154_9s (h : tg A a = 30) (h0 : 0 ≤ x) (h1 : x.toNat < (ia A a).length) : zX d 154 9 ls (zI x :: zO (some a) :: st) A K = zX d 154 10 ls (zI ((ia A a).getD x.toNat 0) :: st) A K := zx_sald z154 dX4_sourceOf_9 rfl h h0 h1
theorem s154_10 : zX d 154 10 ls st A K = zX d 154 12 ls (zI (102) :: st) A K := zx_bipush z154 dX4_sourceOf_10 (by decide) rfl
theorem s154_12 : zX d 154 12 ls (zI y :: zI x :: st) A K = zX d 154 13 ls (zI (zw (x - y)) :: st) A K := zx_isub z154 dX4_sourceOf_12 rfl
theorem s154_13 : zX d 154 13 ls [zI x] A K = K (Sum.inl (some (zI x))) A := zx_iret z154 dX4_sourceOf_13 zk154 rfl
theorem s155_0 : zX d 155 0 [zO o, v1] st A K = zX d 155 1 [zO o, v1] (zO o :: st) A K := zx_aload_n z155 dX4_source_0 rfl rfl
theorem s155_1 (h : tg A a = 9) : zX d 155 1 ls (zO (some a) :: st) A K = zX d 155 4 ls (fd A a 17 :: st) A K := zx_getf z155 zo155 dX4_source_1 F10_46 rfl h
theorem s155_4 : zX d 155 4 [v0, zI x] st A K = zX d 155 5 [v0, zI x] (zI x :: st) A K := zx_iload_n z155 dX4_source_4 rfl rfl
theorem s155_5 (h : tg A a = 20) (h0 : 0 ≤ x) (h1 : x.toNat < (ia A a).length) : zX d 155 5 ls (zI x :: zO (some a) :: st) A K = zX d 155 6 ls (zI ((ia A a).getD x.toNat 0) :: st) A K := zx_iald z155 dX4_source_5 rfl h h0 h1
theorem s155_5s (h : tg A a = 30) (h0 : 0 ≤ x) (h1 : x.toNat < (ia A a).length) : zX d 155 5 ls (zI x :: zO (some a) :: st) A K = zX d 155 6 ls (zI ((ia A a).getD x.toNat 0) :: st) A K := zx_sald z155 dX4_source_5 rfl h h0 h1
theorem s155_6 : zX (d + 1) 155 6 ls (zI i0 :: []) A K = zX d 141 0 [zI i0] [] A (zK (d + 1) 155 6 9 ls [] K) := zx_callS z155 zo155 dX4_source_6 rfl C10_125 rfl rfl zm141 rfl rfl (zwt_le (Nat.le_of_ble_eq_true rfl)) rfl
theorem s155_9 : zX d 155 9 ls st A K = zX d 155 10 ls (zI 1 :: st) A K := zx_const z155 dX4_source_9 (by decide) rfl
theorem s155_10 : zX d 155 10 ls (zI y :: zI x :: st) A K = zX d 155 11 ls (zI (zw (x + y)) :: st) A K := zx_iadd z155 dX4_source_10 rfl
theorem s155_11 : zX d 155 11 ls [zI x] A K = K (Sum.inl (some (zI x))) A := zx_iret z155 dX4_source_11 zk155 rfl
theorem s156_0 : zX d 156 0 [zO o, v1] st A K = zX d 156 1 [zO o, v1] (zO o :: st) A K := zx_aload_n z156 dX4_targetFunction_0 rfl rfl
theorem s156_1 : zX d 156 1 [v0, zI x] st A K = zX d 156 2 [v0, zI x] (zI x :: st) A K := zx_iload_n z156 dX4_targetFunction_1 rfl rfl
theorem s156_2 (h : tg A a = 9)  : zX (d + 1) 156 2 ls (zI i0 :: zO (some a) :: []) A K = zX d 151 0 [zO (some a), zI i0] [] A (zK (d + 1) 156 2 5 ls [] K) := zx_callV (t := 9) z156 zo156 dX4_targetFunction_2 rfl C10_188 rfl rfl zm151 rfl rfl (zwt_le (Nat.le_of_ble_eq_true rfl)) rfl h
theorem s156_5 : zX d 156 5 ls (zI x :: st) A K = (if x = 0 then zX d 156 16 ls st A K else zX d 156 8 ls st A K) := zx_if_eq z156 dX4_targetFunction_5 rfl rfl
theorem s156_8 : zX d 156 8 [zO o, v1] st A K = zX d 156 9 [zO o, v1] (zO o :: st) A K := zx_aload_n z156 dX4_targetFunction_8 rfl rfl
theorem s156_9 : zX d 156 9 [v0, zI x] st A K = zX d 156 10 [v0, zI x] (zI x :: st) A K := zx_iload_n z156 dX4_targetFunction_9 rfl rfl
theorem s156_10 (h : tg A a = 9)  : zX (d + 1) 156 10 ls (zI i0 :: zO (some a) :: []) A K = zX d 157 0 [zO (some a), zI i0] [] A (zK (d + 1) 156 10 13 ls [] K) := zx_callV (t := 9) z156 zo156 dX4_targetFunction_10 rfl C10_194 rfl rfl zm157 rfl rfl (zwt_le (Nat.le_of_ble_eq_true rfl)) rfl h
theorem s156_13 : zX d 156 13 ls st A K = zX d 156 17 ls st A K := zx_goto z156 dX4_targetFunction_13 rfl
theorem s156_16 : zX d 156 16 ls st A K = zX d 156 17 ls (zI (-1) :: st) A K := zx_const z156 dX4_targetFunction_16 (by decide) rfl
theorem s156_17 : zX d 156 17 ls [zI x] A K = K (Sum.inl (some (zI x))) A := zx_iret z156 dX4_targetFunction_17 zk156 rfl
theorem s157_0 : zX d 157 0 [zO o, v1] st A K = zX d 157 1 [zO o, v1] (zO o :: st) A K := zx_aload_n z157 dX4_targetOf_0 rfl rfl
theorem s157_1 (h : tg A a = 9) : zX d 157 1 ls (zO (some a) :: st) A K = zX d 157 4 ls (fd A a 2 :: st) A K := zx_getf z157 zo157 dX4_targetOf_1 F10_16 rfl h
theorem s157_4 : zX d 157 4 [zO o, v1] st A K = zX d 157 5 [zO o, v1] (zO o :: st) A K := zx_aload_n z157 dX4_targetOf_4 rfl rfl
theorem s157_5 : zX d 157 5 [v0, zI x] st A K = zX d 157 6 [v0, zI x] (zI x :: st) A K := zx_iload_n z157 dX4_targetOf_5 rfl rfl
theorem s157_6 (h : tg A a = 9)  : zX (d + 1) 157 6 ls (zI i0 :: zO (some a) :: [w0]) A K = zX d 158 0 [zO (some a), zI i0] [] A (zK (d + 1) 157 6 9 ls [w0] K) := zx_callV (t := 9) z157 zo157 dX4_targetOf_6 rfl C10_182 rfl rfl zm158 rfl rfl (zwt_le (Nat.le_of_ble_eq_true rfl)) rfl h
theorem s157_9 (h : tg A a = 20) (h0 : 0 ≤ x) (h1 : x.toNat < (ia A a).length) : zX d 157 9 ls (zI x :: zO (some a) :: st) A K = zX d 157 10 ls (zI ((ia A a).getD x.toNat 0) :: st) A K := zx_iald z157 dX4_targetOf_9 rfl h h0 h1
theorem s157_9s (h : tg A a = 30) (h0 : 0 ≤ x) (h1 : x.toNat < (ia A a).length) : zX d 157 9 ls (zI x :: zO (some a) :: st) A K = zX d 157 10 ls (zI ((ia A a).getD x.toNat 0) :: st) A K := zx_sald z157 dX4_targetOf_9 rfl h h0 h1
theorem s157_10 : zX d 157 10 ls st A K = zX d 157 12 ls (zI (102) :: st) A K := zx_bipush z157 dX4_targetOf_10 (by decide) rfl
theorem s157_12 : zX d 157 12 ls (zI y :: zI x :: st) A K = zX d 157 13 ls (zI (zw (x - y)) :: st) A K := zx_isub z157 dX4_targetOf_12 rfl
theorem s157_13 : zX d 157 13 ls [zI x] A K = K (Sum.inl (some (zI x))) A := zx_iret z157 dX4_targetOf_13 zk157 rfl
theorem s158_0 : zX d 158 0 [zO o, v1] st A K = zX d 158 1 [zO o, v1] (zO o :: st) A K := zx_aload_n z158 dX4_target_0 rfl rfl
theorem s158_1 (h : tg A a = 9) : zX d 158 1 ls (zO (some a) :: st) A K = zX d 158 4 ls (fd A a 17 :: st) A K := zx_getf z158 zo158 dX4_target_1 F10_46 rfl h
theorem s158_4 : zX d 158 4 [v0, zI x] st A K = zX d 158 5 [v0, zI x] (zI x :: st) A K := zx_iload_n z158 dX4_target_4 rfl rfl
theorem s158_5 (h : tg A a = 20) (h0 : 0 ≤ x) (h1 : x.toNat < (ia A a).length) : zX d 158 5 ls (zI x :: zO (some a) :: st) A K = zX d 158 6 ls (zI ((ia A a).getD x.toNat 0) :: st) A K := zx_iald z158 dX4_target_5 rfl h h0 h1
theorem s158_5s (h : tg A a = 30) (h0 : 0 ≤ x) (h1 : x.toNat < (ia A a).length) : zX d 158 5 ls (zI x :: zO (some a) :: st) A K = zX d 158 6 ls (zI ((ia A a).getD x.toNat 0) :: st) A K := zx_sald z158 dX4_target_5 rfl h h0 h1
theorem s158_6 : zX (d + 1) 158 6 ls (zI i0 :: []) A K = zX d 142 0 [zI i0] [] A (zK (d + 1) 158 6 9 ls [] K) := zx_callS z158 zo158 dX4_target_6 rfl C10_145 rfl rfl zm142 rfl rfl (zwt_le (Nat.le_of_ble_eq_true rfl)) rfl
theorem s158_9 : zX d 158 9 ls st A K = zX d 158 10 ls (zI 1 :: st) A K := zx_const z158 dX4_target_9 (by decide) rfl
theorem s158_10 : zX d 158 10 ls (zI y :: zI x :: st) A K = zX d 158 11 ls (zI (zw (x + y)) :: st) A K := zx_iadd z158 dX4_target_10 rfl
theorem s158_11 : zX d 158 11 [zO o, v1] st A K = zX d 158 12 [zO o, v1] (zO o :: st) A K := zx_aload_n z158 dX4_target_11 rfl rfl
theorem s158_12 (h : tg A a = 9) : zX d 158 12 ls (zO (some a) :: st) A K = zX d 158 15 ls (fd A a 18 :: st) A K := zx_getf z158 zo158 dX4_target_12 F10_49 rfl h
theorem s158_15 : zX d 158 15 [v0, zI x] st A K = zX d 158 16 [v0, zI x] (zI x :: st) A K := zx_iload_n z158 dX4_target_15 rfl rfl
theorem s158_16 (h : tg A a = 20) (h0 : 0 ≤ x) (h1 : x.toNat < (ia A a).length) : zX d 158 16 ls (zI x :: zO (some a) :: st) A K = zX d 158 17 ls (zI ((ia A a).getD x.toNat 0) :: st) A K := zx_iald z158 dX4_target_16 rfl h h0 h1
theorem s158_16s (h : tg A a = 30) (h0 : 0 ≤ x) (h1 : x.toNat < (ia A a).length) : zX d 158 16 ls (zI x :: zO (some a) :: st) A K = zX d 158 17 ls (zI ((ia A a).getD x.toNat 0) :: st) A K := zx_sald z158 dX4_target_16 rfl h h0 h1
theorem s158_17 : zX d 158 17 ls (zI y :: zI x :: st) A K = zX d 158 18 ls (zI (zw (x + y)) :: st) A K := zx_iadd z158 dX4_target_17 rfl
theorem s158_18 : zX d 158 18 ls [zI x] A K = K (Sum.inl (some (zI x))) A := zx_iret z158 dX4_target_18 zk158 rfl
theorem s159_0 : zX d 159 0 [zO o, v1, v2] st A K = zX d 159 1 [zO o, v1, v2] (zO o :: st) A K := zx_aload_n z159 dX4_hasEdge_0 rfl rfl
theorem s159_1 : zX d 159 1 [v0, zI x, v2] st A K = zX d 159 2 [v0, zI x, v2] (zI x :: st) A K := zx_iload_n z159 dX4_hasEdge_1 rfl rfl
theorem s159_2 (h : tg A a = 9)  : zX (d + 1) 159 2 ls (zI i0 :: zO (some a) :: []) A K = zX d 151 0 [zO (some a), zI i0] [] A (zK (d + 1) 159 2 5 ls [] K) := zx_callV (t := 9) z159 zo159 dX4_hasEdge_2 rfl C10_188 rfl rfl zm151 rfl rfl (zwt_le (Nat.le_of_ble_eq_true rfl)) rfl h
theorem s159_5 : zX d 159 5 ls (zI x :: st) A K = (if x = 0 then zX d 159 33 ls st A K else zX d 159 8 ls st A K) := zx_if_eq z159 dX4_hasEdge_5 rfl rfl
theorem s159_8 : zX d 159 8 [zO o, v1, v2] st A K = zX d 159 9 [zO o, v1, v2] (zO o :: st) A K := zx_aload_n z159 dX4_hasEdge_8 rfl rfl
theorem s159_9 : zX d 159 9 [v0, v1, zI x] st A K = zX d 159 10 [v0, v1, zI x] (zI x :: st) A K := zx_iload_n z159 dX4_hasEdge_9 rfl rfl
theorem s159_10 (h : tg A a = 9)  : zX (d + 1) 159 10 ls (zI i0 :: zO (some a) :: []) A K = zX d 151 0 [zO (some a), zI i0] [] A (zK (d + 1) 159 10 13 ls [] K) := zx_callV (t := 9) z159 zo159 dX4_hasEdge_10 rfl C10_188 rfl rfl zm151 rfl rfl (zwt_le (Nat.le_of_ble_eq_true rfl)) rfl h
theorem s159_13 : zX d 159 13 ls (zI x :: st) A K = (if x = 0 then zX d 159 33 ls st A K else zX d 159 16 ls st A K) := zx_if_eq z159 dX4_hasEdge_13 rfl rfl
theorem s159_16 : zX d 159 16 [zO o, v1, v2] st A K = zX d 159 17 [zO o, v1, v2] (zO o :: st) A K := zx_aload_n z159 dX4_hasEdge_16 rfl rfl
theorem s159_17 : zX d 159 17 [v0, zI x, v2] st A K = zX d 159 18 [v0, zI x, v2] (zI x :: st) A K := zx_iload_n z159 dX4_hasEdge_17 rfl rfl
theorem s159_18 : zX d 159 18 [v0, v1, zI x] st A K = zX d 159 19 [v0, v1, zI x] (zI x :: st) A K := zx_iload_n z159 dX4_hasEdge_18 rfl rfl
theorem s159_19 (h : tg A a = 9)  : zX (d + 1) 159 19 ls (zI i1 :: zI i0 :: zO (some a) :: []) A K = zX d 160 0 [zO (some a), zI i0, zI i1] [] A (zK (d + 1) 159 19 22 ls [] K) := zx_callV (t := 9) z159 zo159 dX4_hasEdge_19 rfl C10_208 rfl rfl zm160 rfl rfl (zwt_le (Nat.le_of_ble_eq_true rfl)) rfl h
theorem s159_22 : zX d 159 22 ls (zI x :: st) A K = (if x = 0 then zX d 159 29 ls st A K else zX d 159 25 ls st A K) := zx_if_eq z159 dX4_hasEdge_22 rfl rfl
theorem s159_25 : zX d 159 25 ls st A K = zX d 159 26 ls (zI 1 :: st) A K := zx_const z159 dX4_hasEdge_25 (by decide) rfl
theorem s159_26 : zX d 159 26 ls st A K = zX d 159 34 ls st A K := zx_goto z159 dX4_hasEdge_26 rfl
theorem s159_29 : zX d 159 29 ls st A K = zX d 159 30 ls (zI 0 :: st) A K := zx_const z159 dX4_hasEdge_29 (by decide) rfl
theorem s159_30 : zX d 159 30 ls st A K = zX d 159 34 ls st A K := zx_goto z159 dX4_hasEdge_30 rfl
theorem s159_33 : zX d 159 33 ls st A K = zX d 159 34 ls (zI (-1) :: st) A K := zx_const z159 dX4_hasEdge_33 (by decide) rfl
theorem s159_34 : zX d 159 34 ls [zI x] A K = K (Sum.inl (some (zI x))) A := zx_iret z159 dX4_hasEdge_34 zk159 rfl
theorem s160_0 : zX d 160 0 [zO o, v1, v2] st A K = zX d 160 1 [zO o, v1, v2] (zO o :: st) A K := zx_aload_n z160 dX4_isEdge_0 rfl rfl
theorem s160_1 : zX d 160 1 [v0, zI x, v2] st A K = zX d 160 2 [v0, zI x, v2] (zI x :: st) A K := zx_iload_n z160 dX4_isEdge_1 rfl rfl
theorem s160_2 (h : tg A a = 9)  : zX (d + 1) 160 2 ls (zI i0 :: zO (some a) :: []) A K = zX d 157 0 [zO (some a), zI i0] [] A (zK (d + 1) 160 2 5 ls [] K) := zx_callV (t := 9) z160 zo160 dX4_isEdge_2 rfl C10_194 rfl rfl zm157 rfl rfl (zwt_le (Nat.le_of_ble_eq_true rfl)) rfl h
theorem s160_5 : zX d 160 5 [zO o, v1, v2] st A K = zX d 160 6 [zO o, v1, v2] (zO o :: st) A K := zx_aload_n z160 dX4_isEdge_5 rfl rfl
theorem s160_6 : zX d 160 6 [v0, v1, zI x] st A K = zX d 160 7 [v0, v1, zI x] (zI x :: st) A K := zx_iload_n z160 dX4_isEdge_6 rfl rfl
theorem s160_7 (h : tg A a = 9)  : zX (d + 1) 160 7 ls (zI i0 :: zO (some a) :: [w0]) A K = zX d 154 0 [zO (some a), zI i0] [] A (zK (d + 1) 160 7 10 ls [w0] K) := zx_callV (t := 9) z160 zo160 dX4_isEdge_7 rfl C10_191 rfl rfl zm154 rfl rfl (zwt_le (Nat.le_of_ble_eq_true rfl)) rfl h
theorem s160_10 : zX d 160 10 ls (zI y :: zI x :: st) A K = (if x ≠ y then zX d 160 34 ls st A K else zX d 160 13 ls st A K) := zx_ic_ne z160 dX4_isEdge_10 rfl rfl
theorem s160_13 : zX d 160 13 [zO o, v1, v2] st A K = zX d 160 14 [zO o, v1, v2] (zO o :: st) A K := zx_aload_n z160 dX4_isEdge_13 rfl rfl
theorem s160_14 : zX d 160 14 [zO o, v1, v2] st A K = zX d 160 15 [zO o, v1, v2] (zO o :: st) A K := zx_aload_n z160 dX4_isEdge_14 rfl rfl
theorem s160_15 : zX d 160 15 [v0, zI x, v2] st A K = zX d 160 16 [v0, zI x, v2] (zI x :: st) A K := zx_iload_n z160 dX4_isEdge_15 rfl rfl
theorem s160_16 (h : tg A a = 9)  : zX (d + 1) 160 16 ls (zI i0 :: zO (some a) :: [w0]) A K = zX d 158 0 [zO (some a), zI i0] [] A (zK (d + 1) 160 16 19 ls [w0] K) := zx_callV (t := 9) z160 zo160 dX4_isEdge_16 rfl C10_182 rfl rfl zm158 rfl rfl (zwt_le (Nat.le_of_ble_eq_true rfl)) rfl h
theorem s160_19 : zX d 160 19 [zO o, v1, v2] st A K = zX d 160 20 [zO o, v1, v2] (zO o :: st) A K := zx_aload_n z160 dX4_isEdge_19 rfl rfl
theorem s160_20 : zX d 160 20 [v0, v1, zI x] st A K = zX d 160 21 [v0, v1, zI x] (zI x :: st) A K := zx_iload_n z160 dX4_isEdge_20 rfl rfl
theorem s160_21 (h : tg A a = 9)  : zX (d + 1) 160 21 ls (zI i0 :: zO (some a) :: [w0, w1]) A K = zX d 155 0 [zO (some a), zI i0] [] A (zK (d + 1) 160 21 24 ls [w0, w1] K) := zx_callV (t := 9) z160 zo160 dX4_isEdge_21 rfl C10_179 rfl rfl zm155 rfl rfl (zwt_le (Nat.le_of_ble_eq_true rfl)) rfl h
theorem s160_24 (h : tg A a = 9)  : zX (d + 1) 160 24 ls (zI i1 :: zI i0 :: zO (some a) :: []) A K = zX d 161 0 [zO (some a), zI i0, zI i1, zU, zU] [] A (zK (d + 1) 160 24 27 ls [] K) := zx_callV (t := 9) z160 zo160 dX4_isEdge_24 rfl C10_197 rfl rfl zm161 rfl rfl (zwt_le (Nat.le_of_ble_eq_true rfl)) rfl h
theorem s160_27 : zX d 160 27 ls (zI x :: st) A K = (if x = 0 then zX d 160 34 ls st A K else zX d 160 30 ls st A K) := zx_if_eq z160 dX4_isEdge_27 rfl rfl
theorem s160_30 : zX d 160 30 ls st A K = zX d 160 31 ls (zI 1 :: st) A K := zx_const z160 dX4_isEdge_30 (by decide) rfl
theorem s160_31 : zX d 160 31 ls st A K = zX d 160 35 ls st A K := zx_goto z160 dX4_isEdge_31 rfl
theorem s160_34 : zX d 160 34 ls st A K = zX d 160 35 ls (zI 0 :: st) A K := zx_const z160 dX4_isEdge_34 (by decide) rfl
theorem s160_35 (h : x = 0 ∨ x = 1) : zX d 160 35 ls [zI x] A K = K (Sum.inl (some (zI x))) A := zx_iret z160 dX4_isEdge_35 zk160 (by rcases h with q | q <;> subst q <;> rfl)
theorem s161_0 : zX d 161 0 ls st A K = zX d 161 1 ls (zI 1 :: st) A K := zx_const z161 dX4_areArgumentsCompatible_0 (by decide) rfl
theorem s161_1 : zX d 161 1 [v0, v1, v2, v3, v4] (zI x :: st) A K = zX d 161 2 [v0, v1, v2, zI x, v4] st A K := zx_istore_n z161 dX4_areArgumentsCompatible_1 (Nat.le_of_ble_eq_true rfl) rfl rfl
theorem s161_2 : zX d 161 2 ls st A K = zX d 161 3 ls (zI 0 :: st) A K := zx_const z161 dX4_areArgumentsCompatible_2 (by decide) rfl
theorem s161_3 : zX d 161 3 [v0, v1, v2, v3, v4] (zI x :: st) A K = zX d 161 5 [v0, v1, v2, v3, zI x] st A K := zx_istore z161 dX4_areArgumentsCompatible_3 (Nat.le_of_ble_eq_true rfl) rfl rfl
theorem s161_5 : zX d 161 5 [v0, v1, v2, v3, zI x] st A K = zX d 161 7 [v0, v1, v2, v3, zI x] (zI x :: st) A K := zx_iload z161 dX4_areArgumentsCompatible_5 rfl rfl
theorem s161_7 : zX d 161 7 [zO o, v1, v2, v3, v4] st A K = zX d 161 8 [zO o, v1, v2, v3, v4] (zO o :: st) A K := zx_aload_n z161 dX4_areArgumentsCompatible_7 rfl rfl
theorem s161_8 : zX d 161 8 [zO o, v1, v2, v3, v4] st A K = zX d 161 9 [zO o, v1, v2, v3, v4] (zO o :: st) A K := zx_aload_n z161 dX4_areArgumentsCompatible_8 rfl rfl
theorem s161_9 (h : tg A a = 9) : zX d 161 9 ls (zO (some a) :: st) A K = zX d 161 12 ls (fd A a 2 :: st) A K := zx_getf z161 zo161 dX4_areArgumentsCompatible_9 F10_16 rfl h
theorem s161_12 : zX d 161 12 [v0, zI x, v2, v3, v4] st A K = zX d 161 13 [v0, zI x, v2, v3, v4] (zI x :: st) A K := zx_iload_n z161 dX4_areArgumentsCompatible_12 rfl rfl
theorem s161_13 (h : tg A a = 20) (h0 : 0 ≤ x) (h1 : x.toNat < (ia A a).length) : zX d 161 13 ls (zI x :: zO (some a) :: st) A K = zX d 161 14 ls (zI ((ia A a).getD x.toNat 0) :: st) A K := zx_iald z161 dX4_areArgumentsCompatible_13 rfl h h0 h1
theorem s161_13s (h : tg A a = 30) (h0 : 0 ≤ x) (h1 : x.toNat < (ia A a).length) : zX d 161 13 ls (zI x :: zO (some a) :: st) A K = zX d 161 14 ls (zI ((ia A a).getD x.toNat 0) :: st) A K := zx_sald z161 dX4_areArgumentsCompatible_13 rfl h h0 h1
theorem s161_14 (h : tg A a = 9)  : zX (d + 1) 161 14 ls (zI i0 :: zO (some a) :: [w0]) A K = zX d 136 0 [zO (some a), zI i0] [] A (zK (d + 1) 161 14 17 ls [w0] K) := zx_callV (t := 9) z161 zo161 dX4_areArgumentsCompatible_14 rfl C10_113 rfl rfl zm136 rfl rfl (zwt_le (Nat.le_of_ble_eq_true rfl)) rfl h
theorem s161_17 : zX d 161 17 ls (zI y :: zI x :: st) A K = (if y ≤ x then zX d 161 57 ls st A K else zX d 161 20 ls st A K) := zx_ic_ge z161 dX4_areArgumentsCompatible_17 rfl rfl
theorem s161_20 : zX d 161 20 [v0, v1, v2, zI x, v4] st A K = zX d 161 21 [v0, v1, v2, zI x, v4] (zI x :: st) A K := zx_iload_n z161 dX4_areArgumentsCompatible_20 rfl rfl
theorem s161_21 : zX d 161 21 ls (zI x :: st) A K = (if x = 0 then zX d 161 57 ls st A K else zX d 161 24 ls st A K) := zx_if_eq z161 dX4_areArgumentsCompatible_21 rfl rfl
theorem s161_24 : zX d 161 24 [zO o, v1, v2, v3, v4] st A K = zX d 161 25 [zO o, v1, v2, v3, v4] (zO o :: st) A K := zx_aload_n z161 dX4_areArgumentsCompatible_24 rfl rfl
theorem s161_25 : zX d 161 25 [zO o, v1, v2, v3, v4] st A K = zX d 161 26 [zO o, v1, v2, v3, v4] (zO o :: st) A K := zx_aload_n z161 dX4_areArgumentsCompatible_25 rfl rfl
theorem s161_26 : zX d 161 26 [zO o, v1, v2, v3, v4] st A K = zX d 161 27 [zO o, v1, v2, v3, v4] (zO o :: st) A K := zx_aload_n z161 dX4_areArgumentsCompatible_26 rfl rfl
theorem s161_27 (h : tg A a = 9) : zX d 161 27 ls (zO (some a) :: st) A K = zX d 161 30 ls (fd A a 2 :: st) A K := zx_getf z161 zo161 dX4_areArgumentsCompatible_27 F10_16 rfl h
theorem s161_30 : zX d 161 30 [v0, zI x, v2, v3, v4] st A K = zX d 161 31 [v0, zI x, v2, v3, v4] (zI x :: st) A K := zx_iload_n z161 dX4_areArgumentsCompatible_30 rfl rfl
theorem s161_31 : zX d 161 31 [v0, v1, v2, v3, zI x] st A K = zX d 161 33 [v0, v1, v2, v3, zI x] (zI x :: st) A K := zx_iload z161 dX4_areArgumentsCompatible_31 rfl rfl
theorem s161_33 (h : tg A a = 9)  : zX (d + 1) 161 33 ls (zI i2 :: zI i1 :: zO o0 :: zO (some a) :: [w0]) A K = zX d 162 0 [zO (some a), zO o0, zI i1, zI i2, zU, zU] [] A (zK (d + 1) 161 33 36 ls [w0] K) := zx_callV (t := 9) z161 zo161 dX4_areArgumentsCompatible_33 rfl C10_201 rfl rfl zm162 rfl rfl (zwt_le (Nat.le_of_ble_eq_true rfl)) rfl h
theorem s161_36 : zX d 161 36 [zO o, v1, v2, v3, v4] st A K = zX d 161 37 [zO o, v1, v2, v3, v4] (zO o :: st) A K := zx_aload_n z161 dX4_areArgumentsCompatible_36 rfl rfl
theorem s161_37 : zX d 161 37 [zO o, v1, v2, v3, v4] st A K = zX d 161 38 [zO o, v1, v2, v3, v4] (zO o :: st) A K := zx_aload_n z161 dX4_areArgumentsCompatible_37 rfl rfl
theorem s161_38 (h : tg A a = 9) : zX d 161 38 ls (zO (some a) :: st) A K = zX d 161 41 ls (fd A a 2 :: st) A K := zx_getf z161 zo161 dX4_areArgumentsCompatible_38 F10_16 rfl h
theorem s161_41 : zX d 161 41 [v0, v1, zI x, v3, v4] st A K = zX d 161 42 [v0, v1, zI x, v3, v4] (zI x :: st) A K := zx_iload_n z161 dX4_areArgumentsCompatible_41 rfl rfl
theorem s161_42 : zX d 161 42 [v0, v1, v2, v3, zI x] st A K = zX d 161 44 [v0, v1, v2, v3, zI x] (zI x :: st) A K := zx_iload z161 dX4_areArgumentsCompatible_42 rfl rfl
theorem s161_44 (h : tg A a = 9)  : zX (d + 1) 161 44 ls (zI i2 :: zI i1 :: zO o0 :: zO (some a) :: [w0, w1]) A K = zX d 162 0 [zO (some a), zO o0, zI i1, zI i2, zU, zU] [] A (zK (d + 1) 161 44 47 ls [w0, w1] K) := zx_callV (t := 9) z161 zo161 dX4_areArgumentsCompatible_44 rfl C10_201 rfl rfl zm162 rfl rfl (zwt_le (Nat.le_of_ble_eq_true rfl)) rfl h
theorem s161_47 (h : tg A a = 9)  : zX (d + 1) 161 47 ls (zI i1 :: zI i0 :: zO (some a) :: []) A K = zX d 164 0 [zO (some a), zI i0, zI i1, zU, zU] [] A (zK (d + 1) 161 47 50 ls [] K) := zx_callV (t := 9) z161 zo161 dX4_areArgumentsCompatible_47 rfl C10_205 rfl rfl zm164 rfl rfl (zwt_le (Nat.le_of_ble_eq_true rfl)) rfl h
theorem s161_50 : zX d 161 50 [v0, v1, v2, v3, v4] (zI x :: st) A K = zX d 161 51 [v0, v1, v2, zI x, v4] st A K := zx_istore_n z161 dX4_areArgumentsCompatible_50 (Nat.le_of_ble_eq_true rfl) rfl rfl
theorem s161_51 : zX d 161 51 [v0, v1, v2, v3, zI x] st A K = zX d 161 54 [v0, v1, v2, v3, zI (zw (x + 1))] st A K := zx_iinc z161 dX4_areArgumentsCompatible_51 rfl rfl rfl
theorem s161_54 : zX d 161 54 ls st A K = zX d 161 5 ls st A K := zx_goto z161 dX4_areArgumentsCompatible_54 rfl
theorem s161_57 : zX d 161 57 [v0, v1, v2, zI x, v4] st A K = zX d 161 58 [v0, v1, v2, zI x, v4] (zI x :: st) A K := zx_iload_n z161 dX4_areArgumentsCompatible_57 rfl rfl
theorem s161_58 (h : x = 0 ∨ x = 1) : zX d 161 58 ls [zI x] A K = K (Sum.inl (some (zI x))) A := zx_iret z161 dX4_areArgumentsCompatible_58 zk161 (by rcases h with q | q <;> subst q <;> rfl)
theorem s162_0 : zX d 162 0 [v0, v1, zI x, v3, v4, v5] st A K = zX d 162 1 [v0, v1, zI x, v3, v4, v5] (zI x :: st) A K := zx_iload_n z162 dX4_argument_0 rfl rfl
theorem s162_1 : zX d 162 1 ls st A K = zX d 162 2 ls (zI 1 :: st) A K := zx_const z162 dX4_argument_1 (by decide) rfl
theorem s162_2 : zX d 162 2 ls (zI y :: zI x :: st) A K = zX d 162 3 ls (zI (zw (x + y)) :: st) A K := zx_iadd z162 dX4_argument_2 rfl
theorem s162_3 : zX d 162 3 [v0, v1, v2, v3, v4, v5] (zI x :: st) A K = zX d 162 5 [v0, v1, v2, v3, zI x, v5] st A K := zx_istore z162 dX4_argument_3 (Nat.le_of_ble_eq_true rfl) rfl rfl
theorem s162_5 : zX d 162 5 ls st A K = zX d 162 6 ls (zI 0 :: st) A K := zx_const z162 dX4_argument_5 (by decide) rfl
theorem s162_6 : zX d 162 6 [v0, v1, v2, v3, v4, v5] (zI x :: st) A K = zX d 162 8 [v0, v1, v2, v3, v4, zI x] st A K := zx_istore z162 dX4_argument_6 (Nat.le_of_ble_eq_true rfl) rfl rfl
theorem s162_8 : zX d 162 8 [v0, v1, v2, v3, v4, zI x] st A K = zX d 162 10 [v0, v1, v2, v3, v4, zI x] (zI x :: st) A K := zx_iload z162 dX4_argument_8 rfl rfl
theorem s162_10 : zX d 162 10 [v0, v1, v2, zI x, v4, v5] st A K = zX d 162 11 [v0, v1, v2, zI x, v4, v5] (zI x :: st) A K := zx_iload_n z162 dX4_argument_10 rfl rfl
theorem s162_11 : zX d 162 11 ls (zI y :: zI x :: st) A K = (if y ≤ x then zX d 162 29 ls st A K else zX d 162 14 ls st A K) := zx_ic_ge z162 dX4_argument_11 rfl rfl
theorem s162_14 : zX d 162 14 [zO o, v1, v2, v3, v4, v5] st A K = zX d 162 15 [zO o, v1, v2, v3, v4, v5] (zO o :: st) A K := zx_aload_n z162 dX4_argument_14 rfl rfl
theorem s162_15 : zX d 162 15 [v0, zO o, v2, v3, v4, v5] st A K = zX d 162 16 [v0, zO o, v2, v3, v4, v5] (zO o :: st) A K := zx_aload_n z162 dX4_argument_15 rfl rfl
theorem s162_16 : zX d 162 16 [v0, v1, v2, v3, zI x, v5] st A K = zX d 162 18 [v0, v1, v2, v3, zI x, v5] (zI x :: st) A K := zx_iload z162 dX4_argument_16 rfl rfl
theorem s162_18 (h : tg A a = 9)  : zX (d + 1) 162 18 ls (zI i1 :: zO o0 :: zO (some a) :: []) A K = zX d 163 0 [zO (some a), zO o0, zI i1, zU, zU] [] A (zK (d + 1) 162 18 21 ls [] K) := zx_callV (t := 9) z162 zo162 dX4_argument_18 rfl C10_117 rfl rfl zm163 rfl rfl (zwt_le (Nat.le_of_ble_eq_true rfl)) rfl h
theorem s162_21 : zX d 162 21 [v0, v1, v2, v3, v4, v5] (zI x :: st) A K = zX d 162 23 [v0, v1, v2, v3, zI x, v5] st A K := zx_istore z162 dX4_argument_21 (Nat.le_of_ble_eq_true rfl) rfl rfl
theorem s162_23 : zX d 162 23 [v0, v1, v2, v3, v4, zI x] st A K = zX d 162 26 [v0, v1, v2, v3, v4, zI (zw (x + 1))] st A K := zx_iinc z162 dX4_argument_23 rfl rfl rfl
theorem s162_26 : zX d 162 26 ls st A K = zX d 162 8 ls st A K := zx_goto z162 dX4_argument_26 rfl
theorem s162_29 : zX d 162 29 [v0, v1, v2, v3, zI x, v5] st A K = zX d 162 31 [v0, v1, v2, v3, zI x, v5] (zI x :: st) A K := zx_iload z162 dX4_argument_29 rfl rfl
theorem s162_31 : zX d 162 31 ls [zI x] A K = K (Sum.inl (some (zI x))) A := zx_iret z162 dX4_argument_31 zk162 rfl
theorem s163_0 : zX d 163 0 ls st A K = zX d 163 1 ls (zI 1 :: st) A K := zx_const z163 dX4_end_0 (by decide) rfl
theorem s163_1 : zX d 163 1 [v0, v1, v2, v3, v4] (zI x :: st) A K = zX d 163 2 [v0, v1, v2, zI x, v4] st A K := zx_istore_n z163 dX4_end_1 (Nat.le_of_ble_eq_true rfl) rfl rfl
theorem s163_2 : zX d 163 2 [v0, v1, zI x, v3, v4] st A K = zX d 163 3 [v0, v1, zI x, v3, v4] (zI x :: st) A K := zx_iload_n z163 dX4_end_2 rfl rfl
theorem s163_3 : zX d 163 3 [v0, v1, v2, v3, v4] (zI x :: st) A K = zX d 163 5 [v0, v1, v2, v3, zI x] st A K := zx_istore z163 dX4_end_3 (Nat.le_of_ble_eq_true rfl) rfl rfl
theorem s163_5 : zX d 163 5 [v0, v1, v2, zI x, v4] st A K = zX d 163 6 [v0, v1, v2, zI x, v4] (zI x :: st) A K := zx_iload_n z163 dX4_end_5 rfl rfl
theorem s163_6 : zX d 163 6 ls (zI x :: st) A K = (if x ≤ 0 then zX d 163 28 ls st A K else zX d 163 9 ls st A K) := zx_if_le z163 dX4_end_6 rfl rfl
theorem s163_9 : zX d 163 9 [v0, v1, v2, zI x, v4] st A K = zX d 163 10 [v0, v1, v2, zI x, v4] (zI x :: st) A K := zx_iload_n z163 dX4_end_9 rfl rfl
theorem s163_10 : zX d 163 10 [zO o, v1, v2, v3, v4] st A K = zX d 163 11 [zO o, v1, v2, v3, v4] (zO o :: st) A K := zx_aload_n z163 dX4_end_10 rfl rfl
theorem s163_11 : zX d 163 11 [v0, zO o, v2, v3, v4] st A K = zX d 163 12 [v0, zO o, v2, v3, v4] (zO o :: st) A K := zx_aload_n z163 dX4_end_11 rfl rfl
theorem s163_12 : zX d 163 12 [v0, v1, v2, v3, zI x] st A K = zX d 163 14 [v0, v1, v2, v3, zI x] (zI x :: st) A K := zx_iload z163 dX4_end_12 rfl rfl
theorem s163_14 (h : tg A a = 20) (h0 : 0 ≤ x) (h1 : x.toNat < (ia A a).length) : zX d 163 14 ls (zI x :: zO (some a) :: st) A K = zX d 163 15 ls (zI ((ia A a).getD x.toNat 0) :: st) A K := zx_iald z163 dX4_end_14 rfl h h0 h1
theorem s163_14s (h : tg A a = 30) (h0 : 0 ≤ x) (h1 : x.toNat < (ia A a).length) : zX d 163 14 ls (zI x :: zO (some a) :: st) A K = zX d 163 15 ls (zI ((ia A a).getD x.toNat 0) :: st) A K := zx_sald z163 dX4_end_14 rfl h h0 h1
theorem s163_15 (h : tg A a = 9)  : zX (d + 1) 163 15 ls (zI i0 :: zO (some a) :: [w0]) A K = zX d 136 0 [zO (some a), zI i0] [] A (zK (d + 1) 163 15 18 ls [w0] K) := zx_callV (t := 9) z163 zo163 dX4_end_15 rfl C10_113 rfl rfl zm136 rfl rfl (zwt_le (Nat.le_of_ble_eq_true rfl)) rfl h
theorem s163_18 : zX d 163 18 ls st A K = zX d 163 19 ls (zI 1 :: st) A K := zx_const z163 dX4_end_18 (by decide) rfl
theorem s163_19 : zX d 163 19 ls (zI y :: zI x :: st) A K = zX d 163 20 ls (zI (zw (x - y)) :: st) A K := zx_isub z163 dX4_end_19 rfl
theorem s163_20 : zX d 163 20 ls (zI y :: zI x :: st) A K = zX d 163 21 ls (zI (zw (x + y)) :: st) A K := zx_iadd z163 dX4_end_20 rfl
theorem s163_21 : zX d 163 21 [v0, v1, v2, v3, v4] (zI x :: st) A K = zX d 163 22 [v0, v1, v2, zI x, v4] st A K := zx_istore_n z163 dX4_end_21 (Nat.le_of_ble_eq_true rfl) rfl rfl
theorem s163_22 : zX d 163 22 [v0, v1, v2, v3, zI x] st A K = zX d 163 25 [v0, v1, v2, v3, zI (zw (x + 1))] st A K := zx_iinc z163 dX4_end_22 rfl rfl rfl
theorem s163_25 : zX d 163 25 ls st A K = zX d 163 5 ls st A K := zx_goto z163 dX4_end_25 rfl
theorem s163_28 : zX d 163 28 [v0, v1, v2, v3, zI x] st A K = zX d 163 30 [v0, v1, v2, v3, zI x] (zI x :: st) A K := zx_iload z163 dX4_end_28 rfl rfl
theorem s163_30 : zX d 163 30 ls [zI x] A K = K (Sum.inl (some (zI x))) A := zx_iret z163 dX4_end_30 zk163 rfl
theorem s164_0 : zX d 164 0 [zO o, v1, v2, v3, v4] st A K = zX d 164 1 [zO o, v1, v2, v3, v4] (zO o :: st) A K := zx_aload_n z164 dX4_isCompatible_0 rfl rfl
theorem s164_1 (h : tg A a = 9) : zX d 164 1 ls (zO (some a) :: st) A K = zX d 164 4 ls (fd A a 2 :: st) A K := zx_getf z164 zo164 dX4_isCompatible_1 F10_16 rfl h
theorem s164_4 : zX d 164 4 [v0, zI x, v2, v3, v4] st A K = zX d 164 5 [v0, zI x, v2, v3, v4] (zI x :: st) A K := zx_iload_n z164 dX4_isCompatible_4 rfl rfl
theorem s164_5 (h : tg A a = 20) (h0 : 0 ≤ x) (h1 : x.toNat < (ia A a).length) : zX d 164 5 ls (zI x :: zO (some a) :: st) A K = zX d 164 6 ls (zI ((ia A a).getD x.toNat 0) :: st) A K := zx_iald z164 dX4_isCompatible_5 rfl h h0 h1
theorem s164_5s (h : tg A a = 30) (h0 : 0 ≤ x) (h1 : x.toNat < (ia A a).length) : zX d 164 5 ls (zI x :: zO (some a) :: st) A K = zX d 164 6 ls (zI ((ia A a).getD x.toNat 0) :: st) A K := zx_sald z164 dX4_isCompatible_5 rfl h h0 h1
theorem s164_6 : zX d 164 6 [v0, v1, v2, v3, v4] (zI x :: st) A K = zX d 164 7 [v0, v1, v2, zI x, v4] st A K := zx_istore_n z164 dX4_isCompatible_6 (Nat.le_of_ble_eq_true rfl) rfl rfl
theorem s164_7 : zX d 164 7 [zO o, v1, v2, v3, v4] st A K = zX d 164 8 [zO o, v1, v2, v3, v4] (zO o :: st) A K := zx_aload_n z164 dX4_isCompatible_7 rfl rfl
theorem s164_8 (h : tg A a = 9) : zX d 164 8 ls (zO (some a) :: st) A K = zX d 164 11 ls (fd A a 2 :: st) A K := zx_getf z164 zo164 dX4_isCompatible_8 F10_16 rfl h
theorem s164_11 : zX d 164 11 [v0, v1, zI x, v3, v4] st A K = zX d 164 12 [v0, v1, zI x, v3, v4] (zI x :: st) A K := zx_iload_n z164 dX4_isCompatible_11 rfl rfl
theorem s164_12 (h : tg A a = 20) (h0 : 0 ≤ x) (h1 : x.toNat < (ia A a).length) : zX d 164 12 ls (zI x :: zO (some a) :: st) A K = zX d 164 13 ls (zI ((ia A a).getD x.toNat 0) :: st) A K := zx_iald z164 dX4_isCompatible_12 rfl h h0 h1
theorem s164_12s (h : tg A a = 30) (h0 : 0 ≤ x) (h1 : x.toNat < (ia A a).length) : zX d 164 12 ls (zI x :: zO (some a) :: st) A K = zX d 164 13 ls (zI ((ia A a).getD x.toNat 0) :: st) A K := zx_sald z164 dX4_isCompatible_12 rfl h h0 h1
theorem s164_13 : zX d 164 13 [v0, v1, v2, v3, v4] (zI x :: st) A K = zX d 164 15 [v0, v1, v2, v3, zI x] st A K := zx_istore z164 dX4_isCompatible_13 (Nat.le_of_ble_eq_true rfl) rfl rfl
theorem s164_15 : zX d 164 15 [v0, v1, v2, zI x, v4] st A K = zX d 164 16 [v0, v1, v2, zI x, v4] (zI x :: st) A K := zx_iload_n z164 dX4_isCompatible_15 rfl rfl
theorem s164_16 : zX (d + 1) 164 16 ls (zI i0 :: []) A K = zX d 135 0 [zI i0] [] A (zK (d + 1) 164 16 19 ls [] K) := zx_callS z164 zo164 dX4_isCompatible_16 rfl C10_128 rfl rfl zm135 rfl rfl (zwt_le (Nat.le_of_ble_eq_true rfl)) rfl
theorem s164_19 : zX d 164 19 ls (zI x :: st) A K = (if x ≠ 0 then zX d 164 37 ls st A K else zX d 164 22 ls st A K) := zx_if_ne z164 dX4_isCompatible_19 rfl rfl
theorem s164_22 : zX d 164 22 [v0, v1, v2, v3, zI x] st A K = zX d 164 24 [v0, v1, v2, v3, zI x] (zI x :: st) A K := zx_iload z164 dX4_isCompatible_22 rfl rfl
theorem s164_24 : zX (d + 1) 164 24 ls (zI i0 :: []) A K = zX d 135 0 [zI i0] [] A (zK (d + 1) 164 24 27 ls [] K) := zx_callS z164 zo164 dX4_isCompatible_24 rfl C10_128 rfl rfl zm135 rfl rfl (zwt_le (Nat.le_of_ble_eq_true rfl)) rfl
theorem s164_27 : zX d 164 27 ls (zI x :: st) A K = (if x ≠ 0 then zX d 164 37 ls st A K else zX d 164 30 ls st A K) := zx_if_ne z164 dX4_isCompatible_27 rfl rfl
theorem s164_30 : zX d 164 30 [v0, v1, v2, zI x, v4] st A K = zX d 164 31 [v0, v1, v2, zI x, v4] (zI x :: st) A K := zx_iload_n z164 dX4_isCompatible_30 rfl rfl
theorem s164_31 : zX (d + 1) 164 31 ls (zI i0 :: []) A K = zX d 134 0 [zI i0] [] A (zK (d + 1) 164 31 34 ls [] K) := zx_callS z164 zo164 dX4_isCompatible_31 rfl C10_109 rfl rfl zm134 rfl rfl (zwt_le (Nat.le_of_ble_eq_true rfl)) rfl
theorem s164_34 : zX d 164 34 ls (zI x :: st) A K = (if x = 0 then zX d 164 39 ls st A K else zX d 164 37 ls st A K) := zx_if_eq z164 dX4_isCompatible_34 rfl rfl
theorem s164_37 : zX d 164 37 ls st A K = zX d 164 38 ls (zI 1 :: st) A K := zx_const z164 dX4_isCompatible_37 (by decide) rfl
theorem s164_38 (h : x = 0 ∨ x = 1) : zX d 164 38 ls [zI x] A K = K (Sum.inl (some (zI x))) A := zx_iret z164 dX4_isCompatible_38 zk164 (by rcases h with q | q <;> subst q <;> rfl)
theorem s164_39 : zX d 164 39 [v0, v1, v2, zI x, v4] st A K = zX d 164 40 [v0, v1, v2, zI x, v4] (zI x :: st) A K := zx_iload_n z164 dX4_isCompatible_39 rfl rfl
theorem s164_40 : zX d 164 40 [v0, v1, v2, v3, zI x] st A K = zX d 164 42 [v0, v1, v2, v3, zI x] (zI x :: st) A K := zx_iload z164 dX4_isCompatible_40 rfl rfl
theorem s164_42 : zX d 164 42 ls (zI y :: zI x :: st) A K = (if x ≠ y then zX d 164 58 ls st A K else zX d 164 45 ls st A K) := zx_ic_ne z164 dX4_isCompatible_42 rfl rfl
theorem s164_45 : zX d 164 45 [zO o, v1, v2, v3, v4] st A K = zX d 164 46 [zO o, v1, v2, v3, v4] (zO o :: st) A K := zx_aload_n z164 dX4_isCompatible_45 rfl rfl
theorem s164_46 : zX d 164 46 [v0, zI x, v2, v3, v4] st A K = zX d 164 47 [v0, zI x, v2, v3, v4] (zI x :: st) A K := zx_iload_n z164 dX4_isCompatible_46 rfl rfl
theorem s164_47 : zX d 164 47 [v0, v1, zI x, v3, v4] st A K = zX d 164 48 [v0, v1, zI x, v3, v4] (zI x :: st) A K := zx_iload_n z164 dX4_isCompatible_47 rfl rfl
theorem s164_48 (h : tg A a = 9)  : zX (d + 1) 164 48 ls (zI i1 :: zI i0 :: zO (some a) :: []) A K = zX d 161 0 [zO (some a), zI i0, zI i1, zU, zU] [] A (zK (d + 1) 164 48 51 ls [] K) := zx_callV (t := 9) z164 zo164 dX4_isCompatible_48 rfl C10_197 rfl rfl zm161 rfl rfl (zwt_le (Nat.le_of_ble_eq_true rfl)) rfl h
theorem s164_51 : zX d 164 51 ls (zI x :: st) A K = (if x = 0 then zX d 164 58 ls st A K else zX d 164 54 ls st A K) := zx_if_eq z164 dX4_isCompatible_51 rfl rfl
theorem s164_54 : zX d 164 54 ls st A K = zX d 164 55 ls (zI 1 :: st) A K := zx_const z164 dX4_isCompatible_54 (by decide) rfl
theorem s164_55 : zX d 164 55 ls st A K = zX d 164 59 ls st A K := zx_goto z164 dX4_isCompatible_55 rfl
theorem s164_58 : zX d 164 58 ls st A K = zX d 164 59 ls (zI 0 :: st) A K := zx_const z164 dX4_isCompatible_58 (by decide) rfl
theorem s164_59 (h : x = 0 ∨ x = 1) : zX d 164 59 ls [zI x] A K = K (Sum.inl (some (zI x))) A := zx_iret z164 dX4_isCompatible_59 zk164 (by rcases h with q | q <;> subst q <;> rfl)
theorem s165_0 : zX d 165 0 [zO o, v1, v2, v3, v4] st A K = zX d 165 1 [zO o, v1, v2, v3, v4] (zO o :: st) A K := zx_aload_n z165 dX4_edgeCount_0 rfl rfl
theorem s165_1 (h : tg A a = 9)  : zX (d + 1) 165 1 ls (zO (some a) :: []) A K = zX d 149 0 [zO (some a), zU, zU, zU] [] A (zK (d + 1) 165 1 4 ls [] K) := zx_callV (t := 9) z165 zo165 dX4_edgeCount_1 rfl C10_185 rfl rfl zm149 rfl rfl (zwt_le (Nat.le_of_ble_eq_true rfl)) rfl h
theorem s165_4 : zX d 165 4 [v0, v1, v2, v3, v4] (zI x :: st) A K = zX d 165 5 [v0, zI x, v2, v3, v4] st A K := zx_istore_n z165 dX4_edgeCount_4 (Nat.le_of_ble_eq_true rfl) rfl rfl
theorem s165_5 : zX d 165 5 ls st A K = zX d 165 6 ls (zI 0 :: st) A K := zx_const z165 dX4_edgeCount_5 (by decide) rfl
theorem s165_6 : zX d 165 6 [v0, v1, v2, v3, v4] (zI x :: st) A K = zX d 165 7 [v0, v1, zI x, v3, v4] st A K := zx_istore_n z165 dX4_edgeCount_6 (Nat.le_of_ble_eq_true rfl) rfl rfl
theorem s165_7 : zX d 165 7 ls st A K = zX d 165 8 ls (zI 0 :: st) A K := zx_const z165 dX4_edgeCount_7 (by decide) rfl
theorem s165_8 : zX d 165 8 [v0, v1, v2, v3, v4] (zI x :: st) A K = zX d 165 9 [v0, v1, v2, zI x, v4] st A K := zx_istore_n z165 dX4_edgeCount_8 (Nat.le_of_ble_eq_true rfl) rfl rfl
theorem s165_9 : zX d 165 9 [v0, v1, v2, zI x, v4] st A K = zX d 165 10 [v0, v1, v2, zI x, v4] (zI x :: st) A K := zx_iload_n z165 dX4_edgeCount_9 rfl rfl
theorem s165_10 : zX d 165 10 [v0, zI x, v2, v3, v4] st A K = zX d 165 11 [v0, zI x, v2, v3, v4] (zI x :: st) A K := zx_iload_n z165 dX4_edgeCount_10 rfl rfl
theorem s165_11 : zX d 165 11 ls (zI y :: zI x :: st) A K = (if y ≤ x then zX d 165 53 ls st A K else zX d 165 14 ls st A K) := zx_ic_ge z165 dX4_edgeCount_11 rfl rfl
theorem s165_14 : zX d 165 14 ls st A K = zX d 165 15 ls (zI 0 :: st) A K := zx_const z165 dX4_edgeCount_14 (by decide) rfl
theorem s165_15 : zX d 165 15 [v0, v1, v2, v3, v4] (zI x :: st) A K = zX d 165 17 [v0, v1, v2, v3, zI x] st A K := zx_istore z165 dX4_edgeCount_15 (Nat.le_of_ble_eq_true rfl) rfl rfl
theorem s165_17 : zX d 165 17 [v0, v1, v2, v3, zI x] st A K = zX d 165 19 [v0, v1, v2, v3, zI x] (zI x :: st) A K := zx_iload z165 dX4_edgeCount_17 rfl rfl
theorem s165_19 : zX d 165 19 [v0, zI x, v2, v3, v4] st A K = zX d 165 20 [v0, zI x, v2, v3, v4] (zI x :: st) A K := zx_iload_n z165 dX4_edgeCount_19 rfl rfl
theorem s165_20 : zX d 165 20 ls (zI y :: zI x :: st) A K = (if y ≤ x then zX d 165 47 ls st A K else zX d 165 23 ls st A K) := zx_ic_ge z165 dX4_edgeCount_20 rfl rfl
theorem s165_23 : zX d 165 23 [v0, v1, zI x, v3, v4] st A K = zX d 165 24 [v0, v1, zI x, v3, v4] (zI x :: st) A K := zx_iload_n z165 dX4_edgeCount_23 rfl rfl
theorem s165_24 : zX d 165 24 [zO o, v1, v2, v3, v4] st A K = zX d 165 25 [zO o, v1, v2, v3, v4] (zO o :: st) A K := zx_aload_n z165 dX4_edgeCount_24 rfl rfl
theorem s165_25 : zX d 165 25 [v0, v1, v2, zI x, v4] st A K = zX d 165 26 [v0, v1, v2, zI x, v4] (zI x :: st) A K := zx_iload_n z165 dX4_edgeCount_25 rfl rfl
theorem s165_26 : zX d 165 26 [v0, v1, v2, v3, zI x] st A K = zX d 165 28 [v0, v1, v2, v3, zI x] (zI x :: st) A K := zx_iload z165 dX4_edgeCount_26 rfl rfl
theorem s165_28 (h : tg A a = 9)  : zX (d + 1) 165 28 ls (zI i1 :: zI i0 :: zO (some a) :: [w0]) A K = zX d 160 0 [zO (some a), zI i0, zI i1] [] A (zK (d + 1) 165 28 31 ls [w0] K) := zx_callV (t := 9) z165 zo165 dX4_edgeCount_28 rfl C10_208 rfl rfl zm160 rfl rfl (zwt_le (Nat.le_of_ble_eq_true rfl)) rfl h
theorem s165_31 : zX d 165 31 ls (zI x :: st) A K = (if x = 0 then zX d 165 38 ls st A K else zX d 165 34 ls st A K) := zx_if_eq z165 dX4_edgeCount_31 rfl rfl
theorem s165_34 : zX d 165 34 ls st A K = zX d 165 35 ls (zI 1 :: st) A K := zx_const z165 dX4_edgeCount_34 (by decide) rfl
theorem s165_35 : zX d 165 35 ls st A K = zX d 165 39 ls st A K := zx_goto z165 dX4_edgeCount_35 rfl
theorem s165_38 : zX d 165 38 ls st A K = zX d 165 39 ls (zI 0 :: st) A K := zx_const z165 dX4_edgeCount_38 (by decide) rfl
theorem s165_39 : zX d 165 39 ls (zI y :: zI x :: st) A K = zX d 165 40 ls (zI (zw (x + y)) :: st) A K := zx_iadd z165 dX4_edgeCount_39 rfl
theorem s165_40 : zX d 165 40 [v0, v1, v2, v3, v4] (zI x :: st) A K = zX d 165 41 [v0, v1, zI x, v3, v4] st A K := zx_istore_n z165 dX4_edgeCount_40 (Nat.le_of_ble_eq_true rfl) rfl rfl
theorem s165_41 : zX d 165 41 [v0, v1, v2, v3, zI x] st A K = zX d 165 44 [v0, v1, v2, v3, zI (zw (x + 1))] st A K := zx_iinc z165 dX4_edgeCount_41 rfl rfl rfl
theorem s165_44 : zX d 165 44 ls st A K = zX d 165 17 ls st A K := zx_goto z165 dX4_edgeCount_44 rfl
theorem s165_47 : zX d 165 47 [v0, v1, v2, zI x, v4] st A K = zX d 165 50 [v0, v1, v2, zI (zw (x + 1)), v4] st A K := zx_iinc z165 dX4_edgeCount_47 rfl rfl rfl
theorem s165_50 : zX d 165 50 ls st A K = zX d 165 9 ls st A K := zx_goto z165 dX4_edgeCount_50 rfl
theorem s165_53 : zX d 165 53 [v0, v1, zI x, v3, v4] st A K = zX d 165 54 [v0, v1, zI x, v3, v4] (zI x :: st) A K := zx_iload_n z165 dX4_edgeCount_53 rfl rfl
theorem s165_54 : zX d 165 54 ls [zI x] A K = K (Sum.inl (some (zI x))) A := zx_iret z165 dX4_edgeCount_54 zk165 rfl
theorem s166_0 : zX d 166 0 [zO o] st A K = zX d 166 1 [zO o] (zO o :: st) A K := zx_aload_n z166 dX4_componentCount_0 rfl rfl
theorem s166_1 (h : tg A a = 9)  : zX (d + 1) 166 1 ls (zO (some a) :: []) A K = zX d 167 0 [zO (some a), zU, zU] [] A (zK (d + 1) 166 1 4 ls [] K) := zx_callV (t := 9) z166 zo166 dX4_componentCount_1 rfl C10_223 rfl rfl zm167 rfl rfl (zwt_le (Nat.le_of_ble_eq_true rfl)) rfl h
theorem s166_4 : zX d 166 4 [zO o] st A K = zX d 166 5 [zO o] (zO o :: st) A K := zx_aload_n z166 dX4_componentCount_4 rfl rfl
theorem s166_5 (h : tg A a = 9)  : zX (d + 1) 166 5 ls (zO (some a) :: []) A K = zX d 168 0 [zO (some a), zU, zU, zU] [] A (zK (d + 1) 166 5 8 ls [] K) := zx_callV (t := 9) z166 zo166 dX4_componentCount_5 rfl C10_226 rfl rfl zm168 rfl rfl (zwt_le (Nat.le_of_ble_eq_true rfl)) rfl h
theorem s166_8 : zX d 166 8 [zO o] st A K = zX d 166 9 [zO o] (zO o :: st) A K := zx_aload_n z166 dX4_componentCount_8 rfl rfl
theorem s166_9 (h : tg A a = 9) : zX d 166 9 ls (zO (some a) :: st) A K = zX d 166 12 ls (fd A a 24 :: st) A K := zx_getf z166 zo166 dX4_componentCount_9 F10_220 rfl h
theorem s166_12 : zX d 166 12 ls [zI x] A K = K (Sum.inl (some (zI x))) A := zx_iret z166 dX4_componentCount_12 zk166 rfl
theorem s167_0 : zX d 167 0 [zO o, v1, v2] st A K = zX d 167 1 [zO o, v1, v2] (zO o :: st) A K := zx_aload_n z167 dX4_findGraph_0 rfl rfl
theorem s167_1 : zX d 167 1 [zO o, v1, v2] st A K = zX d 167 2 [zO o, v1, v2] (zO o :: st) A K := zx_aload_n z167 dX4_findGraph_1 rfl rfl
theorem s167_2 (h : tg A a = 9)  : zX (d + 1) 167 2 ls (zO (some a) :: [w0]) A K = zX d 149 0 [zO (some a), zU, zU, zU] [] A (zK (d + 1) 167 2 5 ls [w0] K) := zx_callV (t := 9) z167 zo167 dX4_findGraph_2 rfl C10_185 rfl rfl zm149 rfl rfl (zwt_le (Nat.le_of_ble_eq_true rfl)) rfl h
theorem s167_5 (h : tg A a = 9) : zX d 167 5 ls (zI x :: zO (some a) :: st) A K = zX d 167 8 ls st (pF A a 23 (zI x)) K := zx_putf (q := 0) z167 zo167 dX4_findGraph_5 F10_211 rfl rfl rfl h rfl
theorem s167_8 : zX d 167 8 ls st A K = zX d 167 9 ls (zI 0 :: st) A K := zx_const z167 dX4_findGraph_8 (by decide) rfl
theorem s167_9 : zX d 167 9 [v0, v1, v2] (zI x :: st) A K = zX d 167 10 [v0, zI x, v2] st A K := zx_istore_n z167 dX4_findGraph_9 (Nat.le_of_ble_eq_true rfl) rfl rfl
theorem s167_10 : zX d 167 10 [v0, zI x, v2] st A K = zX d 167 11 [v0, zI x, v2] (zI x :: st) A K := zx_iload_n z167 dX4_findGraph_10 rfl rfl
theorem s167_11 : zX d 167 11 [zO o, v1, v2] st A K = zX d 167 12 [zO o, v1, v2] (zO o :: st) A K := zx_aload_n z167 dX4_findGraph_11 rfl rfl
theorem s167_12 (h : tg A a = 9) : zX d 167 12 ls (zO (some a) :: st) A K = zX d 167 15 ls (fd A a 23 :: st) A K := zx_getf z167 zo167 dX4_findGraph_12 F10_211 rfl h
theorem s167_15 : zX d 167 15 ls (zI y :: zI x :: st) A K = (if y ≤ x then zX d 167 103 ls st A K else zX d 167 18 ls st A K) := zx_ic_ge z167 dX4_findGraph_15 rfl rfl
theorem s167_18 : zX d 167 18 [zO o, v1, v2] st A K = zX d 167 19 [zO o, v1, v2] (zO o :: st) A K := zx_aload_n z167 dX4_findGraph_18 rfl rfl
theorem s167_19 (h : tg A a = 9) : zX d 167 19 ls (zO (some a) :: st) A K = zX d 167 22 ls (fd A a 21 :: st) A K := zx_getf z167 zo167 dX4_findGraph_19 F10_59 rfl h
theorem s167_22 : zX d 167 22 [v0, zI x, v2] st A K = zX d 167 23 [v0, zI x, v2] (zI x :: st) A K := zx_iload_n z167 dX4_findGraph_22 rfl rfl
theorem s167_23 : zX d 167 23 ls st A K = zX d 167 24 ls (zI 1 :: st) A K := zx_const z167 dX4_findGraph_23 (by decide) rfl
theorem s167_24 (h : tg A a = 21) (h0 : 0 ≤ x) (h1 : x.toNat < (ia A a).length) : zX d 167 24 ls (zI y :: zI x :: zO (some a) :: st) A K = zX d 167 25 ls st (pI A a ((ia A a).set x.toNat (zhb y))) K := zx_bast z167 dX4_findGraph_24 rfl h h0 h1
theorem s167_24z (h : tg A a = 22) (h2 : y = 0 ∨ y = 1) (h0 : 0 ≤ x) (h1 : x.toNat < (ia A a).length) : zX d 167 24 ls (zI y :: zI x :: zO (some a) :: st) A K = zX d 167 25 ls st (pI A a ((ia A a).set x.toNat y)) K := zx_zast z167 dX4_findGraph_24 rfl h h2 h0 h1
theorem s167_25 : zX d 167 25 ls st A K = zX d 167 26 ls (zI 0 :: st) A K := zx_const z167 dX4_findGraph_25 (by decide) rfl
theorem s167_26 : zX d 167 26 [v0, v1, v2] (zI x :: st) A K = zX d 167 27 [v0, v1, zI x] st A K := zx_istore_n z167 dX4_findGraph_26 (Nat.le_of_ble_eq_true rfl) rfl rfl
theorem s167_27 : zX d 167 27 [v0, v1, zI x] st A K = zX d 167 28 [v0, v1, zI x] (zI x :: st) A K := zx_iload_n z167 dX4_findGraph_27 rfl rfl
theorem s167_28 : zX d 167 28 ls st A K = zX d 167 29 ls (zI 4 :: st) A K := zx_const z167 dX4_findGraph_28 (by decide) rfl
theorem s167_29 : zX d 167 29 ls (zI y :: zI x :: st) A K = (if y ≤ x then zX d 167 49 ls st A K else zX d 167 32 ls st A K) := zx_ic_ge z167 dX4_findGraph_29 rfl rfl
theorem s167_32 : zX d 167 32 [zO o, v1, v2] st A K = zX d 167 33 [zO o, v1, v2] (zO o :: st) A K := zx_aload_n z167 dX4_findGraph_32 rfl rfl
theorem s167_33 (h : tg A a = 9) : zX d 167 33 ls (zO (some a) :: st) A K = zX d 167 36 ls (fd A a 19 :: st) A K := zx_getf z167 zo167 dX4_findGraph_33 F10_52 rfl h
theorem s167_36 : zX d 167 36 ls st A K = zX d 167 37 ls (zI 4 :: st) A K := zx_const z167 dX4_findGraph_36 (by decide) rfl
theorem s167_37 : zX d 167 37 [v0, zI x, v2] st A K = zX d 167 38 [v0, zI x, v2] (zI x :: st) A K := zx_iload_n z167 dX4_findGraph_37 rfl rfl
theorem s167_38 : zX d 167 38 ls (zI y :: zI x :: st) A K = zX d 167 39 ls (zI (zw (x * y)) :: st) A K := zx_imul z167 dX4_findGraph_38 rfl
theorem s167_39 : zX d 167 39 [v0, v1, zI x] st A K = zX d 167 40 [v0, v1, zI x] (zI x :: st) A K := zx_iload_n z167 dX4_findGraph_39 rfl rfl
theorem s167_40 : zX d 167 40 ls (zI y :: zI x :: st) A K = zX d 167 41 ls (zI (zw (x + y)) :: st) A K := zx_iadd z167 dX4_findGraph_40 rfl
theorem s167_41 : zX d 167 41 ls st A K = zX d 167 42 ls (zL 0 :: st) A K := zx_lconst z167 dX4_findGraph_41 rfl
theorem s167_42 (h : tg A a = 23) (h0 : 0 ≤ x) (h1 : x.toNat < (la A a).length) : zX d 167 42 ls (zL y :: zI x :: zO (some a) :: st) A K = zX d 167 43 ls st (pL A a ((la A a).set x.toNat y)) K := zx_last z167 dX4_findGraph_42 rfl h h0 h1
theorem s167_43 : zX d 167 43 [v0, v1, zI x] st A K = zX d 167 46 [v0, v1, zI (zw (x + 1))] st A K := zx_iinc z167 dX4_findGraph_43 rfl rfl rfl
theorem s167_46 : zX d 167 46 ls st A K = zX d 167 27 ls st A K := zx_goto z167 dX4_findGraph_46 rfl
theorem s167_49 : zX d 167 49 ls st A K = zX d 167 50 ls (zI 0 :: st) A K := zx_const z167 dX4_findGraph_49 (by decide) rfl
theorem s167_50 : zX d 167 50 [v0, v1, v2] (zI x :: st) A K = zX d 167 51 [v0, v1, zI x] st A K := zx_istore_n z167 dX4_findGraph_50 (Nat.le_of_ble_eq_true rfl) rfl rfl
theorem s167_51 : zX d 167 51 [v0, v1, zI x] st A K = zX d 167 52 [v0, v1, zI x] (zI x :: st) A K := zx_iload_n z167 dX4_findGraph_51 rfl rfl
theorem s167_52 : zX d 167 52 [zO o, v1, v2] st A K = zX d 167 53 [zO o, v1, v2] (zO o :: st) A K := zx_aload_n z167 dX4_findGraph_52 rfl rfl
theorem s167_53 (h : tg A a = 9) : zX d 167 53 ls (zO (some a) :: st) A K = zX d 167 56 ls (fd A a 23 :: st) A K := zx_getf z167 zo167 dX4_findGraph_53 F10_211 rfl h
theorem s167_56 : zX d 167 56 ls (zI y :: zI x :: st) A K = (if y ≤ x then zX d 167 97 ls st A K else zX d 167 59 ls st A K) := zx_ic_ge z167 dX4_findGraph_56 rfl rfl
theorem s167_59 : zX d 167 59 [zO o, v1, v2] st A K = zX d 167 60 [zO o, v1, v2] (zO o :: st) A K := zx_aload_n z167 dX4_findGraph_59 rfl rfl
theorem s167_60 (h : tg A a = 9) : zX d 167 60 ls (zO (some a) :: st) A K = zX d 167 63 ls (fd A a 19 :: st) A K := zx_getf z167 zo167 dX4_findGraph_60 F10_52 rfl h
theorem s167_63 : zX d 167 63 ls st A K = zX d 167 64 ls (zI 4 :: st) A K := zx_const z167 dX4_findGraph_63 (by decide) rfl
theorem s167_64 : zX d 167 64 [v0, zI x, v2] st A K = zX d 167 65 [v0, zI x, v2] (zI x :: st) A K := zx_iload_n z167 dX4_findGraph_64 rfl rfl
theorem s167_65 : zX d 167 65 ls (zI y :: zI x :: st) A K = zX d 167 66 ls (zI (zw (x * y)) :: st) A K := zx_imul z167 dX4_findGraph_65 rfl
theorem s167_66 : zX d 167 66 [v0, v1, zI x] st A K = zX d 167 67 [v0, v1, zI x] (zI x :: st) A K := zx_iload_n z167 dX4_findGraph_66 rfl rfl
theorem s167_67 : zX d 167 67 ls st A K = zX d 167 69 ls (zI (64) :: st) A K := zx_bipush z167 dX4_findGraph_67 (by decide) rfl
theorem s167_69 (h : y ≠ 0) : zX d 167 69 ls (zI y :: zI x :: st) A K = zX d 167 70 ls (zI (Int32.ofInt x / Int32.ofInt y).toInt :: st) A K := zx_idiv z167 dX4_findGraph_69 rfl h
theorem s167_70 : zX d 167 70 ls (zI y :: zI x :: st) A K = zX d 167 71 ls (zI (zw (x + y)) :: st) A K := zx_iadd z167 dX4_findGraph_70 rfl
theorem s167_71 (h : zc v = true) (h2 : zc u = true) : zX d 167 71 ls (v :: u :: st) A K = zX d 167 72 ls (v :: u :: v :: u :: st) A K := zx_dup2 z167 dX4_findGraph_71 rfl h h2
theorem s167_72 (h : tg A a = 23) (h0 : 0 ≤ x) (h1 : x.toNat < (la A a).length) : zX d 167 72 ls (zI x :: zO (some a) :: st) A K = zX d 167 73 ls (zL ((la A a).getD x.toNat 0) :: st) A K := zx_lald z167 dX4_findGraph_72 rfl h h0 h1
theorem s167_73 : zX d 167 73 [zO o, v1, v2] st A K = zX d 167 74 [zO o, v1, v2] (zO o :: st) A K := zx_aload_n z167 dX4_findGraph_73 rfl rfl
theorem s167_74 : zX d 167 74 [v0, zI x, v2] st A K = zX d 167 75 [v0, zI x, v2] (zI x :: st) A K := zx_iload_n z167 dX4_findGraph_74 rfl rfl
theorem s167_75 : zX d 167 75 [v0, v1, zI x] st A K = zX d 167 76 [v0, v1, zI x] (zI x :: st) A K := zx_iload_n z167 dX4_findGraph_75 rfl rfl
theorem s167_76 (h : tg A a = 9)  : zX (d + 1) 167 76 ls (zI i1 :: zI i0 :: zO (some a) :: [w0, w1, w2]) A K = zX d 160 0 [zO (some a), zI i0, zI i1] [] A (zK (d + 1) 167 76 79 ls [w0, w1, w2] K) := zx_callV (t := 9) z167 zo167 dX4_findGraph_76 rfl C10_208 rfl rfl zm160 rfl rfl (zwt_le (Nat.le_of_ble_eq_true rfl)) rfl h
theorem s167_79 : zX d 167 79 ls (zI x :: st) A K = (if x = 0 then zX d 167 88 ls st A K else zX d 167 82 ls st A K) := zx_if_eq z167 dX4_findGraph_79 rfl rfl
theorem s167_82 : zX d 167 82 ls st A K = zX d 167 83 ls (zL 1 :: st) A K := zx_lconst z167 dX4_findGraph_82 rfl
theorem s167_83 : zX d 167 83 [v0, v1, zI x] st A K = zX d 167 84 [v0, v1, zI x] (zI x :: st) A K := zx_iload_n z167 dX4_findGraph_83 rfl rfl
theorem s167_84 : zX d 167 84 ls (zI y :: zL x :: st) A K = zX d 167 85 ls (zL (Int64.ofInt x <<< ((Int32.ofInt y).toInt64 &&& 63)).toInt :: st) A K := zx_lshl z167 dX4_findGraph_84 rfl
theorem s167_85 : zX d 167 85 ls st A K = zX d 167 89 ls st A K := zx_goto z167 dX4_findGraph_85 rfl
theorem s167_88 : zX d 167 88 ls st A K = zX d 167 89 ls (zL 0 :: st) A K := zx_lconst z167 dX4_findGraph_88 rfl
theorem s167_89 : zX d 167 89 ls (zL y :: zL x :: st) A K = zX d 167 90 ls (zL (Int64.ofInt x ||| Int64.ofInt y).toInt :: st) A K := zx_lor z167 dX4_findGraph_89 rfl
theorem s167_90 (h : tg A a = 23) (h0 : 0 ≤ x) (h1 : x.toNat < (la A a).length) : zX d 167 90 ls (zL y :: zI x :: zO (some a) :: st) A K = zX d 167 91 ls st (pL A a ((la A a).set x.toNat y)) K := zx_last z167 dX4_findGraph_90 rfl h h0 h1
theorem s167_91 : zX d 167 91 [v0, v1, zI x] st A K = zX d 167 94 [v0, v1, zI (zw (x + 1))] st A K := zx_iinc z167 dX4_findGraph_91 rfl rfl rfl
theorem s167_94 : zX d 167 94 ls st A K = zX d 167 51 ls st A K := zx_goto z167 dX4_findGraph_94 rfl
theorem s167_97 : zX d 167 97 [v0, zI x, v2] st A K = zX d 167 100 [v0, zI (zw (x + 1)), v2] st A K := zx_iinc z167 dX4_findGraph_97 rfl rfl rfl
theorem s167_100 : zX d 167 100 ls st A K = zX d 167 10 ls st A K := zx_goto z167 dX4_findGraph_100 rfl
theorem s167_103 : zX d 167 103 ls [] A K = K (Sum.inl none) A := zx_vret z167 dX4_findGraph_103 rfl
theorem s168_0 : zX d 168 0 ls st A K = zX d 168 1 ls (zI 0 :: st) A K := zx_const z168 dX4_findComponents_0 (by decide) rfl
theorem s168_1 : zX d 168 1 [v0, v1, v2, v3] (zI x :: st) A K = zX d 168 2 [v0, zI x, v2, v3] st A K := zx_istore_n z168 dX4_findComponents_1 (Nat.le_of_ble_eq_true rfl) rfl rfl
theorem s168_2 : zX d 168 2 [v0, zI x, v2, v3] st A K = zX d 168 3 [v0, zI x, v2, v3] (zI x :: st) A K := zx_iload_n z168 dX4_findComponents_2 rfl rfl
theorem s168_3 : zX d 168 3 [zO o, v1, v2, v3] st A K = zX d 168 4 [zO o, v1, v2, v3] (zO o :: st) A K := zx_aload_n z168 dX4_findComponents_3 rfl rfl
theorem s168_4 (h : tg A a = 9) : zX d 168 4 ls (zO (some a) :: st) A K = zX d 168 7 ls (fd A a 23 :: st) A K := zx_getf z168 zo168 dX4_findComponents_4 F10_211 rfl h
theorem s168_7 : zX d 168 7 ls (zI y :: zI x :: st) A K = (if y ≤ x then zX d 168 110 ls st A K else zX d 168 10 ls st A K) := zx_ic_ge z168 dX4_findComponents_7 rfl rfl
theorem s168_10 : zX d 168 10 ls st A K = zX d 168 11 ls (zI 0 :: st) A K := zx_const z168 dX4_findComponents_10 (by decide) rfl
theorem s168_11 : zX d 168 11 [v0, v1, v2, v3] (zI x :: st) A K = zX d 168 12 [v0, v1, zI x, v3] st A K := zx_istore_n z168 dX4_findComponents_11 (Nat.le_of_ble_eq_true rfl) rfl rfl
theorem s168_12 : zX d 168 12 [v0, v1, zI x, v3] st A K = zX d 168 13 [v0, v1, zI x, v3] (zI x :: st) A K := zx_iload_n z168 dX4_findComponents_12 rfl rfl
theorem s168_13 : zX d 168 13 ls st A K = zX d 168 14 ls (zI 4 :: st) A K := zx_const z168 dX4_findComponents_13 (by decide) rfl
theorem s168_14 : zX d 168 14 ls (zI y :: zI x :: st) A K = (if y ≤ x then zX d 168 56 ls st A K else zX d 168 17 ls st A K) := zx_ic_ge z168 dX4_findComponents_14 rfl rfl
theorem s168_17 : zX d 168 17 [zO o, v1, v2, v3] st A K = zX d 168 18 [zO o, v1, v2, v3] (zO o :: st) A K := zx_aload_n z168 dX4_findComponents_17 rfl rfl
theorem s168_18 (h : tg A a = 9) : zX d 168 18 ls (zO (some a) :: st) A K = zX d 168 21 ls (fd A a 20 :: st) A K := zx_getf z168 zo168 dX4_findComponents_18 F10_56 rfl h
theorem s168_21 : zX d 168 21 ls st A K = zX d 168 22 ls (zI 4 :: st) A K := zx_const z168 dX4_findComponents_21 (by decide) rfl
theorem s168_22 : zX d 168 22 [v0, zI x, v2, v3] st A K = zX d 168 23 [v0, zI x, v2, v3] (zI x :: st) A K := zx_iload_n z168 dX4_findComponents_22 rfl rfl
theorem s168_23 : zX d 168 23 ls (zI y :: zI x :: st) A K = zX d 168 24 ls (zI (zw (x * y)) :: st) A K := zx_imul z168 dX4_findComponents_23 rfl
theorem s168_24 : zX d 168 24 [v0, v1, zI x, v3] st A K = zX d 168 25 [v0, v1, zI x, v3] (zI x :: st) A K := zx_iload_n z168 dX4_findComponents_24 rfl rfl
theorem s168_25 : zX d 168 25 ls (zI y :: zI x :: st) A K = zX d 168 26 ls (zI (zw (x + y)) :: st) A K := zx_iadd z168 dX4_findComponents_25 rfl
theorem s168_26 : zX d 168 26 [zO o, v1, v2, v3] st A K = zX d 168 27 [zO o, v1, v2, v3] (zO o :: st) A K := zx_aload_n z168 dX4_findComponents_26 rfl rfl
theorem s168_27 (h : tg A a = 9) : zX d 168 27 ls (zO (some a) :: st) A K = zX d 168 30 ls (fd A a 21 :: st) A K := zx_getf z168 zo168 dX4_findComponents_27 F10_59 rfl h
theorem s168_30 : zX d 168 30 [v0, zI x, v2, v3] st A K = zX d 168 31 [v0, zI x, v2, v3] (zI x :: st) A K := zx_iload_n z168 dX4_findComponents_30 rfl rfl
theorem s168_31 (h : tg A a = 21) (h0 : 0 ≤ x) (h1 : x.toNat < (ia A a).length) : zX d 168 31 ls (zI x :: zO (some a) :: st) A K = zX d 168 32 ls (zI ((ia A a).getD x.toNat 0) :: st) A K := zx_bald z168 dX4_findComponents_31 rfl h h0 h1
theorem s168_31z (h : tg A a = 22) (h0 : 0 ≤ x) (h1 : x.toNat < (ia A a).length) : zX d 168 31 ls (zI x :: zO (some a) :: st) A K = zX d 168 32 ls (zI ((ia A a).getD x.toNat 0) :: st) A K := zx_zald z168 dX4_findComponents_31 rfl h h0 h1
theorem s168_32 : zX d 168 32 ls (zI x :: st) A K = (if x = 0 then zX d 168 48 ls st A K else zX d 168 35 ls st A K) := zx_if_eq z168 dX4_findComponents_32 rfl rfl
theorem s168_35 : zX d 168 35 [zO o, v1, v2, v3] st A K = zX d 168 36 [zO o, v1, v2, v3] (zO o :: st) A K := zx_aload_n z168 dX4_findComponents_35 rfl rfl
theorem s168_36 (h : tg A a = 9) : zX d 168 36 ls (zO (some a) :: st) A K = zX d 168 39 ls (fd A a 19 :: st) A K := zx_getf z168 zo168 dX4_findComponents_36 F10_52 rfl h
theorem s168_39 : zX d 168 39 ls st A K = zX d 168 40 ls (zI 4 :: st) A K := zx_const z168 dX4_findComponents_39 (by decide) rfl
theorem s168_40 : zX d 168 40 [v0, zI x, v2, v3] st A K = zX d 168 41 [v0, zI x, v2, v3] (zI x :: st) A K := zx_iload_n z168 dX4_findComponents_40 rfl rfl
theorem s168_41 : zX d 168 41 ls (zI y :: zI x :: st) A K = zX d 168 42 ls (zI (zw (x * y)) :: st) A K := zx_imul z168 dX4_findComponents_41 rfl
theorem s168_42 : zX d 168 42 [v0, v1, zI x, v3] st A K = zX d 168 43 [v0, v1, zI x, v3] (zI x :: st) A K := zx_iload_n z168 dX4_findComponents_42 rfl rfl
theorem s168_43 : zX d 168 43 ls (zI y :: zI x :: st) A K = zX d 168 44 ls (zI (zw (x + y)) :: st) A K := zx_iadd z168 dX4_findComponents_43 rfl
theorem s168_44 (h : tg A a = 23) (h0 : 0 ≤ x) (h1 : x.toNat < (la A a).length) : zX d 168 44 ls (zI x :: zO (some a) :: st) A K = zX d 168 45 ls (zL ((la A a).getD x.toNat 0) :: st) A K := zx_lald z168 dX4_findComponents_44 rfl h h0 h1
theorem s168_45 : zX d 168 45 ls st A K = zX d 168 49 ls st A K := zx_goto z168 dX4_findComponents_45 rfl
theorem s168_48 : zX d 168 48 ls st A K = zX d 168 49 ls (zL 0 :: st) A K := zx_lconst z168 dX4_findComponents_48 rfl
theorem s168_49 (h : tg A a = 23) (h0 : 0 ≤ x) (h1 : x.toNat < (la A a).length) : zX d 168 49 ls (zL y :: zI x :: zO (some a) :: st) A K = zX d 168 50 ls st (pL A a ((la A a).set x.toNat y)) K := zx_last z168 dX4_findComponents_49 rfl h h0 h1
theorem s168_50 : zX d 168 50 [v0, v1, zI x, v3] st A K = zX d 168 53 [v0, v1, zI (zw (x + 1)), v3] st A K := zx_iinc z168 dX4_findComponents_50 rfl rfl rfl
theorem s168_53 : zX d 168 53 ls st A K = zX d 168 12 ls st A K := zx_goto z168 dX4_findComponents_53 rfl
theorem s168_56 : zX d 168 56 ls st A K = zX d 168 57 ls (zI 0 :: st) A K := zx_const z168 dX4_findComponents_56 (by decide) rfl
theorem s168_57 : zX d 168 57 [v0, v1, v2, v3] (zI x :: st) A K = zX d 168 58 [v0, v1, zI x, v3] st A K := zx_istore_n z168 dX4_findComponents_57 (Nat.le_of_ble_eq_true rfl) rfl rfl
theorem s168_58 : zX d 168 58 [v0, v1, zI x, v3] st A K = zX d 168 59 [v0, v1, zI x, v3] (zI x :: st) A K := zx_iload_n z168 dX4_findComponents_58 rfl rfl
theorem s168_59 : zX d 168 59 [zO o, v1, v2, v3] st A K = zX d 168 60 [zO o, v1, v2, v3] (zO o :: st) A K := zx_aload_n z168 dX4_findComponents_59 rfl rfl
theorem s168_60 (h : tg A a = 9) : zX d 168 60 ls (zO (some a) :: st) A K = zX d 168 63 ls (fd A a 23 :: st) A K := zx_getf z168 zo168 dX4_findComponents_60 F10_211 rfl h
theorem s168_63 : zX d 168 63 ls (zI y :: zI x :: st) A K = (if y ≤ x then zX d 168 104 ls st A K else zX d 168 66 ls st A K) := zx_ic_ge z168 dX4_findComponents_63 rfl rfl
theorem s168_66 : zX d 168 66 [zO o, v1, v2, v3] st A K = zX d 168 67 [zO o, v1, v2, v3] (zO o :: st) A K := zx_aload_n z168 dX4_findComponents_66 rfl rfl
theorem s168_67 (h : tg A a = 9) : zX d 168 67 ls (zO (some a) :: st) A K = zX d 168 70 ls (fd A a 21 :: st) A K := zx_getf z168 zo168 dX4_findComponents_67 F10_59 rfl h
theorem s168_70 : zX d 168 70 [v0, v1, zI x, v3] st A K = zX d 168 71 [v0, v1, zI x, v3] (zI x :: st) A K := zx_iload_n z168 dX4_findComponents_70 rfl rfl
theorem s168_71 (h : tg A a = 21) (h0 : 0 ≤ x) (h1 : x.toNat < (ia A a).length) : zX d 168 71 ls (zI x :: zO (some a) :: st) A K = zX d 168 72 ls (zI ((ia A a).getD x.toNat 0) :: st) A K := zx_bald z168 dX4_findComponents_71 rfl h h0 h1
theorem s168_71z (h : tg A a = 22) (h0 : 0 ≤ x) (h1 : x.toNat < (ia A a).length) : zX d 168 71 ls (zI x :: zO (some a) :: st) A K = zX d 168 72 ls (zI ((ia A a).getD x.toNat 0) :: st) A K := zx_zald z168 dX4_findComponents_71 rfl h h0 h1
theorem s168_72 : zX d 168 72 ls (zI x :: st) A K = (if x ≠ 0 then zX d 168 98 ls st A K else zX d 168 75 ls st A K) := zx_if_ne z168 dX4_findComponents_72 rfl rfl
theorem s168_75 : zX d 168 75 [zO o, v1, v2, v3] st A K = zX d 168 76 [zO o, v1, v2, v3] (zO o :: st) A K := zx_aload_n z168 dX4_findComponents_75 rfl rfl
theorem s168_76 (h : tg A a = 9) : zX d 168 76 ls (zO (some a) :: st) A K = zX d 168 79 ls (fd A a 20 :: st) A K := zx_getf z168 zo168 dX4_findComponents_76 F10_56 rfl h
theorem s168_79 : zX d 168 79 ls st A K = zX d 168 80 ls (zI 4 :: st) A K := zx_const z168 dX4_findComponents_79 (by decide) rfl
theorem s168_80 : zX d 168 80 [v0, zI x, v2, v3] st A K = zX d 168 81 [v0, zI x, v2, v3] (zI x :: st) A K := zx_iload_n z168 dX4_findComponents_80 rfl rfl
theorem s168_81 : zX d 168 81 ls (zI y :: zI x :: st) A K = zX d 168 82 ls (zI (zw (x * y)) :: st) A K := zx_imul z168 dX4_findComponents_81 rfl
theorem s168_82 : zX d 168 82 [v0, v1, zI x, v3] st A K = zX d 168 83 [v0, v1, zI x, v3] (zI x :: st) A K := zx_iload_n z168 dX4_findComponents_82 rfl rfl
theorem s168_83 : zX d 168 83 ls st A K = zX d 168 85 ls (zI (64) :: st) A K := zx_bipush z168 dX4_findComponents_83 (by decide) rfl
theorem s168_85 (h : y ≠ 0) : zX d 168 85 ls (zI y :: zI x :: st) A K = zX d 168 86 ls (zI (Int32.ofInt x / Int32.ofInt y).toInt :: st) A K := zx_idiv z168 dX4_findComponents_85 rfl h
theorem s168_86 : zX d 168 86 ls (zI y :: zI x :: st) A K = zX d 168 87 ls (zI (zw (x + y)) :: st) A K := zx_iadd z168 dX4_findComponents_86 rfl
theorem s168_87 (h : zc v = true) (h2 : zc u = true) : zX d 168 87 ls (v :: u :: st) A K = zX d 168 88 ls (v :: u :: v :: u :: st) A K := zx_dup2 z168 dX4_findComponents_87 rfl h h2
theorem s168_88 (h : tg A a = 23) (h0 : 0 ≤ x) (h1 : x.toNat < (la A a).length) : zX d 168 88 ls (zI x :: zO (some a) :: st) A K = zX d 168 89 ls (zL ((la A a).getD x.toNat 0) :: st) A K := zx_lald z168 dX4_findComponents_88 rfl h h0 h1
theorem s168_89 : zX d 168 89 ls st A K = zX d 168 90 ls (zL 1 :: st) A K := zx_lconst z168 dX4_findComponents_89 rfl
theorem s168_90 : zX d 168 90 [v0, v1, zI x, v3] st A K = zX d 168 91 [v0, v1, zI x, v3] (zI x :: st) A K := zx_iload_n z168 dX4_findComponents_90 rfl rfl
theorem s168_91 : zX d 168 91 ls (zI y :: zL x :: st) A K = zX d 168 92 ls (zL (Int64.ofInt x <<< ((Int32.ofInt y).toInt64 &&& 63)).toInt :: st) A K := zx_lshl z168 dX4_findComponents_91 rfl
theorem s168_92 : zX d 168 92 ls st A K = zX d 168 95 ls (zL (-1) :: st) A K := zx_ldc2 z168 zo168 dX4_findComponents_92 rfl rfl
theorem s168_95 : zX d 168 95 ls (zL y :: zL x :: st) A K = zX d 168 96 ls (zL (Int64.ofInt x ^^^ Int64.ofInt y).toInt :: st) A K := zx_lxor z168 dX4_findComponents_95 rfl
theorem s168_96 : zX d 168 96 ls (zL y :: zL x :: st) A K = zX d 168 97 ls (zL (Int64.ofInt x &&& Int64.ofInt y).toInt :: st) A K := zx_land z168 dX4_findComponents_96 rfl
theorem s168_97 (h : tg A a = 23) (h0 : 0 ≤ x) (h1 : x.toNat < (la A a).length) : zX d 168 97 ls (zL y :: zI x :: zO (some a) :: st) A K = zX d 168 98 ls st (pL A a ((la A a).set x.toNat y)) K := zx_last z168 dX4_findComponents_97 rfl h h0 h1
theorem s168_98 : zX d 168 98 [v0, v1, zI x, v3] st A K = zX d 168 101 [v0, v1, zI (zw (x + 1)), v3] st A K := zx_iinc z168 dX4_findComponents_98 rfl rfl rfl
theorem s168_101 : zX d 168 101 ls st A K = zX d 168 58 ls st A K := zx_goto z168 dX4_findComponents_101 rfl
theorem s168_104 : zX d 168 104 [v0, zI x, v2, v3] st A K = zX d 168 107 [v0, zI (zw (x + 1)), v2, v3] st A K := zx_iinc z168 dX4_findComponents_104 rfl rfl rfl
theorem s168_107 : zX d 168 107 ls st A K = zX d 168 2 ls st A K := zx_goto z168 dX4_findComponents_107 rfl
theorem s168_110 : zX d 168 110 ls st A K = zX d 168 111 ls (zI 0 :: st) A K := zx_const z168 dX4_findComponents_110 (by decide) rfl
theorem s168_111 : zX d 168 111 [v0, v1, v2, v3] (zI x :: st) A K = zX d 168 112 [v0, zI x, v2, v3] st A K := zx_istore_n z168 dX4_findComponents_111 (Nat.le_of_ble_eq_true rfl) rfl rfl
theorem s168_112 : zX d 168 112 [v0, zI x, v2, v3] st A K = zX d 168 113 [v0, zI x, v2, v3] (zI x :: st) A K := zx_iload_n z168 dX4_findComponents_112 rfl rfl
theorem s168_113 : zX d 168 113 [zO o, v1, v2, v3] st A K = zX d 168 114 [zO o, v1, v2, v3] (zO o :: st) A K := zx_aload_n z168 dX4_findComponents_113 rfl rfl
theorem s168_114 (h : tg A a = 9) : zX d 168 114 ls (zO (some a) :: st) A K = zX d 168 117 ls (fd A a 23 :: st) A K := zx_getf z168 zo168 dX4_findComponents_114 F10_211 rfl h
theorem s168_117 : zX d 168 117 ls (zI y :: zI x :: st) A K = (if y ≤ x then zX d 168 190 ls st A K else zX d 168 120 ls st A K) := zx_ic_ge z168 dX4_findComponents_117 rfl rfl
theorem s168_120 : zX d 168 120 ls st A K = zX d 168 121 ls (zI 0 :: st) A K := zx_const z168 dX4_findComponents_120 (by decide) rfl
theorem s168_121 : zX d 168 121 [v0, v1, v2, v3] (zI x :: st) A K = zX d 168 122 [v0, v1, zI x, v3] st A K := zx_istore_n z168 dX4_findComponents_121 (Nat.le_of_ble_eq_true rfl) rfl rfl
theorem s168_122 : zX d 168 122 [v0, v1, zI x, v3] st A K = zX d 168 123 [v0, v1, zI x, v3] (zI x :: st) A K := zx_iload_n z168 dX4_findComponents_122 rfl rfl
theorem s168_123 : zX d 168 123 [zO o, v1, v2, v3] st A K = zX d 168 124 [zO o, v1, v2, v3] (zO o :: st) A K := zx_aload_n z168 dX4_findComponents_123 rfl rfl
theorem s168_124 (h : tg A a = 9) : zX d 168 124 ls (zO (some a) :: st) A K = zX d 168 127 ls (fd A a 23 :: st) A K := zx_getf z168 zo168 dX4_findComponents_124 F10_211 rfl h
theorem s168_127 : zX d 168 127 ls (zI y :: zI x :: st) A K = (if y ≤ x then zX d 168 184 ls st A K else zX d 168 130 ls st A K) := zx_ic_ge z168 dX4_findComponents_127 rfl rfl
theorem s168_130 : zX d 168 130 [zO o, v1, v2, v3] st A K = zX d 168 131 [zO o, v1, v2, v3] (zO o :: st) A K := zx_aload_n z168 dX4_findComponents_130 rfl rfl
theorem s168_131 (h : tg A a = 9) : zX d 168 131 ls (zO (some a) :: st) A K = zX d 168 134 ls (fd A a 20 :: st) A K := zx_getf z168 zo168 dX4_findComponents_131 F10_56 rfl h
theorem s168_134 : zX d 168 134 [v0, v1, zI x, v3] st A K = zX d 168 135 [v0, v1, zI x, v3] (zI x :: st) A K := zx_iload_n z168 dX4_findComponents_134 rfl rfl
theorem s168_135 : zX d 168 135 [v0, zI x, v2, v3] st A K = zX d 168 136 [v0, zI x, v2, v3] (zI x :: st) A K := zx_iload_n z168 dX4_findComponents_135 rfl rfl
theorem s168_136 : zX (d + 1) 168 136 ls (zI i2 :: zI i1 :: zO o0 :: []) A K = zX d 169 0 [zO o0, zI i1, zI i2] [] A (zK (d + 1) 168 136 139 ls [] K) := zx_callS z168 zo168 dX4_findComponents_136 rfl C10_216 rfl rfl zm169 rfl rfl (zwt_le (Nat.le_of_ble_eq_true rfl)) rfl
theorem s168_139 : zX d 168 139 ls (zI x :: st) A K = (if x = 0 then zX d 168 178 ls st A K else zX d 168 142 ls st A K) := zx_if_eq z168 dX4_findComponents_139 rfl rfl
theorem s168_142 : zX d 168 142 ls st A K = zX d 168 143 ls (zI 0 :: st) A K := zx_const z168 dX4_findComponents_142 (by decide) rfl
theorem s168_143 : zX d 168 143 [v0, v1, v2, v3] (zI x :: st) A K = zX d 168 144 [v0, v1, v2, zI x] st A K := zx_istore_n z168 dX4_findComponents_143 (Nat.le_of_ble_eq_true rfl) rfl rfl
theorem s168_144 : zX d 168 144 [v0, v1, v2, zI x] st A K = zX d 168 145 [v0, v1, v2, zI x] (zI x :: st) A K := zx_iload_n z168 dX4_findComponents_144 rfl rfl
theorem s168_145 : zX d 168 145 ls st A K = zX d 168 146 ls (zI 4 :: st) A K := zx_const z168 dX4_findComponents_145 (by decide) rfl
theorem s168_146 : zX d 168 146 ls (zI y :: zI x :: st) A K = (if y ≤ x then zX d 168 178 ls st A K else zX d 168 149 ls st A K) := zx_ic_ge z168 dX4_findComponents_146 rfl rfl
theorem s168_149 : zX d 168 149 [zO o, v1, v2, v3] st A K = zX d 168 150 [zO o, v1, v2, v3] (zO o :: st) A K := zx_aload_n z168 dX4_findComponents_149 rfl rfl
theorem s168_150 (h : tg A a = 9) : zX d 168 150 ls (zO (some a) :: st) A K = zX d 168 153 ls (fd A a 20 :: st) A K := zx_getf z168 zo168 dX4_findComponents_150 F10_56 rfl h
theorem s168_153 : zX d 168 153 ls st A K = zX d 168 154 ls (zI 4 :: st) A K := zx_const z168 dX4_findComponents_153 (by decide) rfl
theorem s168_154 : zX d 168 154 [v0, v1, zI x, v3] st A K = zX d 168 155 [v0, v1, zI x, v3] (zI x :: st) A K := zx_iload_n z168 dX4_findComponents_154 rfl rfl
theorem s168_155 : zX d 168 155 ls (zI y :: zI x :: st) A K = zX d 168 156 ls (zI (zw (x * y)) :: st) A K := zx_imul z168 dX4_findComponents_155 rfl
theorem s168_156 : zX d 168 156 [v0, v1, v2, zI x] st A K = zX d 168 157 [v0, v1, v2, zI x] (zI x :: st) A K := zx_iload_n z168 dX4_findComponents_156 rfl rfl
theorem s168_157 : zX d 168 157 ls (zI y :: zI x :: st) A K = zX d 168 158 ls (zI (zw (x + y)) :: st) A K := zx_iadd z168 dX4_findComponents_157 rfl
theorem s168_158 (h : zc v = true) (h2 : zc u = true) : zX d 168 158 ls (v :: u :: st) A K = zX d 168 159 ls (v :: u :: v :: u :: st) A K := zx_dup2 z168 dX4_findComponents_158 rfl h h2
theorem s168_159 (h : tg A a = 23) (h0 : 0 ≤ x) (h1 : x.toNat < (la A a).length) : zX d 168 159 ls (zI x :: zO (some a) :: st) A K = zX d 168 160 ls (zL ((la A a).getD x.toNat 0) :: st) A K := zx_lald z168 dX4_findComponents_159 rfl h h0 h1
theorem s168_160 : zX d 168 160 [zO o, v1, v2, v3] st A K = zX d 168 161 [zO o, v1, v2, v3] (zO o :: st) A K := zx_aload_n z168 dX4_findComponents_160 rfl rfl
theorem s168_161 (h : tg A a = 9) : zX d 168 161 ls (zO (some a) :: st) A K = zX d 168 164 ls (fd A a 20 :: st) A K := zx_getf z168 zo168 dX4_findComponents_161 F10_56 rfl h
theorem s168_164 : zX d 168 164 ls st A K = zX d 168 165 ls (zI 4 :: st) A K := zx_const z168 dX4_findComponents_164 (by decide) rfl
theorem s168_165 : zX d 168 165 [v0, zI x, v2, v3] st A K = zX d 168 166 [v0, zI x, v2, v3] (zI x :: st) A K := zx_iload_n z168 dX4_findComponents_165 rfl rfl
theorem s168_166 : zX d 168 166 ls (zI y :: zI x :: st) A K = zX d 168 167 ls (zI (zw (x * y)) :: st) A K := zx_imul z168 dX4_findComponents_166 rfl
theorem s168_167 : zX d 168 167 [v0, v1, v2, zI x] st A K = zX d 168 168 [v0, v1, v2, zI x] (zI x :: st) A K := zx_iload_n z168 dX4_findComponents_167 rfl rfl
theorem s168_168 : zX d 168 168 ls (zI y :: zI x :: st) A K = zX d 168 169 ls (zI (zw (x + y)) :: st) A K := zx_iadd z168 dX4_findComponents_168 rfl
theorem s168_169 (h : tg A a = 23) (h0 : 0 ≤ x) (h1 : x.toNat < (la A a).length) : zX d 168 169 ls (zI x :: zO (some a) :: st) A K = zX d 168 170 ls (zL ((la A a).getD x.toNat 0) :: st) A K := zx_lald z168 dX4_findComponents_169 rfl h h0 h1
theorem s168_170 : zX d 168 170 ls (zL y :: zL x :: st) A K = zX d 168 171 ls (zL (Int64.ofInt x ||| Int64.ofInt y).toInt :: st) A K := zx_lor z168 dX4_findComponents_170 rfl
theorem s168_171 (h : tg A a = 23) (h0 : 0 ≤ x) (h1 : x.toNat < (la A a).length) : zX d 168 171 ls (zL y :: zI x :: zO (some a) :: st) A K = zX d 168 172 ls st (pL A a ((la A a).set x.toNat y)) K := zx_last z168 dX4_findComponents_171 rfl h h0 h1
theorem s168_172 : zX d 168 172 [v0, v1, v2, zI x] st A K = zX d 168 175 [v0, v1, v2, zI (zw (x + 1))] st A K := zx_iinc z168 dX4_findComponents_172 rfl rfl rfl
theorem s168_175 : zX d 168 175 ls st A K = zX d 168 144 ls st A K := zx_goto z168 dX4_findComponents_175 rfl
theorem s168_178 : zX d 168 178 [v0, v1, zI x, v3] st A K = zX d 168 181 [v0, v1, zI (zw (x + 1)), v3] st A K := zx_iinc z168 dX4_findComponents_178 rfl rfl rfl
theorem s168_181 : zX d 168 181 ls st A K = zX d 168 122 ls st A K := zx_goto z168 dX4_findComponents_181 rfl
theorem s168_184 : zX d 168 184 [v0, zI x, v2, v3] st A K = zX d 168 187 [v0, zI (zw (x + 1)), v2, v3] st A K := zx_iinc z168 dX4_findComponents_184 rfl rfl rfl
theorem s168_187 : zX d 168 187 ls st A K = zX d 168 112 ls st A K := zx_goto z168 dX4_findComponents_187 rfl
theorem s168_190 : zX d 168 190 [zO o, v1, v2, v3] st A K = zX d 168 191 [zO o, v1, v2, v3] (zO o :: st) A K := zx_aload_n z168 dX4_findComponents_190 rfl rfl
theorem s168_191 : zX d 168 191 ls st A K = zX d 168 192 ls (zI 0 :: st) A K := zx_const z168 dX4_findComponents_191 (by decide) rfl
theorem s168_192 (h : tg A a = 9) : zX d 168 192 ls (zI x :: zO (some a) :: st) A K = zX d 168 195 ls st (pF A a 24 (zI x)) K := zx_putf (q := 0) z168 zo168 dX4_findComponents_192 F10_220 rfl rfl rfl h rfl
theorem s168_195 : zX d 168 195 ls st A K = zX d 168 196 ls (zI 0 :: st) A K := zx_const z168 dX4_findComponents_195 (by decide) rfl
theorem s168_196 : zX d 168 196 [v0, v1, v2, v3] (zI x :: st) A K = zX d 168 197 [v0, zI x, v2, v3] st A K := zx_istore_n z168 dX4_findComponents_196 (Nat.le_of_ble_eq_true rfl) rfl rfl
theorem s168_197 : zX d 168 197 [v0, zI x, v2, v3] st A K = zX d 168 198 [v0, zI x, v2, v3] (zI x :: st) A K := zx_iload_n z168 dX4_findComponents_197 rfl rfl
theorem s168_198 : zX d 168 198 [zO o, v1, v2, v3] st A K = zX d 168 199 [zO o, v1, v2, v3] (zO o :: st) A K := zx_aload_n z168 dX4_findComponents_198 rfl rfl
theorem s168_199 (h : tg A a = 9) : zX d 168 199 ls (zO (some a) :: st) A K = zX d 168 202 ls (fd A a 23 :: st) A K := zx_getf z168 zo168 dX4_findComponents_199 F10_211 rfl h
theorem s168_202 : zX d 168 202 ls (zI y :: zI x :: st) A K = (if y ≤ x then zX d 168 219 ls st A K else zX d 168 205 ls st A K) := zx_ic_ge z168 dX4_findComponents_202 rfl rfl
theorem s168_205 : zX d 168 205 [zO o, v1, v2, v3] st A K = zX d 168 206 [zO o, v1, v2, v3] (zO o :: st) A K := zx_aload_n z168 dX4_findComponents_205 rfl rfl
theorem s168_206 (h : tg A a = 9) : zX d 168 206 ls (zO (some a) :: st) A K = zX d 168 209 ls (fd A a 22 :: st) A K := zx_getf z168 zo168 dX4_findComponents_206 F10_63 rfl h
theorem s168_209 : zX d 168 209 [v0, zI x, v2, v3] st A K = zX d 168 210 [v0, zI x, v2, v3] (zI x :: st) A K := zx_iload_n z168 dX4_findComponents_209 rfl rfl
theorem s168_210 : zX d 168 210 ls st A K = zX d 168 212 ls (zI (-5) :: st) A K := zx_bipush z168 dX4_findComponents_210 (by decide) rfl
theorem s168_212 (h : tg A a = 20) (h0 : 0 ≤ x) (h1 : x.toNat < (ia A a).length) : zX d 168 212 ls (zI y :: zI x :: zO (some a) :: st) A K = zX d 168 213 ls st (pI A a ((ia A a).set x.toNat y)) K := zx_iast z168 dX4_findComponents_212 rfl h h0 h1
theorem s168_213 : zX d 168 213 [v0, zI x, v2, v3] st A K = zX d 168 216 [v0, zI (zw (x + 1)), v2, v3] st A K := zx_iinc z168 dX4_findComponents_213 rfl rfl rfl
theorem s168_216 : zX d 168 216 ls st A K = zX d 168 197 ls st A K := zx_goto z168 dX4_findComponents_216 rfl
theorem s168_219 : zX d 168 219 ls st A K = zX d 168 220 ls (zI 0 :: st) A K := zx_const z168 dX4_findComponents_219 (by decide) rfl
theorem s168_220 : zX d 168 220 [v0, v1, v2, v3] (zI x :: st) A K = zX d 168 221 [v0, zI x, v2, v3] st A K := zx_istore_n z168 dX4_findComponents_220 (Nat.le_of_ble_eq_true rfl) rfl rfl
theorem s168_221 : zX d 168 221 [v0, zI x, v2, v3] st A K = zX d 168 222 [v0, zI x, v2, v3] (zI x :: st) A K := zx_iload_n z168 dX4_findComponents_221 rfl rfl
theorem s168_222 : zX d 168 222 [zO o, v1, v2, v3] st A K = zX d 168 223 [zO o, v1, v2, v3] (zO o :: st) A K := zx_aload_n z168 dX4_findComponents_222 rfl rfl
theorem s168_223 (h : tg A a = 9) : zX d 168 223 ls (zO (some a) :: st) A K = zX d 168 226 ls (fd A a 23 :: st) A K := zx_getf z168 zo168 dX4_findComponents_223 F10_211 rfl h
theorem s168_226 : zX d 168 226 ls (zI y :: zI x :: st) A K = (if y ≤ x then zX d 168 321 ls st A K else zX d 168 229 ls st A K) := zx_ic_ge z168 dX4_findComponents_226 rfl rfl
theorem s168_229 : zX d 168 229 [zO o, v1, v2, v3] st A K = zX d 168 230 [zO o, v1, v2, v3] (zO o :: st) A K := zx_aload_n z168 dX4_findComponents_229 rfl rfl
theorem s168_230 (h : tg A a = 9) : zX d 168 230 ls (zO (some a) :: st) A K = zX d 168 233 ls (fd A a 22 :: st) A K := zx_getf z168 zo168 dX4_findComponents_230 F10_63 rfl h
theorem s168_233 : zX d 168 233 [v0, zI x, v2, v3] st A K = zX d 168 234 [v0, zI x, v2, v3] (zI x :: st) A K := zx_iload_n z168 dX4_findComponents_233 rfl rfl
theorem s168_234 (h : tg A a = 20) (h0 : 0 ≤ x) (h1 : x.toNat < (ia A a).length) : zX d 168 234 ls (zI x :: zO (some a) :: st) A K = zX d 168 235 ls (zI ((ia A a).getD x.toNat 0) :: st) A K := zx_iald z168 dX4_findComponents_234 rfl h h0 h1
theorem s168_234s (h : tg A a = 30) (h0 : 0 ≤ x) (h1 : x.toNat < (ia A a).length) : zX d 168 234 ls (zI x :: zO (some a) :: st) A K = zX d 168 235 ls (zI ((ia A a).getD x.toNat 0) :: st) A K := zx_sald z168 dX4_findComponents_234 rfl h h0 h1
theorem s168_235 : zX d 168 235 ls st A K = zX d 168 237 ls (zI (-5) :: st) A K := zx_bipush z168 dX4_findComponents_235 (by decide) rfl
theorem s168_237 : zX d 168 237 ls (zI y :: zI x :: st) A K = (if x ≠ y then zX d 168 315 ls st A K else zX d 168 240 ls st A K) := zx_ic_ne z168 dX4_findComponents_237 rfl rfl
theorem s168_240 : zX d 168 240 [zO o, v1, v2, v3] st A K = zX d 168 241 [zO o, v1, v2, v3] (zO o :: st) A K := zx_aload_n z168 dX4_findComponents_240 rfl rfl
theorem s168_241 (h : tg A a = 9) : zX d 168 241 ls (zO (some a) :: st) A K = zX d 168 244 ls (fd A a 20 :: st) A K := zx_getf z168 zo168 dX4_findComponents_241 F10_56 rfl h
theorem s168_244 : zX d 168 244 [v0, zI x, v2, v3] st A K = zX d 168 245 [v0, zI x, v2, v3] (zI x :: st) A K := zx_iload_n z168 dX4_findComponents_244 rfl rfl
theorem s168_245 : zX d 168 245 [v0, zI x, v2, v3] st A K = zX d 168 246 [v0, zI x, v2, v3] (zI x :: st) A K := zx_iload_n z168 dX4_findComponents_245 rfl rfl
theorem s168_246 : zX (d + 1) 168 246 ls (zI i2 :: zI i1 :: zO o0 :: []) A K = zX d 169 0 [zO o0, zI i1, zI i2] [] A (zK (d + 1) 168 246 249 ls [] K) := zx_callS z168 zo168 dX4_findComponents_246 rfl C10_216 rfl rfl zm169 rfl rfl (zwt_le (Nat.le_of_ble_eq_true rfl)) rfl
theorem s168_249 : zX d 168 249 ls (zI x :: st) A K = (if x ≠ 0 then zX d 168 255 ls st A K else zX d 168 252 ls st A K) := zx_if_ne z168 dX4_findComponents_249 rfl rfl
theorem s168_252 : zX d 168 252 ls st A K = zX d 168 315 ls st A K := zx_goto z168 dX4_findComponents_252 rfl
theorem s168_255 : zX d 168 255 [v0, zI x, v2, v3] st A K = zX d 168 256 [v0, zI x, v2, v3] (zI x :: st) A K := zx_iload_n z168 dX4_findComponents_255 rfl rfl
theorem s168_256 : zX d 168 256 [v0, v1, v2, v3] (zI x :: st) A K = zX d 168 257 [v0, v1, zI x, v3] st A K := zx_istore_n z168 dX4_findComponents_256 (Nat.le_of_ble_eq_true rfl) rfl rfl
theorem s168_257 : zX d 168 257 [v0, v1, zI x, v3] st A K = zX d 168 258 [v0, v1, zI x, v3] (zI x :: st) A K := zx_iload_n z168 dX4_findComponents_257 rfl rfl
theorem s168_258 : zX d 168 258 [zO o, v1, v2, v3] st A K = zX d 168 259 [zO o, v1, v2, v3] (zO o :: st) A K := zx_aload_n z168 dX4_findComponents_258 rfl rfl
theorem s168_259 (h : tg A a = 9) : zX d 168 259 ls (zO (some a) :: st) A K = zX d 168 262 ls (fd A a 23 :: st) A K := zx_getf z168 zo168 dX4_findComponents_259 F10_211 rfl h
theorem s168_262 : zX d 168 262 ls (zI y :: zI x :: st) A K = (if y ≤ x then zX d 168 305 ls st A K else zX d 168 265 ls st A K) := zx_ic_ge z168 dX4_findComponents_262 rfl rfl
theorem s168_265 : zX d 168 265 [zO o, v1, v2, v3] st A K = zX d 168 266 [zO o, v1, v2, v3] (zO o :: st) A K := zx_aload_n z168 dX4_findComponents_265 rfl rfl
theorem s168_266 (h : tg A a = 9) : zX d 168 266 ls (zO (some a) :: st) A K = zX d 168 269 ls (fd A a 20 :: st) A K := zx_getf z168 zo168 dX4_findComponents_266 F10_56 rfl h
theorem s168_269 : zX d 168 269 [v0, zI x, v2, v3] st A K = zX d 168 270 [v0, zI x, v2, v3] (zI x :: st) A K := zx_iload_n z168 dX4_findComponents_269 rfl rfl
theorem s168_270 : zX d 168 270 [v0, v1, zI x, v3] st A K = zX d 168 271 [v0, v1, zI x, v3] (zI x :: st) A K := zx_iload_n z168 dX4_findComponents_270 rfl rfl
theorem s168_271 : zX (d + 1) 168 271 ls (zI i2 :: zI i1 :: zO o0 :: []) A K = zX d 169 0 [zO o0, zI i1, zI i2] [] A (zK (d + 1) 168 271 274 ls [] K) := zx_callS z168 zo168 dX4_findComponents_271 rfl C10_216 rfl rfl zm169 rfl rfl (zwt_le (Nat.le_of_ble_eq_true rfl)) rfl
theorem s168_274 : zX d 168 274 ls (zI x :: st) A K = (if x = 0 then zX d 168 299 ls st A K else zX d 168 277 ls st A K) := zx_if_eq z168 dX4_findComponents_274 rfl rfl
theorem s168_277 : zX d 168 277 [zO o, v1, v2, v3] st A K = zX d 168 278 [zO o, v1, v2, v3] (zO o :: st) A K := zx_aload_n z168 dX4_findComponents_277 rfl rfl
theorem s168_278 (h : tg A a = 9) : zX d 168 278 ls (zO (some a) :: st) A K = zX d 168 281 ls (fd A a 20 :: st) A K := zx_getf z168 zo168 dX4_findComponents_278 F10_56 rfl h
theorem s168_281 : zX d 168 281 [v0, v1, zI x, v3] st A K = zX d 168 282 [v0, v1, zI x, v3] (zI x :: st) A K := zx_iload_n z168 dX4_findComponents_281 rfl rfl
theorem s168_282 : zX d 168 282 [v0, zI x, v2, v3] st A K = zX d 168 283 [v0, zI x, v2, v3] (zI x :: st) A K := zx_iload_n z168 dX4_findComponents_282 rfl rfl
theorem s168_283 : zX (d + 1) 168 283 ls (zI i2 :: zI i1 :: zO o0 :: []) A K = zX d 169 0 [zO o0, zI i1, zI i2] [] A (zK (d + 1) 168 283 286 ls [] K) := zx_callS z168 zo168 dX4_findComponents_283 rfl C10_216 rfl rfl zm169 rfl rfl (zwt_le (Nat.le_of_ble_eq_true rfl)) rfl
theorem s168_286 : zX d 168 286 ls (zI x :: st) A K = (if x = 0 then zX d 168 299 ls st A K else zX d 168 289 ls st A K) := zx_if_eq z168 dX4_findComponents_286 rfl rfl
theorem s168_289 : zX d 168 289 [zO o, v1, v2, v3] st A K = zX d 168 290 [zO o, v1, v2, v3] (zO o :: st) A K := zx_aload_n z168 dX4_findComponents_289 rfl rfl
theorem s168_290 (h : tg A a = 9) : zX d 168 290 ls (zO (some a) :: st) A K = zX d 168 293 ls (fd A a 22 :: st) A K := zx_getf z168 zo168 dX4_findComponents_290 F10_63 rfl h
theorem s168_293 : zX d 168 293 [v0, v1, zI x, v3] st A K = zX d 168 294 [v0, v1, zI x, v3] (zI x :: st) A K := zx_iload_n z168 dX4_findComponents_293 rfl rfl
theorem s168_294 : zX d 168 294 [zO o, v1, v2, v3] st A K = zX d 168 295 [zO o, v1, v2, v3] (zO o :: st) A K := zx_aload_n z168 dX4_findComponents_294 rfl rfl
theorem s168_295 (h : tg A a = 9) : zX d 168 295 ls (zO (some a) :: st) A K = zX d 168 298 ls (fd A a 24 :: st) A K := zx_getf z168 zo168 dX4_findComponents_295 F10_220 rfl h
theorem s168_298 (h : tg A a = 20) (h0 : 0 ≤ x) (h1 : x.toNat < (ia A a).length) : zX d 168 298 ls (zI y :: zI x :: zO (some a) :: st) A K = zX d 168 299 ls st (pI A a ((ia A a).set x.toNat y)) K := zx_iast z168 dX4_findComponents_298 rfl h h0 h1
theorem s168_299 : zX d 168 299 [v0, v1, zI x, v3] st A K = zX d 168 302 [v0, v1, zI (zw (x + 1)), v3] st A K := zx_iinc z168 dX4_findComponents_299 rfl rfl rfl
theorem s168_302 : zX d 168 302 ls st A K = zX d 168 257 ls st A K := zx_goto z168 dX4_findComponents_302 rfl
theorem s168_305 : zX d 168 305 [zO o, v1, v2, v3] st A K = zX d 168 306 [zO o, v1, v2, v3] (zO o :: st) A K := zx_aload_n z168 dX4_findComponents_305 rfl rfl
theorem s168_306 (h : zc v = true) : zX d 168 306 ls (v :: st) A K = zX d 168 307 ls (v :: v :: st) A K := zx_dup z168 dX4_findComponents_306 rfl h
theorem s168_307 (h : tg A a = 9) : zX d 168 307 ls (zO (some a) :: st) A K = zX d 168 310 ls (fd A a 24 :: st) A K := zx_getf z168 zo168 dX4_findComponents_307 F10_220 rfl h
theorem s168_310 : zX d 168 310 ls st A K = zX d 168 311 ls (zI 1 :: st) A K := zx_const z168 dX4_findComponents_310 (by decide) rfl
theorem s168_311 : zX d 168 311 ls (zI y :: zI x :: st) A K = zX d 168 312 ls (zI (zw (x + y)) :: st) A K := zx_iadd z168 dX4_findComponents_311 rfl
theorem s168_312 (h : tg A a = 9) : zX d 168 312 ls (zI x :: zO (some a) :: st) A K = zX d 168 315 ls st (pF A a 24 (zI x)) K := zx_putf (q := 0) z168 zo168 dX4_findComponents_312 F10_220 rfl rfl rfl h rfl
theorem s168_315 : zX d 168 315 [v0, zI x, v2, v3] st A K = zX d 168 318 [v0, zI (zw (x + 1)), v2, v3] st A K := zx_iinc z168 dX4_findComponents_315 rfl rfl rfl
theorem s168_318 : zX d 168 318 ls st A K = zX d 168 221 ls st A K := zx_goto z168 dX4_findComponents_318 rfl
theorem s168_321 : zX d 168 321 ls [] A K = K (Sum.inl none) A := zx_vret z168 dX4_findComponents_321 rfl
theorem s169_0 : zX d 169 0 [zO o, v1, v2] st A K = zX d 169 1 [zO o, v1, v2] (zO o :: st) A K := zx_aload_n z169 dX4_hasBit_0 rfl rfl
theorem s169_1 : zX d 169 1 ls st A K = zX d 169 2 ls (zI 4 :: st) A K := zx_const z169 dX4_hasBit_1 (by decide) rfl
theorem s169_2 : zX d 169 2 [v0, zI x, v2] st A K = zX d 169 3 [v0, zI x, v2] (zI x :: st) A K := zx_iload_n z169 dX4_hasBit_2 rfl rfl
theorem s169_3 : zX d 169 3 ls (zI y :: zI x :: st) A K = zX d 169 4 ls (zI (zw (x * y)) :: st) A K := zx_imul z169 dX4_hasBit_3 rfl
theorem s169_4 : zX d 169 4 [v0, v1, zI x] st A K = zX d 169 5 [v0, v1, zI x] (zI x :: st) A K := zx_iload_n z169 dX4_hasBit_4 rfl rfl
theorem s169_5 : zX d 169 5 ls st A K = zX d 169 7 ls (zI (64) :: st) A K := zx_bipush z169 dX4_hasBit_5 (by decide) rfl
theorem s169_7 (h : y ≠ 0) : zX d 169 7 ls (zI y :: zI x :: st) A K = zX d 169 8 ls (zI (Int32.ofInt x / Int32.ofInt y).toInt :: st) A K := zx_idiv z169 dX4_hasBit_7 rfl h
theorem s169_8 : zX d 169 8 ls (zI y :: zI x :: st) A K = zX d 169 9 ls (zI (zw (x + y)) :: st) A K := zx_iadd z169 dX4_hasBit_8 rfl
theorem s169_9 (h : tg A a = 23) (h0 : 0 ≤ x) (h1 : x.toNat < (la A a).length) : zX d 169 9 ls (zI x :: zO (some a) :: st) A K = zX d 169 10 ls (zL ((la A a).getD x.toNat 0) :: st) A K := zx_lald z169 dX4_hasBit_9 rfl h h0 h1
theorem s169_10 : zX d 169 10 [v0, v1, zI x] st A K = zX d 169 11 [v0, v1, zI x] (zI x :: st) A K := zx_iload_n z169 dX4_hasBit_10 rfl rfl
theorem s169_11 : zX d 169 11 ls (zI y :: zL x :: st) A K = zX d 169 12 ls (zL (Int64.ofInt x >>> ((Int32.ofInt y).toInt64 &&& 63)).toInt :: st) A K := zx_lshr z169 dX4_hasBit_11 rfl
theorem s169_12 : zX d 169 12 ls st A K = zX d 169 13 ls (zL 1 :: st) A K := zx_lconst z169 dX4_hasBit_12 rfl
theorem s169_13 : zX d 169 13 ls (zL y :: zL x :: st) A K = zX d 169 14 ls (zL (Int64.ofInt x &&& Int64.ofInt y).toInt :: st) A K := zx_land z169 dX4_hasBit_13 rfl
theorem s169_14 : zX d 169 14 ls st A K = zX d 169 15 ls (zL 1 :: st) A K := zx_lconst z169 dX4_hasBit_14 rfl
theorem s169_15 : zX d 169 15 ls (zL y :: zL x :: st) A K = zX d 169 16 ls (zI (if x < y then -1 else if x = y then 0 else 1) :: st) A K := zx_lcmp z169 dX4_hasBit_15 rfl
theorem s169_16 : zX d 169 16 ls (zI x :: st) A K = (if x ≠ 0 then zX d 169 23 ls st A K else zX d 169 19 ls st A K) := zx_if_ne z169 dX4_hasBit_16 rfl rfl
theorem s169_19 : zX d 169 19 ls st A K = zX d 169 20 ls (zI 1 :: st) A K := zx_const z169 dX4_hasBit_19 (by decide) rfl
theorem s169_20 : zX d 169 20 ls st A K = zX d 169 24 ls st A K := zx_goto z169 dX4_hasBit_20 rfl
theorem s169_23 : zX d 169 23 ls st A K = zX d 169 24 ls (zI 0 :: st) A K := zx_const z169 dX4_hasBit_23 (by decide) rfl
theorem s169_24 (h : x = 0 ∨ x = 1) : zX d 169 24 ls [zI x] A K = K (Sum.inl (some (zI x))) A := zx_iret z169 dX4_hasBit_24 zk169 (by rcases h with q | q <;> subst q <;> rfl)
theorem s170_0 : zX d 170 0 [zO o, v1] st A K = zX d 170 1 [zO o, v1] (zO o :: st) A K := zx_aload_n z170 dX4_componentOf_0 rfl rfl
theorem s170_1 : zX d 170 1 [v0, zI x] st A K = zX d 170 2 [v0, zI x] (zI x :: st) A K := zx_iload_n z170 dX4_componentOf_1 rfl rfl
theorem s170_2 (h : tg A a = 9)  : zX (d + 1) 170 2 ls (zI i0 :: zO (some a) :: []) A K = zX d 151 0 [zO (some a), zI i0] [] A (zK (d + 1) 170 2 5 ls [] K) := zx_callV (t := 9) z170 zo170 dX4_componentOf_2 rfl C10_188 rfl rfl zm151 rfl rfl (zwt_le (Nat.le_of_ble_eq_true rfl)) rfl h
theorem s170_5 : zX d 170 5 ls (zI x :: st) A K = (if x ≠ 0 then zX d 170 10 ls st A K else zX d 170 8 ls st A K) := zx_if_ne z170 dX4_componentOf_5 rfl rfl
theorem s170_8 : zX d 170 8 ls st A K = zX d 170 9 ls (zI (-1) :: st) A K := zx_const z170 dX4_componentOf_8 (by decide) rfl
theorem s170_9 : zX d 170 9 ls [zI x] A K = K (Sum.inl (some (zI x))) A := zx_iret z170 dX4_componentOf_9 zk170 rfl
theorem s170_10 : zX d 170 10 [zO o, v1] st A K = zX d 170 11 [zO o, v1] (zO o :: st) A K := zx_aload_n z170 dX4_componentOf_10 rfl rfl
theorem s170_11 (h : tg A a = 9)  : zX (d + 1) 170 11 ls (zO (some a) :: []) A K = zX d 167 0 [zO (some a), zU, zU] [] A (zK (d + 1) 170 11 14 ls [] K) := zx_callV (t := 9) z170 zo170 dX4_componentOf_11 rfl C10_223 rfl rfl zm167 rfl rfl (zwt_le (Nat.le_of_ble_eq_true rfl)) rfl h
theorem s170_14 : zX d 170 14 [zO o, v1] st A K = zX d 170 15 [zO o, v1] (zO o :: st) A K := zx_aload_n z170 dX4_componentOf_14 rfl rfl
theorem s170_15 (h : tg A a = 9)  : zX (d + 1) 170 15 ls (zO (some a) :: []) A K = zX d 168 0 [zO (some a), zU, zU, zU] [] A (zK (d + 1) 170 15 18 ls [] K) := zx_callV (t := 9) z170 zo170 dX4_componentOf_15 rfl C10_226 rfl rfl zm168 rfl rfl (zwt_le (Nat.le_of_ble_eq_true rfl)) rfl h
theorem s170_18 : zX d 170 18 [zO o, v1] st A K = zX d 170 19 [zO o, v1] (zO o :: st) A K := zx_aload_n z170 dX4_componentOf_18 rfl rfl
theorem s170_19 (h : tg A a = 9) : zX d 170 19 ls (zO (some a) :: st) A K = zX d 170 22 ls (fd A a 22 :: st) A K := zx_getf z170 zo170 dX4_componentOf_19 F10_63 rfl h
theorem s170_22 : zX d 170 22 [v0, zI x] st A K = zX d 170 23 [v0, zI x] (zI x :: st) A K := zx_iload_n z170 dX4_componentOf_22 rfl rfl
theorem s170_23 (h : tg A a = 20) (h0 : 0 ≤ x) (h1 : x.toNat < (ia A a).length) : zX d 170 23 ls (zI x :: zO (some a) :: st) A K = zX d 170 24 ls (zI ((ia A a).getD x.toNat 0) :: st) A K := zx_iald z170 dX4_componentOf_23 rfl h h0 h1
theorem s170_23s (h : tg A a = 30) (h0 : 0 ≤ x) (h1 : x.toNat < (ia A a).length) : zX d 170 23 ls (zI x :: zO (some a) :: st) A K = zX d 170 24 ls (zI ((ia A a).getD x.toNat 0) :: st) A K := zx_sald z170 dX4_componentOf_23 rfl h h0 h1
theorem s170_24 : zX d 170 24 ls [zI x] A K = K (Sum.inl (some (zI x))) A := zx_iret z170 dX4_componentOf_24 zk170 rfl
theorem s171_0 : zX d 171 0 [zO o, v1, v2, v3] st A K = zX d 171 1 [zO o, v1, v2, v3] (zO o :: st) A K := zx_aload_n z171 dX4_sizeRelation_0 rfl rfl
theorem s171_1 : zX d 171 1 [v0, zI x, v2, v3] st A K = zX d 171 2 [v0, zI x, v2, v3] (zI x :: st) A K := zx_iload_n z171 dX4_sizeRelation_1 rfl rfl
theorem s171_2 (h : tg A a = 9)  : zX (d + 1) 171 2 ls (zI i0 :: zO (some a) :: []) A K = zX d 151 0 [zO (some a), zI i0] [] A (zK (d + 1) 171 2 5 ls [] K) := zx_callV (t := 9) z171 zo171 dX4_sizeRelation_2 rfl C10_188 rfl rfl zm151 rfl rfl (zwt_le (Nat.le_of_ble_eq_true rfl)) rfl h
theorem s171_5 : zX d 171 5 ls (zI x :: st) A K = (if x = 0 then zX d 171 48 ls st A K else zX d 171 8 ls st A K) := zx_if_eq z171 dX4_sizeRelation_5 rfl rfl
theorem s171_8 : zX d 171 8 [v0, v1, zI x, v3] st A K = zX d 171 9 [v0, v1, zI x, v3] (zI x :: st) A K := zx_iload_n z171 dX4_sizeRelation_8 rfl rfl
theorem s171_9 : zX d 171 9 ls st A K = zX d 171 10 ls (zI 0 :: st) A K := zx_const z171 dX4_sizeRelation_9 (by decide) rfl
theorem s171_10 : zX d 171 10 [zO o, v1, v2, v3] st A K = zX d 171 11 [zO o, v1, v2, v3] (zO o :: st) A K := zx_aload_n z171 dX4_sizeRelation_10 rfl rfl
theorem s171_11 (h : tg A a = 9) : zX d 171 11 ls (zO (some a) :: st) A K = zX d 171 14 ls (fd A a 0 :: st) A K := zx_getf z171 zo171 dX4_sizeRelation_11 F10_9 rfl h
theorem s171_14 : zX d 171 14 [zO o, v1, v2, v3] st A K = zX d 171 15 [zO o, v1, v2, v3] (zO o :: st) A K := zx_aload_n z171 dX4_sizeRelation_14 rfl rfl
theorem s171_15 : zX d 171 15 [v0, zI x, v2, v3] st A K = zX d 171 16 [v0, zI x, v2, v3] (zI x :: st) A K := zx_iload_n z171 dX4_sizeRelation_15 rfl rfl
theorem s171_16 (h : tg A a = 9)  : zX (d + 1) 171 16 ls (zI i0 :: zO (some a) :: [w0, w1, w2]) A K = zX d 154 0 [zO (some a), zI i0] [] A (zK (d + 1) 171 16 19 ls [w0, w1, w2] K) := zx_callV (t := 9) z171 zo171 dX4_sizeRelation_16 rfl C10_191 rfl rfl zm154 rfl rfl (zwt_le (Nat.le_of_ble_eq_true rfl)) rfl h
theorem s171_19 (h : tg A a = 20) (h0 : 0 ≤ x) (h1 : x.toNat < (ia A a).length) : zX d 171 19 ls (zI x :: zO (some a) :: st) A K = zX d 171 20 ls (zI ((ia A a).getD x.toNat 0) :: st) A K := zx_iald z171 dX4_sizeRelation_19 rfl h h0 h1
theorem s171_19s (h : tg A a = 30) (h0 : 0 ≤ x) (h1 : x.toNat < (ia A a).length) : zX d 171 19 ls (zI x :: zO (some a) :: st) A K = zX d 171 20 ls (zI ((ia A a).getD x.toNat 0) :: st) A K := zx_sald z171 dX4_sizeRelation_19 rfl h h0 h1
theorem s171_20 : zX d 171 20 ls st A K = zX d 171 21 ls (zI 1 :: st) A K := zx_const z171 dX4_sizeRelation_20 (by decide) rfl
theorem s171_21 : zX d 171 21 ls (zI y :: zI x :: st) A K = zX d 171 22 ls (zI (zw (x - y)) :: st) A K := zx_isub z171 dX4_sizeRelation_21 rfl
theorem s171_22 : zX (d + 1) 171 22 ls (zI i2 :: zI i1 :: zI i0 :: []) A K = zX d 129 0 [zI i0, zI i1, zI i2] [] A (zK (d + 1) 171 22 25 ls [] K) := zx_callS z171 zo171 dX4_sizeRelation_22 rfl C10_105 rfl rfl zm129 rfl rfl (zwt_le (Nat.le_of_ble_eq_true rfl)) rfl
theorem s171_25 : zX d 171 25 ls (zI x :: st) A K = (if x = 0 then zX d 171 48 ls st A K else zX d 171 28 ls st A K) := zx_if_eq z171 dX4_sizeRelation_25 rfl rfl
theorem s171_28 : zX d 171 28 [v0, v1, v2, zI x] st A K = zX d 171 29 [v0, v1, v2, zI x] (zI x :: st) A K := zx_iload_n z171 dX4_sizeRelation_28 rfl rfl
theorem s171_29 : zX d 171 29 ls st A K = zX d 171 30 ls (zI 0 :: st) A K := zx_const z171 dX4_sizeRelation_29 (by decide) rfl
theorem s171_30 : zX d 171 30 [zO o, v1, v2, v3] st A K = zX d 171 31 [zO o, v1, v2, v3] (zO o :: st) A K := zx_aload_n z171 dX4_sizeRelation_30 rfl rfl
theorem s171_31 (h : tg A a = 9) : zX d 171 31 ls (zO (some a) :: st) A K = zX d 171 34 ls (fd A a 0 :: st) A K := zx_getf z171 zo171 dX4_sizeRelation_31 F10_9 rfl h
theorem s171_34 : zX d 171 34 [zO o, v1, v2, v3] st A K = zX d 171 35 [zO o, v1, v2, v3] (zO o :: st) A K := zx_aload_n z171 dX4_sizeRelation_34 rfl rfl
theorem s171_35 : zX d 171 35 [v0, zI x, v2, v3] st A K = zX d 171 36 [v0, zI x, v2, v3] (zI x :: st) A K := zx_iload_n z171 dX4_sizeRelation_35 rfl rfl
theorem s171_36 (h : tg A a = 9)  : zX (d + 1) 171 36 ls (zI i0 :: zO (some a) :: [w0, w1, w2]) A K = zX d 157 0 [zO (some a), zI i0] [] A (zK (d + 1) 171 36 39 ls [w0, w1, w2] K) := zx_callV (t := 9) z171 zo171 dX4_sizeRelation_36 rfl C10_194 rfl rfl zm157 rfl rfl (zwt_le (Nat.le_of_ble_eq_true rfl)) rfl h
theorem s171_39 (h : tg A a = 20) (h0 : 0 ≤ x) (h1 : x.toNat < (ia A a).length) : zX d 171 39 ls (zI x :: zO (some a) :: st) A K = zX d 171 40 ls (zI ((ia A a).getD x.toNat 0) :: st) A K := zx_iald z171 dX4_sizeRelation_39 rfl h h0 h1
theorem s171_39s (h : tg A a = 30) (h0 : 0 ≤ x) (h1 : x.toNat < (ia A a).length) : zX d 171 39 ls (zI x :: zO (some a) :: st) A K = zX d 171 40 ls (zI ((ia A a).getD x.toNat 0) :: st) A K := zx_sald z171 dX4_sizeRelation_39 rfl h h0 h1
theorem s171_40 : zX d 171 40 ls st A K = zX d 171 41 ls (zI 1 :: st) A K := zx_const z171 dX4_sizeRelation_40 (by decide) rfl
theorem s171_41 : zX d 171 41 ls (zI y :: zI x :: st) A K = zX d 171 42 ls (zI (zw (x - y)) :: st) A K := zx_isub z171 dX4_sizeRelation_41 rfl
theorem s171_42 : zX (d + 1) 171 42 ls (zI i2 :: zI i1 :: zI i0 :: []) A K = zX d 129 0 [zI i0, zI i1, zI i2] [] A (zK (d + 1) 171 42 45 ls [] K) := zx_callS z171 zo171 dX4_sizeRelation_42 rfl C10_105 rfl rfl zm129 rfl rfl (zwt_le (Nat.le_of_ble_eq_true rfl)) rfl
theorem s171_45 : zX d 171 45 ls (zI x :: st) A K = (if x ≠ 0 then zX d 171 50 ls st A K else zX d 171 48 ls st A K) := zx_if_ne z171 dX4_sizeRelation_45 rfl rfl
theorem s171_48 : zX d 171 48 ls st A K = zX d 171 49 ls (zI (-1) :: st) A K := zx_const z171 dX4_sizeRelation_48 (by decide) rfl
theorem s171_49 : zX d 171 49 ls [zI x] A K = K (Sum.inl (some (zI x))) A := zx_iret z171 dX4_sizeRelation_49 zk171 rfl
theorem s171_50 : zX d 171 50 [zO o, v1, v2, v3] st A K = zX d 171 51 [zO o, v1, v2, v3] (zO o :: st) A K := zx_aload_n z171 dX4_sizeRelation_50 rfl rfl
theorem s171_51 : zX d 171 51 [v0, zI x, v2, v3] st A K = zX d 171 52 [v0, zI x, v2, v3] (zI x :: st) A K := zx_iload_n z171 dX4_sizeRelation_51 rfl rfl
theorem s171_52 : zX d 171 52 [v0, v1, zI x, v3] st A K = zX d 171 53 [v0, v1, zI x, v3] (zI x :: st) A K := zx_iload_n z171 dX4_sizeRelation_52 rfl rfl
theorem s171_53 : zX d 171 53 [v0, v1, v2, zI x] st A K = zX d 171 54 [v0, v1, v2, zI x] (zI x :: st) A K := zx_iload_n z171 dX4_sizeRelation_53 rfl rfl
theorem s171_54 (h : tg A a = 9)  : zX (d + 1) 171 54 ls (zI i2 :: zI i1 :: zI i0 :: zO (some a) :: []) A K = zX d 172 0 [zO (some a), zI i0, zI i1, zI i2, zU, zU, zU, zU, zU] [] A (zK (d + 1) 171 54 57 ls [] K) := zx_callV (t := 9) z171 zo171 dX4_sizeRelation_54 rfl C10_229 rfl rfl zm172 rfl rfl (zwt_le (Nat.le_of_ble_eq_true rfl)) rfl h
theorem s171_57 : zX d 171 57 ls [zI x] A K = K (Sum.inl (some (zI x))) A := zx_iret z171 dX4_sizeRelation_57 zk171 rfl
theorem s172_0 : zX d 172 0 [zO o, v1, v2, v3, v4, v5, v6, v7, v8] st A K = zX d 172 1 [zO o, v1, v2, v3, v4, v5, v6, v7, v8] (zO o :: st) A K := zx_aload_n z172 dX4_relation_0 rfl rfl
theorem s172_1 : zX d 172 1 [zO o, v1, v2, v3, v4, v5, v6, v7, v8] st A K = zX d 172 2 [zO o, v1, v2, v3, v4, v5, v6, v7, v8] (zO o :: st) A K := zx_aload_n z172 dX4_relation_1 rfl rfl
theorem s172_2 (h : tg A a = 9) : zX d 172 2 ls (zO (some a) :: st) A K = zX d 172 5 ls (fd A a 2 :: st) A K := zx_getf z172 zo172 dX4_relation_2 F10_16 rfl h
theorem s172_5 : zX d 172 5 [zO o, v1, v2, v3, v4, v5, v6, v7, v8] st A K = zX d 172 6 [zO o, v1, v2, v3, v4, v5, v6, v7, v8] (zO o :: st) A K := zx_aload_n z172 dX4_relation_5 rfl rfl
theorem s172_6 : zX d 172 6 [v0, zI x, v2, v3, v4, v5, v6, v7, v8] st A K = zX d 172 7 [v0, zI x, v2, v3, v4, v5, v6, v7, v8] (zI x :: st) A K := zx_iload_n z172 dX4_relation_6 rfl rfl
theorem s172_7 (h : tg A a = 9)  : zX (d + 1) 172 7 ls (zI i0 :: zO (some a) :: [w0, w1]) A K = zX d 155 0 [zO (some a), zI i0] [] A (zK (d + 1) 172 7 10 ls [w0, w1] K) := zx_callV (t := 9) z172 zo172 dX4_relation_7 rfl C10_179 rfl rfl zm155 rfl rfl (zwt_le (Nat.le_of_ble_eq_true rfl)) rfl h
theorem s172_10 : zX d 172 10 [v0, v1, zI x, v3, v4, v5, v6, v7, v8] st A K = zX d 172 11 [v0, v1, zI x, v3, v4, v5, v6, v7, v8] (zI x :: st) A K := zx_iload_n z172 dX4_relation_10 rfl rfl
theorem s172_11 (h : tg A a = 9)  : zX (d + 1) 172 11 ls (zI i2 :: zI i1 :: zO o0 :: zO (some a) :: []) A K = zX d 162 0 [zO (some a), zO o0, zI i1, zI i2, zU, zU] [] A (zK (d + 1) 172 11 14 ls [] K) := zx_callV (t := 9) z172 zo172 dX4_relation_11 rfl C10_201 rfl rfl zm162 rfl rfl (zwt_le (Nat.le_of_ble_eq_true rfl)) rfl h
theorem s172_14 : zX d 172 14 [v0, v1, v2, v3, v4, v5, v6, v7, v8] (zI x :: st) A K = zX d 172 16 [v0, v1, v2, v3, zI x, v5, v6, v7, v8] st A K := zx_istore z172 dX4_relation_14 (Nat.le_of_ble_eq_true rfl) rfl rfl
theorem s172_16 : zX d 172 16 [zO o, v1, v2, v3, v4, v5, v6, v7, v8] st A K = zX d 172 17 [zO o, v1, v2, v3, v4, v5, v6, v7, v8] (zO o :: st) A K := zx_aload_n z172 dX4_relation_16 rfl rfl
theorem s172_17 : zX d 172 17 [zO o, v1, v2, v3, v4, v5, v6, v7, v8] st A K = zX d 172 18 [zO o, v1, v2, v3, v4, v5, v6, v7, v8] (zO o :: st) A K := zx_aload_n z172 dX4_relation_17 rfl rfl
theorem s172_18 (h : tg A a = 9) : zX d 172 18 ls (zO (some a) :: st) A K = zX d 172 21 ls (fd A a 2 :: st) A K := zx_getf z172 zo172 dX4_relation_18 F10_16 rfl h
theorem s172_21 : zX d 172 21 [zO o, v1, v2, v3, v4, v5, v6, v7, v8] st A K = zX d 172 22 [zO o, v1, v2, v3, v4, v5, v6, v7, v8] (zO o :: st) A K := zx_aload_n z172 dX4_relation_21 rfl rfl
theorem s172_22 : zX d 172 22 [v0, zI x, v2, v3, v4, v5, v6, v7, v8] st A K = zX d 172 23 [v0, zI x, v2, v3, v4, v5, v6, v7, v8] (zI x :: st) A K := zx_iload_n z172 dX4_relation_22 rfl rfl
theorem s172_23 (h : tg A a = 9)  : zX (d + 1) 172 23 ls (zI i0 :: zO (some a) :: [w0, w1]) A K = zX d 158 0 [zO (some a), zI i0] [] A (zK (d + 1) 172 23 26 ls [w0, w1] K) := zx_callV (t := 9) z172 zo172 dX4_relation_23 rfl C10_182 rfl rfl zm158 rfl rfl (zwt_le (Nat.le_of_ble_eq_true rfl)) rfl h
theorem s172_26 : zX d 172 26 [v0, v1, v2, zI x, v4, v5, v6, v7, v8] st A K = zX d 172 27 [v0, v1, v2, zI x, v4, v5, v6, v7, v8] (zI x :: st) A K := zx_iload_n z172 dX4_relation_26 rfl rfl
theorem s172_27 (h : tg A a = 9)  : zX (d + 1) 172 27 ls (zI i2 :: zI i1 :: zO o0 :: zO (some a) :: []) A K = zX d 162 0 [zO (some a), zO o0, zI i1, zI i2, zU, zU] [] A (zK (d + 1) 172 27 30 ls [] K) := zx_callV (t := 9) z172 zo172 dX4_relation_27 rfl C10_201 rfl rfl zm162 rfl rfl (zwt_le (Nat.le_of_ble_eq_true rfl)) rfl h
theorem s172_30 : zX d 172 30 [v0, v1, v2, v3, v4, v5, v6, v7, v8] (zI x :: st) A K = zX d 172 32 [v0, v1, v2, v3, v4, zI x, v6, v7, v8] st A K := zx_istore z172 dX4_relation_30 (Nat.le_of_ble_eq_true rfl) rfl rfl
theorem s172_32 : zX d 172 32 [zO o, v1, v2, v3, v4, v5, v6, v7, v8] st A K = zX d 172 33 [zO o, v1, v2, v3, v4, v5, v6, v7, v8] (zO o :: st) A K := zx_aload_n z172 dX4_relation_32 rfl rfl
theorem s172_33 : zX d 172 33 [zO o, v1, v2, v3, v4, v5, v6, v7, v8] st A K = zX d 172 34 [zO o, v1, v2, v3, v4, v5, v6, v7, v8] (zO o :: st) A K := zx_aload_n z172 dX4_relation_33 rfl rfl
theorem s172_34 (h : tg A a = 9) : zX d 172 34 ls (zO (some a) :: st) A K = zX d 172 37 ls (fd A a 2 :: st) A K := zx_getf z172 zo172 dX4_relation_34 F10_16 rfl h
theorem s172_37 : zX d 172 37 [v0, v1, v2, v3, v4, zI x, v6, v7, v8] st A K = zX d 172 39 [v0, v1, v2, v3, v4, zI x, v6, v7, v8] (zI x :: st) A K := zx_iload z172 dX4_relation_37 rfl rfl
theorem s172_39 (h : tg A a = 9)  : zX (d + 1) 172 39 ls (zI i1 :: zO o0 :: zO (some a) :: []) A K = zX d 163 0 [zO (some a), zO o0, zI i1, zU, zU] [] A (zK (d + 1) 172 39 42 ls [] K) := zx_callV (t := 9) z172 zo172 dX4_relation_39 rfl C10_117 rfl rfl zm163 rfl rfl (zwt_le (Nat.le_of_ble_eq_true rfl)) rfl h
theorem s172_42 : zX d 172 42 [v0, v1, v2, v3, v4, zI x, v6, v7, v8] st A K = zX d 172 44 [v0, v1, v2, v3, v4, zI x, v6, v7, v8] (zI x :: st) A K := zx_iload z172 dX4_relation_42 rfl rfl
theorem s172_44 : zX d 172 44 ls (zI y :: zI x :: st) A K = zX d 172 45 ls (zI (zw (x - y)) :: st) A K := zx_isub z172 dX4_relation_44 rfl
theorem s172_45 : zX d 172 45 [v0, v1, v2, v3, v4, v5, v6, v7, v8] (zI x :: st) A K = zX d 172 47 [v0, v1, v2, v3, v4, v5, zI x, v7, v8] st A K := zx_istore z172 dX4_relation_45 (Nat.le_of_ble_eq_true rfl) rfl rfl
theorem s172_47 : zX d 172 47 [zO o, v1, v2, v3, v4, v5, v6, v7, v8] st A K = zX d 172 48 [zO o, v1, v2, v3, v4, v5, v6, v7, v8] (zO o :: st) A K := zx_aload_n z172 dX4_relation_47 rfl rfl
theorem s172_48 : zX d 172 48 [zO o, v1, v2, v3, v4, v5, v6, v7, v8] st A K = zX d 172 49 [zO o, v1, v2, v3, v4, v5, v6, v7, v8] (zO o :: st) A K := zx_aload_n z172 dX4_relation_48 rfl rfl
theorem s172_49 (h : tg A a = 9) : zX d 172 49 ls (zO (some a) :: st) A K = zX d 172 52 ls (fd A a 2 :: st) A K := zx_getf z172 zo172 dX4_relation_49 F10_16 rfl h
theorem s172_52 : zX d 172 52 [v0, v1, v2, v3, zI x, v5, v6, v7, v8] st A K = zX d 172 54 [v0, v1, v2, v3, zI x, v5, v6, v7, v8] (zI x :: st) A K := zx_iload z172 dX4_relation_52 rfl rfl
theorem s172_54 (h : tg A a = 9)  : zX (d + 1) 172 54 ls (zI i1 :: zO o0 :: zO (some a) :: []) A K = zX d 163 0 [zO (some a), zO o0, zI i1, zU, zU] [] A (zK (d + 1) 172 54 57 ls [] K) := zx_callV (t := 9) z172 zo172 dX4_relation_54 rfl C10_117 rfl rfl zm163 rfl rfl (zwt_le (Nat.le_of_ble_eq_true rfl)) rfl h
theorem s172_57 : zX d 172 57 [v0, v1, v2, v3, v4, v5, v6, v7, v8] (zI x :: st) A K = zX d 172 59 [v0, v1, v2, v3, v4, v5, v6, zI x, v8] st A K := zx_istore z172 dX4_relation_57 (Nat.le_of_ble_eq_true rfl) rfl rfl
theorem s172_59 : zX d 172 59 [v0, v1, v2, v3, zI x, v5, v6, v7, v8] st A K = zX d 172 61 [v0, v1, v2, v3, zI x, v5, v6, v7, v8] (zI x :: st) A K := zx_iload z172 dX4_relation_59 rfl rfl
theorem s172_61 : zX d 172 61 [v0, v1, v2, v3, v4, v5, v6, v7, v8] (zI x :: st) A K = zX d 172 63 [v0, v1, v2, v3, v4, v5, v6, v7, zI x] st A K := zx_istore z172 dX4_relation_61 (Nat.le_of_ble_eq_true rfl) rfl rfl
theorem s172_63 : zX d 172 63 [v0, v1, v2, v3, v4, v5, v6, v7, zI x] st A K = zX d 172 65 [v0, v1, v2, v3, v4, v5, v6, v7, zI x] (zI x :: st) A K := zx_iload z172 dX4_relation_63 rfl rfl
theorem s172_65 : zX d 172 65 [v0, v1, v2, v3, v4, v5, v6, zI x, v8] st A K = zX d 172 67 [v0, v1, v2, v3, v4, v5, v6, zI x, v8] (zI x :: st) A K := zx_iload z172 dX4_relation_65 rfl rfl
theorem s172_67 : zX d 172 67 ls (zI y :: zI x :: st) A K = (if y ≤ x then zX d 172 127 ls st A K else zX d 172 70 ls st A K) := zx_ic_ge z172 dX4_relation_67 rfl rfl
theorem s172_70 : zX d 172 70 [zO o, v1, v2, v3, v4, v5, v6, v7, v8] st A K = zX d 172 71 [zO o, v1, v2, v3, v4, v5, v6, v7, v8] (zO o :: st) A K := zx_aload_n z172 dX4_relation_70 rfl rfl
theorem s172_71 : zX d 172 71 [zO o, v1, v2, v3, v4, v5, v6, v7, v8] st A K = zX d 172 72 [zO o, v1, v2, v3, v4, v5, v6, v7, v8] (zO o :: st) A K := zx_aload_n z172 dX4_relation_71 rfl rfl
theorem s172_72 (h : tg A a = 9) : zX d 172 72 ls (zO (some a) :: st) A K = zX d 172 75 ls (fd A a 2 :: st) A K := zx_getf z172 zo172 dX4_relation_72 F10_16 rfl h
theorem s172_75 : zX d 172 75 [v0, v1, v2, v3, v4, v5, v6, v7, zI x] st A K = zX d 172 77 [v0, v1, v2, v3, v4, v5, v6, v7, zI x] (zI x :: st) A K := zx_iload z172 dX4_relation_75 rfl rfl
theorem s172_77 (h : tg A a = 9)  : zX (d + 1) 172 77 ls (zI i1 :: zO o0 :: zO (some a) :: []) A K = zX d 163 0 [zO (some a), zO o0, zI i1, zU, zU] [] A (zK (d + 1) 172 77 80 ls [] K) := zx_callV (t := 9) z172 zo172 dX4_relation_77 rfl C10_117 rfl rfl zm163 rfl rfl (zwt_le (Nat.le_of_ble_eq_true rfl)) rfl h
theorem s172_80 : zX d 172 80 [v0, v1, v2, v3, v4, v5, v6, v7, zI x] st A K = zX d 172 82 [v0, v1, v2, v3, v4, v5, v6, v7, zI x] (zI x :: st) A K := zx_iload z172 dX4_relation_80 rfl rfl
theorem s172_82 : zX d 172 82 ls (zI y :: zI x :: st) A K = zX d 172 83 ls (zI (zw (x - y)) :: st) A K := zx_isub z172 dX4_relation_82 rfl
theorem s172_83 : zX d 172 83 [v0, v1, v2, v3, v4, v5, zI x, v7, v8] st A K = zX d 172 85 [v0, v1, v2, v3, v4, v5, zI x, v7, v8] (zI x :: st) A K := zx_iload z172 dX4_relation_83 rfl rfl
theorem s172_85 : zX d 172 85 ls (zI y :: zI x :: st) A K = (if x ≠ y then zX d 172 121 ls st A K else zX d 172 88 ls st A K) := zx_ic_ne z172 dX4_relation_85 rfl rfl
theorem s172_88 : zX d 172 88 [zO o, v1, v2, v3, v4, v5, v6, v7, v8] st A K = zX d 172 89 [zO o, v1, v2, v3, v4, v5, v6, v7, v8] (zO o :: st) A K := zx_aload_n z172 dX4_relation_88 rfl rfl
theorem s172_89 (h : tg A a = 9) : zX d 172 89 ls (zO (some a) :: st) A K = zX d 172 92 ls (fd A a 2 :: st) A K := zx_getf z172 zo172 dX4_relation_89 F10_16 rfl h
theorem s172_92 : zX d 172 92 [v0, v1, v2, v3, v4, v5, v6, v7, zI x] st A K = zX d 172 94 [v0, v1, v2, v3, v4, v5, v6, v7, zI x] (zI x :: st) A K := zx_iload z172 dX4_relation_92 rfl rfl
theorem s172_94 : zX d 172 94 [zO o, v1, v2, v3, v4, v5, v6, v7, v8] st A K = zX d 172 95 [zO o, v1, v2, v3, v4, v5, v6, v7, v8] (zO o :: st) A K := zx_aload_n z172 dX4_relation_94 rfl rfl
theorem s172_95 (h : tg A a = 9) : zX d 172 95 ls (zO (some a) :: st) A K = zX d 172 98 ls (fd A a 2 :: st) A K := zx_getf z172 zo172 dX4_relation_95 F10_16 rfl h
theorem s172_98 : zX d 172 98 [v0, v1, v2, v3, v4, zI x, v6, v7, v8] st A K = zX d 172 100 [v0, v1, v2, v3, v4, zI x, v6, v7, v8] (zI x :: st) A K := zx_iload z172 dX4_relation_98 rfl rfl
theorem s172_100 : zX d 172 100 [v0, v1, v2, v3, v4, v5, zI x, v7, v8] st A K = zX d 172 102 [v0, v1, v2, v3, v4, v5, zI x, v7, v8] (zI x :: st) A K := zx_iload z172 dX4_relation_100 rfl rfl
theorem s172_102 : zX (d + 1) 172 102 ls (zI i4 :: zI i3 :: zO o2 :: zI i1 :: zO o0 :: []) A K = zX d 173 0 [zO o0, zI i1, zO o2, zI i3, zI i4, zU, zU] [] A (zK (d + 1) 172 102 105 ls [] K) := zx_callS z172 zo172 dX4_relation_102 rfl C10_134 rfl rfl zm173 rfl rfl (zwt_le (Nat.le_of_ble_eq_true rfl)) rfl
theorem s172_105 : zX d 172 105 ls (zI x :: st) A K = (if x = 0 then zX d 172 121 ls st A K else zX d 172 108 ls st A K) := zx_if_eq z172 dX4_relation_105 rfl rfl
theorem s172_108 : zX d 172 108 [v0, v1, v2, v3, v4, v5, v6, v7, zI x] st A K = zX d 172 110 [v0, v1, v2, v3, v4, v5, v6, v7, zI x] (zI x :: st) A K := zx_iload z172 dX4_relation_108 rfl rfl
theorem s172_110 : zX d 172 110 [v0, v1, v2, v3, zI x, v5, v6, v7, v8] st A K = zX d 172 112 [v0, v1, v2, v3, zI x, v5, v6, v7, v8] (zI x :: st) A K := zx_iload z172 dX4_relation_110 rfl rfl
theorem s172_112 : zX d 172 112 ls (zI y :: zI x :: st) A K = (if x ≠ y then zX d 172 119 ls st A K else zX d 172 115 ls st A K) := zx_ic_ne z172 dX4_relation_112 rfl rfl
theorem s172_115 : zX d 172 115 ls st A K = zX d 172 116 ls (zI 1 :: st) A K := zx_const z172 dX4_relation_115 (by decide) rfl
theorem s172_116 : zX d 172 116 ls st A K = zX d 172 120 ls st A K := zx_goto z172 dX4_relation_116 rfl
theorem s172_119 : zX d 172 119 ls st A K = zX d 172 120 ls (zI 2 :: st) A K := zx_const z172 dX4_relation_119 (by decide) rfl
theorem s172_120 : zX d 172 120 ls [zI x] A K = K (Sum.inl (some (zI x))) A := zx_iret z172 dX4_relation_120 zk172 rfl
theorem s172_121 : zX d 172 121 [v0, v1, v2, v3, v4, v5, v6, v7, zI x] st A K = zX d 172 124 [v0, v1, v2, v3, v4, v5, v6, v7, zI (zw (x + 1))] st A K := zx_iinc z172 dX4_relation_121 rfl rfl rfl
theorem s172_124 : zX d 172 124 ls st A K = zX d 172 63 ls st A K := zx_goto z172 dX4_relation_124 rfl
theorem s172_127 : zX d 172 127 ls st A K = zX d 172 128 ls (zI 0 :: st) A K := zx_const z172 dX4_relation_127 (by decide) rfl
theorem s172_128 : zX d 172 128 ls [zI x] A K = K (Sum.inl (some (zI x))) A := zx_iret z172 dX4_relation_128 zk172 rfl
theorem s173_0 : zX d 173 0 ls st A K = zX d 173 1 ls (zI 1 :: st) A K := zx_const z173 dX4_areEqual_0 (by decide) rfl
theorem s173_1 : zX d 173 1 [v0, v1, v2, v3, v4, v5, v6] (zI x :: st) A K = zX d 173 3 [v0, v1, v2, v3, v4, zI x, v6] st A K := zx_istore z173 dX4_areEqual_1 (Nat.le_of_ble_eq_true rfl) rfl rfl
theorem s173_3 : zX d 173 3 ls st A K = zX d 173 4 ls (zI 0 :: st) A K := zx_const z173 dX4_areEqual_3 (by decide) rfl
theorem s173_4 : zX d 173 4 [v0, v1, v2, v3, v4, v5, v6] (zI x :: st) A K = zX d 173 6 [v0, v1, v2, v3, v4, v5, zI x] st A K := zx_istore z173 dX4_areEqual_4 (Nat.le_of_ble_eq_true rfl) rfl rfl
theorem s173_6 : zX d 173 6 [v0, v1, v2, v3, v4, v5, zI x] st A K = zX d 173 8 [v0, v1, v2, v3, v4, v5, zI x] (zI x :: st) A K := zx_iload z173 dX4_areEqual_6 rfl rfl
theorem s173_8 : zX d 173 8 [v0, v1, v2, v3, zI x, v5, v6] st A K = zX d 173 10 [v0, v1, v2, v3, zI x, v5, v6] (zI x :: st) A K := zx_iload z173 dX4_areEqual_8 rfl rfl
theorem s173_10 : zX d 173 10 ls (zI y :: zI x :: st) A K = (if y ≤ x then zX d 173 46 ls st A K else zX d 173 13 ls st A K) := zx_ic_ge z173 dX4_areEqual_10 rfl rfl
theorem s173_13 : zX d 173 13 [v0, v1, v2, v3, v4, zI x, v6] st A K = zX d 173 15 [v0, v1, v2, v3, v4, zI x, v6] (zI x :: st) A K := zx_iload z173 dX4_areEqual_13 rfl rfl
theorem s173_15 : zX d 173 15 ls (zI x :: st) A K = (if x = 0 then zX d 173 46 ls st A K else zX d 173 18 ls st A K) := zx_if_eq z173 dX4_areEqual_15 rfl rfl
theorem s173_18 : zX d 173 18 [zO o, v1, v2, v3, v4, v5, v6] st A K = zX d 173 19 [zO o, v1, v2, v3, v4, v5, v6] (zO o :: st) A K := zx_aload_n z173 dX4_areEqual_18 rfl rfl
theorem s173_19 : zX d 173 19 [v0, zI x, v2, v3, v4, v5, v6] st A K = zX d 173 20 [v0, zI x, v2, v3, v4, v5, v6] (zI x :: st) A K := zx_iload_n z173 dX4_areEqual_19 rfl rfl
theorem s173_20 : zX d 173 20 [v0, v1, v2, v3, v4, v5, zI x] st A K = zX d 173 22 [v0, v1, v2, v3, v4, v5, zI x] (zI x :: st) A K := zx_iload z173 dX4_areEqual_20 rfl rfl
theorem s173_22 : zX d 173 22 ls (zI y :: zI x :: st) A K = zX d 173 23 ls (zI (zw (x + y)) :: st) A K := zx_iadd z173 dX4_areEqual_22 rfl
theorem s173_23 (h : tg A a = 20) (h0 : 0 ≤ x) (h1 : x.toNat < (ia A a).length) : zX d 173 23 ls (zI x :: zO (some a) :: st) A K = zX d 173 24 ls (zI ((ia A a).getD x.toNat 0) :: st) A K := zx_iald z173 dX4_areEqual_23 rfl h h0 h1
theorem s173_23s (h : tg A a = 30) (h0 : 0 ≤ x) (h1 : x.toNat < (ia A a).length) : zX d 173 23 ls (zI x :: zO (some a) :: st) A K = zX d 173 24 ls (zI ((ia A a).getD x.toNat 0) :: st) A K := zx_sald z173 dX4_areEqual_23 rfl h h0 h1
theorem s173_24 : zX d 173 24 [v0, v1, zO o, v3, v4, v5, v6] st A K = zX d 173 25 [v0, v1, zO o, v3, v4, v5, v6] (zO o :: st) A K := zx_aload_n z173 dX4_areEqual_24 rfl rfl
theorem s173_25 : zX d 173 25 [v0, v1, v2, zI x, v4, v5, v6] st A K = zX d 173 26 [v0, v1, v2, zI x, v4, v5, v6] (zI x :: st) A K := zx_iload_n z173 dX4_areEqual_25 rfl rfl
theorem s173_26 : zX d 173 26 [v0, v1, v2, v3, v4, v5, zI x] st A K = zX d 173 28 [v0, v1, v2, v3, v4, v5, zI x] (zI x :: st) A K := zx_iload z173 dX4_areEqual_26 rfl rfl
theorem s173_28 : zX d 173 28 ls (zI y :: zI x :: st) A K = zX d 173 29 ls (zI (zw (x + y)) :: st) A K := zx_iadd z173 dX4_areEqual_28 rfl
theorem s173_29 (h : tg A a = 20) (h0 : 0 ≤ x) (h1 : x.toNat < (ia A a).length) : zX d 173 29 ls (zI x :: zO (some a) :: st) A K = zX d 173 30 ls (zI ((ia A a).getD x.toNat 0) :: st) A K := zx_iald z173 dX4_areEqual_29 rfl h h0 h1
theorem s173_29s (h : tg A a = 30) (h0 : 0 ≤ x) (h1 : x.toNat < (ia A a).length) : zX d 173 29 ls (zI x :: zO (some a) :: st) A K = zX d 173 30 ls (zI ((ia A a).getD x.toNat 0) :: st) A K := zx_sald z173 dX4_areEqual_29 rfl h h0 h1
theorem s173_30 : zX d 173 30 ls (zI y :: zI x :: st) A K = (if x ≠ y then zX d 173 37 ls st A K else zX d 173 33 ls st A K) := zx_ic_ne z173 dX4_areEqual_30 rfl rfl
theorem s173_33 : zX d 173 33 ls st A K = zX d 173 34 ls (zI 1 :: st) A K := zx_const z173 dX4_areEqual_33 (by decide) rfl
theorem s173_34 : zX d 173 34 ls st A K = zX d 173 38 ls st A K := zx_goto z173 dX4_areEqual_34 rfl
theorem s173_37 : zX d 173 37 ls st A K = zX d 173 38 ls (zI 0 :: st) A K := zx_const z173 dX4_areEqual_37 (by decide) rfl
theorem s173_38 : zX d 173 38 [v0, v1, v2, v3, v4, v5, v6] (zI x :: st) A K = zX d 173 40 [v0, v1, v2, v3, v4, zI x, v6] st A K := zx_istore z173 dX4_areEqual_38 (Nat.le_of_ble_eq_true rfl) rfl rfl
theorem s173_40 : zX d 173 40 [v0, v1, v2, v3, v4, v5, zI x] st A K = zX d 173 43 [v0, v1, v2, v3, v4, v5, zI (zw (x + 1))] st A K := zx_iinc z173 dX4_areEqual_40 rfl rfl rfl
theorem s173_43 : zX d 173 43 ls st A K = zX d 173 6 ls st A K := zx_goto z173 dX4_areEqual_43 rfl
theorem s173_46 : zX d 173 46 [v0, v1, v2, v3, v4, zI x, v6] st A K = zX d 173 48 [v0, v1, v2, v3, v4, zI x, v6] (zI x :: st) A K := zx_iload z173 dX4_areEqual_46 rfl rfl
theorem s173_48 (h : x = 0 ∨ x = 1) : zX d 173 48 ls [zI x] A K = K (Sum.inl (some (zI x))) A := zx_iret z173 dX4_areEqual_48 zk173 (by rcases h with q | q <;> subst q <;> rfl)
theorem s174_0 : zX d 174 0 [zO o] st A K = zX d 174 1 [zO o] (zO o :: st) A K := zx_aload_n z174 dX4_closureSize_0 rfl rfl
theorem s174_1 (h : tg A a = 9)  : zX (d + 1) 174 1 ls (zO (some a) :: []) A K = zX d 175 0 [zO (some a), zU, zU, zU, zU] [] A (zK (d + 1) 174 1 4 ls [] K) := zx_callV (t := 9) z174 zo174 dX4_closureSize_1 rfl C10_259 rfl rfl zm175 rfl rfl (zwt_le (Nat.le_of_ble_eq_true rfl)) rfl h
theorem s174_4 : zX d 174 4 ls (zI x :: st) A K = (if x = 0 then zX d 174 14 ls st A K else zX d 174 7 ls st A K) := zx_if_eq z174 dX4_closureSize_4 rfl rfl
theorem s174_7 : zX d 174 7 [zO o] st A K = zX d 174 8 [zO o] (zO o :: st) A K := zx_aload_n z174 dX4_closureSize_7 rfl rfl
theorem s174_8 (h : tg A a = 9) : zX d 174 8 ls (zO (some a) :: st) A K = zX d 174 11 ls (fd A a 29 :: st) A K := zx_getf z174 zo174 dX4_closureSize_8 F10_250 rfl h
theorem s174_11 : zX d 174 11 ls st A K = zX d 174 16 ls st A K := zx_goto z174 dX4_closureSize_11 rfl
theorem s174_14 : zX d 174 14 ls st A K = zX d 174 16 ls (zI (-8) :: st) A K := zx_bipush z174 dX4_closureSize_14 (by decide) rfl
theorem s174_16 : zX d 174 16 ls [zI x] A K = K (Sum.inl (some (zI x))) A := zx_iret z174 dX4_closureSize_16 zk174 rfl
theorem s175_0 : zX d 175 0 [zO o, v1, v2, v3, v4] st A K = zX d 175 1 [zO o, v1, v2, v3, v4] (zO o :: st) A K := zx_aload_n z175 dX4_findClosure_0 rfl rfl
theorem s175_1 (h : tg A a = 9)  : zX (d + 1) 175 1 ls (zO (some a) :: []) A K = zX d 149 0 [zO (some a), zU, zU, zU] [] A (zK (d + 1) 175 1 4 ls [] K) := zx_callV (t := 9) z175 zo175 dX4_findClosure_1 rfl C10_185 rfl rfl zm149 rfl rfl (zwt_le (Nat.le_of_ble_eq_true rfl)) rfl h
theorem s175_4 : zX d 175 4 [v0, v1, v2, v3, v4] (zI x :: st) A K = zX d 175 5 [v0, zI x, v2, v3, v4] st A K := zx_istore_n z175 dX4_findClosure_4 (Nat.le_of_ble_eq_true rfl) rfl rfl
theorem s175_5 : zX d 175 5 [zO o, v1, v2, v3, v4] st A K = zX d 175 6 [zO o, v1, v2, v3, v4] (zO o :: st) A K := zx_aload_n z175 dX4_findClosure_5 rfl rfl
theorem s175_6 : zX d 175 6 ls st A K = zX d 175 7 ls (zI 0 :: st) A K := zx_const z175 dX4_findClosure_6 (by decide) rfl
theorem s175_7 (h : tg A a = 9) : zX d 175 7 ls (zI x :: zO (some a) :: st) A K = zX d 175 10 ls st (pF A a 29 (zI x)) K := zx_putf (q := 0) z175 zo175 dX4_findClosure_7 F10_250 rfl rfl rfl h rfl
theorem s175_10 : zX d 175 10 ls st A K = zX d 175 11 ls (zI 0 :: st) A K := zx_const z175 dX4_findClosure_10 (by decide) rfl
theorem s175_11 : zX d 175 11 [v0, v1, v2, v3, v4] (zI x :: st) A K = zX d 175 12 [v0, v1, zI x, v3, v4] st A K := zx_istore_n z175 dX4_findClosure_11 (Nat.le_of_ble_eq_true rfl) rfl rfl
theorem s175_12 : zX d 175 12 [v0, v1, zI x, v3, v4] st A K = zX d 175 13 [v0, v1, zI x, v3, v4] (zI x :: st) A K := zx_iload_n z175 dX4_findClosure_12 rfl rfl
theorem s175_13 : zX d 175 13 [v0, zI x, v2, v3, v4] st A K = zX d 175 14 [v0, zI x, v2, v3, v4] (zI x :: st) A K := zx_iload_n z175 dX4_findClosure_13 rfl rfl
theorem s175_14 : zX d 175 14 ls (zI y :: zI x :: st) A K = (if y ≤ x then zX d 175 126 ls st A K else zX d 175 17 ls st A K) := zx_ic_ge z175 dX4_findClosure_14 rfl rfl
theorem s175_17 : zX d 175 17 ls st A K = zX d 175 18 ls (zI 0 :: st) A K := zx_const z175 dX4_findClosure_17 (by decide) rfl
theorem s175_18 : zX d 175 18 [v0, v1, v2, v3, v4] (zI x :: st) A K = zX d 175 19 [v0, v1, v2, zI x, v4] st A K := zx_istore_n z175 dX4_findClosure_18 (Nat.le_of_ble_eq_true rfl) rfl rfl
theorem s175_19 : zX d 175 19 [v0, v1, v2, zI x, v4] st A K = zX d 175 20 [v0, v1, v2, zI x, v4] (zI x :: st) A K := zx_iload_n z175 dX4_findClosure_19 rfl rfl
theorem s175_20 : zX d 175 20 ls st A K = zX d 175 22 ls (zI (9) :: st) A K := zx_bipush z175 dX4_findClosure_20 (by decide) rfl
theorem s175_22 : zX d 175 22 ls (zI y :: zI x :: st) A K = (if y ≤ x then zX d 175 96 ls st A K else zX d 175 25 ls st A K) := zx_ic_ge z175 dX4_findClosure_22 rfl rfl
theorem s175_25 : zX d 175 25 [v0, v1, v2, zI x, v4] st A K = zX d 175 26 [v0, v1, v2, zI x, v4] (zI x :: st) A K := zx_iload_n z175 dX4_findClosure_25 rfl rfl
theorem s175_26 : zX d 175 26 ls st A K = zX d 175 27 ls (zI 3 :: st) A K := zx_const z175 dX4_findClosure_26 (by decide) rfl
theorem s175_27 (h : y ≠ 0) : zX d 175 27 ls (zI y :: zI x :: st) A K = zX d 175 28 ls (zI (Int32.ofInt x / Int32.ofInt y).toInt :: st) A K := zx_idiv z175 dX4_findClosure_27 rfl h
theorem s175_28 : zX d 175 28 [zO o, v1, v2, v3, v4] st A K = zX d 175 29 [zO o, v1, v2, v3, v4] (zO o :: st) A K := zx_aload_n z175 dX4_findClosure_28 rfl rfl
theorem s175_29 (h : tg A a = 9) : zX d 175 29 ls (zO (some a) :: st) A K = zX d 175 32 ls (fd A a 0 :: st) A K := zx_getf z175 zo175 dX4_findClosure_29 F10_9 rfl h
theorem s175_32 : zX d 175 32 [zO o, v1, v2, v3, v4] st A K = zX d 175 33 [zO o, v1, v2, v3, v4] (zO o :: st) A K := zx_aload_n z175 dX4_findClosure_32 rfl rfl
theorem s175_33 : zX d 175 33 [v0, v1, zI x, v3, v4] st A K = zX d 175 34 [v0, v1, zI x, v3, v4] (zI x :: st) A K := zx_iload_n z175 dX4_findClosure_33 rfl rfl
theorem s175_34 (h : tg A a = 9)  : zX (d + 1) 175 34 ls (zI i0 :: zO (some a) :: [w0, w1]) A K = zX d 154 0 [zO (some a), zI i0] [] A (zK (d + 1) 175 34 37 ls [w0, w1] K) := zx_callV (t := 9) z175 zo175 dX4_findClosure_34 rfl C10_191 rfl rfl zm154 rfl rfl (zwt_le (Nat.le_of_ble_eq_true rfl)) rfl h
theorem s175_37 (h : tg A a = 20) (h0 : 0 ≤ x) (h1 : x.toNat < (ia A a).length) : zX d 175 37 ls (zI x :: zO (some a) :: st) A K = zX d 175 38 ls (zI ((ia A a).getD x.toNat 0) :: st) A K := zx_iald z175 dX4_findClosure_37 rfl h h0 h1
theorem s175_37s (h : tg A a = 30) (h0 : 0 ≤ x) (h1 : x.toNat < (ia A a).length) : zX d 175 37 ls (zI x :: zO (some a) :: st) A K = zX d 175 38 ls (zI ((ia A a).getD x.toNat 0) :: st) A K := zx_sald z175 dX4_findClosure_37 rfl h h0 h1
theorem s175_38 : zX d 175 38 ls (zI y :: zI x :: st) A K = (if y ≤ x then zX d 175 61 ls st A K else zX d 175 41 ls st A K) := zx_ic_ge z175 dX4_findClosure_38 rfl rfl
theorem s175_41 : zX d 175 41 [v0, v1, v2, zI x, v4] st A K = zX d 175 42 [v0, v1, v2, zI x, v4] (zI x :: st) A K := zx_iload_n z175 dX4_findClosure_41 rfl rfl
theorem s175_42 : zX d 175 42 ls st A K = zX d 175 43 ls (zI 3 :: st) A K := zx_const z175 dX4_findClosure_42 (by decide) rfl
theorem s175_43 (h : y ≠ 0) : zX d 175 43 ls (zI y :: zI x :: st) A K = zX d 175 44 ls (zI (Int32.ofInt x - Int32.ofInt x / Int32.ofInt y * Int32.ofInt y).toInt :: st) A K := zx_irem z175 dX4_findClosure_43 rfl h
theorem s175_44 : zX d 175 44 [zO o, v1, v2, v3, v4] st A K = zX d 175 45 [zO o, v1, v2, v3, v4] (zO o :: st) A K := zx_aload_n z175 dX4_findClosure_44 rfl rfl
theorem s175_45 (h : tg A a = 9) : zX d 175 45 ls (zO (some a) :: st) A K = zX d 175 48 ls (fd A a 0 :: st) A K := zx_getf z175 zo175 dX4_findClosure_45 F10_9 rfl h
theorem s175_48 : zX d 175 48 [zO o, v1, v2, v3, v4] st A K = zX d 175 49 [zO o, v1, v2, v3, v4] (zO o :: st) A K := zx_aload_n z175 dX4_findClosure_48 rfl rfl
theorem s175_49 : zX d 175 49 [v0, v1, zI x, v3, v4] st A K = zX d 175 50 [v0, v1, zI x, v3, v4] (zI x :: st) A K := zx_iload_n z175 dX4_findClosure_49 rfl rfl
theorem s175_50 (h : tg A a = 9)  : zX (d + 1) 175 50 ls (zI i0 :: zO (some a) :: [w0, w1]) A K = zX d 157 0 [zO (some a), zI i0] [] A (zK (d + 1) 175 50 53 ls [w0, w1] K) := zx_callV (t := 9) z175 zo175 dX4_findClosure_50 rfl C10_194 rfl rfl zm157 rfl rfl (zwt_le (Nat.le_of_ble_eq_true rfl)) rfl h
theorem s175_53 (h : tg A a = 20) (h0 : 0 ≤ x) (h1 : x.toNat < (ia A a).length) : zX d 175 53 ls (zI x :: zO (some a) :: st) A K = zX d 175 54 ls (zI ((ia A a).getD x.toNat 0) :: st) A K := zx_iald z175 dX4_findClosure_53 rfl h h0 h1
theorem s175_53s (h : tg A a = 30) (h0 : 0 ≤ x) (h1 : x.toNat < (ia A a).length) : zX d 175 53 ls (zI x :: zO (some a) :: st) A K = zX d 175 54 ls (zI ((ia A a).getD x.toNat 0) :: st) A K := zx_sald z175 dX4_findClosure_53 rfl h h0 h1
theorem s175_54 : zX d 175 54 ls (zI y :: zI x :: st) A K = (if y ≤ x then zX d 175 61 ls st A K else zX d 175 57 ls st A K) := zx_ic_ge z175 dX4_findClosure_54 rfl rfl
theorem s175_57 : zX d 175 57 ls st A K = zX d 175 58 ls (zI 1 :: st) A K := zx_const z175 dX4_findClosure_57 (by decide) rfl
theorem s175_58 : zX d 175 58 ls st A K = zX d 175 62 ls st A K := zx_goto z175 dX4_findClosure_58 rfl
theorem s175_61 : zX d 175 61 ls st A K = zX d 175 62 ls (zI 0 :: st) A K := zx_const z175 dX4_findClosure_61 (by decide) rfl
theorem s175_62 : zX d 175 62 [v0, v1, v2, v3, v4] (zI x :: st) A K = zX d 175 64 [v0, v1, v2, v3, zI x] st A K := zx_istore z175 dX4_findClosure_62 (Nat.le_of_ble_eq_true rfl) rfl rfl
theorem s175_64 : zX d 175 64 [zO o, v1, v2, v3, v4] st A K = zX d 175 65 [zO o, v1, v2, v3, v4] (zO o :: st) A K := zx_aload_n z175 dX4_findClosure_64 rfl rfl
theorem s175_65 (h : tg A a = 9) : zX d 175 65 ls (zO (some a) :: st) A K = zX d 175 68 ls (fd A a 30 :: st) A K := zx_getf z175 zo175 dX4_findClosure_65 F10_79 rfl h
theorem s175_68 : zX d 175 68 [v0, v1, v2, zI x, v4] st A K = zX d 175 69 [v0, v1, v2, zI x, v4] (zI x :: st) A K := zx_iload_n z175 dX4_findClosure_68 rfl rfl
theorem s175_69 : zX d 175 69 [v0, v1, v2, v3, zI x] st A K = zX d 175 71 [v0, v1, v2, v3, zI x] (zI x :: st) A K := zx_iload z175 dX4_findClosure_69 rfl rfl
theorem s175_71 : zX d 175 71 ls (zI x :: st) A K = (if x = 0 then zX d 175 88 ls st A K else zX d 175 74 ls st A K) := zx_if_eq z175 dX4_findClosure_71 rfl rfl
theorem s175_74 : zX d 175 74 [zO o, v1, v2, v3, v4] st A K = zX d 175 75 [zO o, v1, v2, v3, v4] (zO o :: st) A K := zx_aload_n z175 dX4_findClosure_74 rfl rfl
theorem s175_75 : zX d 175 75 [v0, v1, zI x, v3, v4] st A K = zX d 175 76 [v0, v1, zI x, v3, v4] (zI x :: st) A K := zx_iload_n z175 dX4_findClosure_75 rfl rfl
theorem s175_76 : zX d 175 76 [v0, v1, v2, zI x, v4] st A K = zX d 175 77 [v0, v1, v2, zI x, v4] (zI x :: st) A K := zx_iload_n z175 dX4_findClosure_76 rfl rfl
theorem s175_77 : zX d 175 77 ls st A K = zX d 175 78 ls (zI 3 :: st) A K := zx_const z175 dX4_findClosure_77 (by decide) rfl
theorem s175_78 (h : y ≠ 0) : zX d 175 78 ls (zI y :: zI x :: st) A K = zX d 175 79 ls (zI (Int32.ofInt x / Int32.ofInt y).toInt :: st) A K := zx_idiv z175 dX4_findClosure_78 rfl h
theorem s175_79 : zX d 175 79 [v0, v1, v2, zI x, v4] st A K = zX d 175 80 [v0, v1, v2, zI x, v4] (zI x :: st) A K := zx_iload_n z175 dX4_findClosure_79 rfl rfl
theorem s175_80 : zX d 175 80 ls st A K = zX d 175 81 ls (zI 3 :: st) A K := zx_const z175 dX4_findClosure_80 (by decide) rfl
theorem s175_81 (h : y ≠ 0) : zX d 175 81 ls (zI y :: zI x :: st) A K = zX d 175 82 ls (zI (Int32.ofInt x - Int32.ofInt x / Int32.ofInt y * Int32.ofInt y).toInt :: st) A K := zx_irem z175 dX4_findClosure_81 rfl h
theorem s175_82 (h : tg A a = 9)  : zX (d + 1) 175 82 ls (zI i2 :: zI i1 :: zI i0 :: zO (some a) :: [w0, w1]) A K = zX d 172 0 [zO (some a), zI i0, zI i1, zI i2, zU, zU, zU, zU, zU] [] A (zK (d + 1) 175 82 85 ls [w0, w1] K) := zx_callV (t := 9) z175 zo175 dX4_findClosure_82 rfl C10_229 rfl rfl zm172 rfl rfl (zwt_le (Nat.le_of_ble_eq_true rfl)) rfl h
theorem s175_85 : zX d 175 85 ls st A K = zX d 175 89 ls st A K := zx_goto z175 dX4_findClosure_85 rfl
theorem s175_88 : zX d 175 88 ls st A K = zX d 175 89 ls (zI 0 :: st) A K := zx_const z175 dX4_findClosure_88 (by decide) rfl
theorem s175_89 (h : tg A a = 20) (h0 : 0 ≤ x) (h1 : x.toNat < (ia A a).length) : zX d 175 89 ls (zI y :: zI x :: zO (some a) :: st) A K = zX d 175 90 ls st (pI A a ((ia A a).set x.toNat y)) K := zx_iast z175 dX4_findClosure_89 rfl h h0 h1
theorem s175_90 : zX d 175 90 [v0, v1, v2, zI x, v4] st A K = zX d 175 93 [v0, v1, v2, zI (zw (x + 1)), v4] st A K := zx_iinc z175 dX4_findClosure_90 rfl rfl rfl
theorem s175_93 : zX d 175 93 ls st A K = zX d 175 19 ls st A K := zx_goto z175 dX4_findClosure_93 rfl
theorem s175_96 : zX d 175 96 [zO o, v1, v2, v3, v4] st A K = zX d 175 97 [zO o, v1, v2, v3, v4] (zO o :: st) A K := zx_aload_n z175 dX4_findClosure_96 rfl rfl
theorem s175_97 : zX d 175 97 ls st A K = zX d 175 98 ls (zI 3 :: st) A K := zx_const z175 dX4_findClosure_97 (by decide) rfl
theorem s175_98 : zX d 175 98 [zO o, v1, v2, v3, v4] st A K = zX d 175 99 [zO o, v1, v2, v3, v4] (zO o :: st) A K := zx_aload_n z175 dX4_findClosure_98 rfl rfl
theorem s175_99 : zX d 175 99 [v0, v1, zI x, v3, v4] st A K = zX d 175 100 [v0, v1, zI x, v3, v4] (zI x :: st) A K := zx_iload_n z175 dX4_findClosure_99 rfl rfl
theorem s175_100 (h : tg A a = 9)  : zX (d + 1) 175 100 ls (zI i0 :: zO (some a) :: [w0, w1]) A K = zX d 154 0 [zO (some a), zI i0] [] A (zK (d + 1) 175 100 103 ls [w0, w1] K) := zx_callV (t := 9) z175 zo175 dX4_findClosure_100 rfl C10_191 rfl rfl zm154 rfl rfl (zwt_le (Nat.le_of_ble_eq_true rfl)) rfl h
theorem s175_103 : zX d 175 103 ls (zI y :: zI x :: st) A K = zX d 175 104 ls (zI (zw (x * y)) :: st) A K := zx_imul z175 dX4_findClosure_103 rfl
theorem s175_104 : zX d 175 104 [zO o, v1, v2, v3, v4] st A K = zX d 175 105 [zO o, v1, v2, v3, v4] (zO o :: st) A K := zx_aload_n z175 dX4_findClosure_104 rfl rfl
theorem s175_105 : zX d 175 105 [v0, v1, zI x, v3, v4] st A K = zX d 175 106 [v0, v1, zI x, v3, v4] (zI x :: st) A K := zx_iload_n z175 dX4_findClosure_105 rfl rfl
theorem s175_106 (h : tg A a = 9)  : zX (d + 1) 175 106 ls (zI i0 :: zO (some a) :: [w0, w1]) A K = zX d 157 0 [zO (some a), zI i0] [] A (zK (d + 1) 175 106 109 ls [w0, w1] K) := zx_callV (t := 9) z175 zo175 dX4_findClosure_106 rfl C10_194 rfl rfl zm157 rfl rfl (zwt_le (Nat.le_of_ble_eq_true rfl)) rfl h
theorem s175_109 : zX d 175 109 ls (zI y :: zI x :: st) A K = zX d 175 110 ls (zI (zw (x + y)) :: st) A K := zx_iadd z175 dX4_findClosure_109 rfl
theorem s175_110 : zX d 175 110 [zO o, v1, v2, v3, v4] st A K = zX d 175 111 [zO o, v1, v2, v3, v4] (zO o :: st) A K := zx_aload_n z175 dX4_findClosure_110 rfl rfl
theorem s175_111 (h : tg A a = 9) : zX d 175 111 ls (zO (some a) :: st) A K = zX d 175 114 ls (fd A a 30 :: st) A K := zx_getf z175 zo175 dX4_findClosure_111 F10_79 rfl h
theorem s175_114 : zX (d + 1) 175 114 ls (zO o1 :: zI i0 :: [w0]) A K = zX d 176 0 [zI i0, zO o1, zU, zU] [] A (zK (d + 1) 175 114 117 ls [w0] K) := zx_callS z175 zo175 dX4_findClosure_114 rfl C10_246 rfl rfl zm176 rfl rfl (zwt_le (Nat.le_of_ble_eq_true rfl)) rfl
theorem s175_117 (h : tg A a = 9)  : zX (d + 1) 175 117 ls (zI i0 :: zO (some a) :: []) A K = zX d 177 0 [zO (some a), zI i0] [] A (zK (d + 1) 175 117 120 ls [] K) := zx_callV (t := 9) z175 zo175 dX4_findClosure_117 rfl C10_253 rfl rfl zm177 rfl rfl (zwt_le (Nat.le_of_ble_eq_true rfl)) rfl h
theorem s175_120 : zX d 175 120 [v0, v1, zI x, v3, v4] st A K = zX d 175 123 [v0, v1, zI (zw (x + 1)), v3, v4] st A K := zx_iinc z175 dX4_findClosure_120 rfl rfl rfl
theorem s175_123 : zX d 175 123 ls st A K = zX d 175 12 ls st A K := zx_goto z175 dX4_findClosure_123 rfl
theorem s175_126 : zX d 175 126 ls st A K = zX d 175 127 ls (zI 0 :: st) A K := zx_const z175 dX4_findClosure_126 (by decide) rfl
theorem s175_127 : zX d 175 127 [v0, v1, v2, v3, v4] (zI x :: st) A K = zX d 175 128 [v0, v1, zI x, v3, v4] st A K := zx_istore_n z175 dX4_findClosure_127 (Nat.le_of_ble_eq_true rfl) rfl rfl
theorem s175_128 : zX d 175 128 [v0, v1, zI x, v3, v4] st A K = zX d 175 129 [v0, v1, zI x, v3, v4] (zI x :: st) A K := zx_iload_n z175 dX4_findClosure_128 rfl rfl
theorem s175_129 : zX d 175 129 [zO o, v1, v2, v3, v4] st A K = zX d 175 130 [zO o, v1, v2, v3, v4] (zO o :: st) A K := zx_aload_n z175 dX4_findClosure_129 rfl rfl
theorem s175_130 (h : tg A a = 9) : zX d 175 130 ls (zO (some a) :: st) A K = zX d 175 133 ls (fd A a 29 :: st) A K := zx_getf z175 zo175 dX4_findClosure_130 F10_250 rfl h
theorem s175_133 : zX d 175 133 ls (zI y :: zI x :: st) A K = (if y ≤ x then zX d 175 205 ls st A K else zX d 175 136 ls st A K) := zx_ic_ge z175 dX4_findClosure_133 rfl rfl
theorem s175_136 : zX d 175 136 [zO o, v1, v2, v3, v4] st A K = zX d 175 137 [zO o, v1, v2, v3, v4] (zO o :: st) A K := zx_aload_n z175 dX4_findClosure_136 rfl rfl
theorem s175_137 (h : tg A a = 9) : zX d 175 137 ls (zO (some a) :: st) A K = zX d 175 140 ls (fd A a 29 :: st) A K := zx_getf z175 zo175 dX4_findClosure_137 F10_250 rfl h
theorem s175_140 : zX d 175 140 ls st A K = zX d 175 143 ls (zI (400) :: st) A K := zx_sipush z175 dX4_findClosure_140 (by decide) rfl
theorem s175_143 : zX d 175 143 ls (zI y :: zI x :: st) A K = (if y < x then zX d 175 205 ls st A K else zX d 175 146 ls st A K) := zx_ic_gt z175 dX4_findClosure_143 rfl rfl
theorem s175_146 : zX d 175 146 ls st A K = zX d 175 147 ls (zI 0 :: st) A K := zx_const z175 dX4_findClosure_146 (by decide) rfl
theorem s175_147 : zX d 175 147 [v0, v1, v2, v3, v4] (zI x :: st) A K = zX d 175 148 [v0, v1, v2, zI x, v4] st A K := zx_istore_n z175 dX4_findClosure_147 (Nat.le_of_ble_eq_true rfl) rfl rfl
theorem s175_148 : zX d 175 148 [v0, v1, v2, zI x, v4] st A K = zX d 175 149 [v0, v1, v2, zI x, v4] (zI x :: st) A K := zx_iload_n z175 dX4_findClosure_148 rfl rfl
theorem s175_149 : zX d 175 149 [v0, v1, zI x, v3, v4] st A K = zX d 175 150 [v0, v1, zI x, v3, v4] (zI x :: st) A K := zx_iload_n z175 dX4_findClosure_149 rfl rfl
theorem s175_150 : zX d 175 150 ls (zI y :: zI x :: st) A K = (if y < x then zX d 175 199 ls st A K else zX d 175 153 ls st A K) := zx_ic_gt z175 dX4_findClosure_150 rfl rfl
theorem s175_153 : zX d 175 153 [zO o, v1, v2, v3, v4] st A K = zX d 175 154 [zO o, v1, v2, v3, v4] (zO o :: st) A K := zx_aload_n z175 dX4_findClosure_153 rfl rfl
theorem s175_154 : zX d 175 154 [zO o, v1, v2, v3, v4] st A K = zX d 175 155 [zO o, v1, v2, v3, v4] (zO o :: st) A K := zx_aload_n z175 dX4_findClosure_154 rfl rfl
theorem s175_155 : zX d 175 155 [zO o, v1, v2, v3, v4] st A K = zX d 175 156 [zO o, v1, v2, v3, v4] (zO o :: st) A K := zx_aload_n z175 dX4_findClosure_155 rfl rfl
theorem s175_156 (h : tg A a = 9) : zX d 175 156 ls (zO (some a) :: st) A K = zX d 175 159 ls (fd A a 25 :: st) A K := zx_getf z175 zo175 dX4_findClosure_156 F10_66 rfl h
theorem s175_159 : zX d 175 159 [v0, v1, zI x, v3, v4] st A K = zX d 175 160 [v0, v1, zI x, v3, v4] (zI x :: st) A K := zx_iload_n z175 dX4_findClosure_159 rfl rfl
theorem s175_160 (h : tg A a = 20) (h0 : 0 ≤ x) (h1 : x.toNat < (ia A a).length) : zX d 175 160 ls (zI x :: zO (some a) :: st) A K = zX d 175 161 ls (zI ((ia A a).getD x.toNat 0) :: st) A K := zx_iald z175 dX4_findClosure_160 rfl h h0 h1
theorem s175_160s (h : tg A a = 30) (h0 : 0 ≤ x) (h1 : x.toNat < (ia A a).length) : zX d 175 160 ls (zI x :: zO (some a) :: st) A K = zX d 175 161 ls (zI ((ia A a).getD x.toNat 0) :: st) A K := zx_sald z175 dX4_findClosure_160 rfl h h0 h1
theorem s175_161 : zX d 175 161 [zO o, v1, v2, v3, v4] st A K = zX d 175 162 [zO o, v1, v2, v3, v4] (zO o :: st) A K := zx_aload_n z175 dX4_findClosure_161 rfl rfl
theorem s175_162 (h : tg A a = 9) : zX d 175 162 ls (zO (some a) :: st) A K = zX d 175 165 ls (fd A a 25 :: st) A K := zx_getf z175 zo175 dX4_findClosure_162 F10_66 rfl h
theorem s175_165 : zX d 175 165 [v0, v1, v2, zI x, v4] st A K = zX d 175 166 [v0, v1, v2, zI x, v4] (zI x :: st) A K := zx_iload_n z175 dX4_findClosure_165 rfl rfl
theorem s175_166 (h : tg A a = 20) (h0 : 0 ≤ x) (h1 : x.toNat < (ia A a).length) : zX d 175 166 ls (zI x :: zO (some a) :: st) A K = zX d 175 167 ls (zI ((ia A a).getD x.toNat 0) :: st) A K := zx_iald z175 dX4_findClosure_166 rfl h h0 h1
theorem s175_166s (h : tg A a = 30) (h0 : 0 ≤ x) (h1 : x.toNat < (ia A a).length) : zX d 175 166 ls (zI x :: zO (some a) :: st) A K = zX d 175 167 ls (zI ((ia A a).getD x.toNat 0) :: st) A K := zx_sald z175 dX4_findClosure_166 rfl h h0 h1
theorem s175_167 (h : tg A a = 9)  : zX (d + 1) 175 167 ls (zI i1 :: zI i0 :: zO (some a) :: [w0]) A K = zX d 178 0 [zO (some a), zI i0, zI i1, zU, zU, zU, zU, zU, zU] [] A (zK (d + 1) 175 167 170 ls [w0] K) := zx_callV (t := 9) z175 zo175 dX4_findClosure_167 rfl C10_256 rfl rfl zm178 rfl rfl (zwt_le (Nat.le_of_ble_eq_true rfl)) rfl h
theorem s175_170 (h : tg A a = 9)  : zX (d + 1) 175 170 ls (zI i0 :: zO (some a) :: []) A K = zX d 177 0 [zO (some a), zI i0] [] A (zK (d + 1) 175 170 173 ls [] K) := zx_callV (t := 9) z175 zo175 dX4_findClosure_170 rfl C10_253 rfl rfl zm177 rfl rfl (zwt_le (Nat.le_of_ble_eq_true rfl)) rfl h
theorem s175_173 : zX d 175 173 [zO o, v1, v2, v3, v4] st A K = zX d 175 174 [zO o, v1, v2, v3, v4] (zO o :: st) A K := zx_aload_n z175 dX4_findClosure_173 rfl rfl
theorem s175_174 : zX d 175 174 [zO o, v1, v2, v3, v4] st A K = zX d 175 175 [zO o, v1, v2, v3, v4] (zO o :: st) A K := zx_aload_n z175 dX4_findClosure_174 rfl rfl
theorem s175_175 : zX d 175 175 [zO o, v1, v2, v3, v4] st A K = zX d 175 176 [zO o, v1, v2, v3, v4] (zO o :: st) A K := zx_aload_n z175 dX4_findClosure_175 rfl rfl
theorem s175_176 (h : tg A a = 9) : zX d 175 176 ls (zO (some a) :: st) A K = zX d 175 179 ls (fd A a 25 :: st) A K := zx_getf z175 zo175 dX4_findClosure_176 F10_66 rfl h
theorem s175_179 : zX d 175 179 [v0, v1, v2, zI x, v4] st A K = zX d 175 180 [v0, v1, v2, zI x, v4] (zI x :: st) A K := zx_iload_n z175 dX4_findClosure_179 rfl rfl
theorem s175_180 (h : tg A a = 20) (h0 : 0 ≤ x) (h1 : x.toNat < (ia A a).length) : zX d 175 180 ls (zI x :: zO (some a) :: st) A K = zX d 175 181 ls (zI ((ia A a).getD x.toNat 0) :: st) A K := zx_iald z175 dX4_findClosure_180 rfl h h0 h1
theorem s175_180s (h : tg A a = 30) (h0 : 0 ≤ x) (h1 : x.toNat < (ia A a).length) : zX d 175 180 ls (zI x :: zO (some a) :: st) A K = zX d 175 181 ls (zI ((ia A a).getD x.toNat 0) :: st) A K := zx_sald z175 dX4_findClosure_180 rfl h h0 h1
theorem s175_181 : zX d 175 181 [zO o, v1, v2, v3, v4] st A K = zX d 175 182 [zO o, v1, v2, v3, v4] (zO o :: st) A K := zx_aload_n z175 dX4_findClosure_181 rfl rfl
theorem s175_182 (h : tg A a = 9) : zX d 175 182 ls (zO (some a) :: st) A K = zX d 175 185 ls (fd A a 25 :: st) A K := zx_getf z175 zo175 dX4_findClosure_182 F10_66 rfl h
theorem s175_185 : zX d 175 185 [v0, v1, zI x, v3, v4] st A K = zX d 175 186 [v0, v1, zI x, v3, v4] (zI x :: st) A K := zx_iload_n z175 dX4_findClosure_185 rfl rfl
theorem s175_186 (h : tg A a = 20) (h0 : 0 ≤ x) (h1 : x.toNat < (ia A a).length) : zX d 175 186 ls (zI x :: zO (some a) :: st) A K = zX d 175 187 ls (zI ((ia A a).getD x.toNat 0) :: st) A K := zx_iald z175 dX4_findClosure_186 rfl h h0 h1
theorem s175_186s (h : tg A a = 30) (h0 : 0 ≤ x) (h1 : x.toNat < (ia A a).length) : zX d 175 186 ls (zI x :: zO (some a) :: st) A K = zX d 175 187 ls (zI ((ia A a).getD x.toNat 0) :: st) A K := zx_sald z175 dX4_findClosure_186 rfl h h0 h1
theorem s175_187 (h : tg A a = 9)  : zX (d + 1) 175 187 ls (zI i1 :: zI i0 :: zO (some a) :: [w0]) A K = zX d 178 0 [zO (some a), zI i0, zI i1, zU, zU, zU, zU, zU, zU] [] A (zK (d + 1) 175 187 190 ls [w0] K) := zx_callV (t := 9) z175 zo175 dX4_findClosure_187 rfl C10_256 rfl rfl zm178 rfl rfl (zwt_le (Nat.le_of_ble_eq_true rfl)) rfl h
theorem s175_190 (h : tg A a = 9)  : zX (d + 1) 175 190 ls (zI i0 :: zO (some a) :: []) A K = zX d 177 0 [zO (some a), zI i0] [] A (zK (d + 1) 175 190 193 ls [] K) := zx_callV (t := 9) z175 zo175 dX4_findClosure_190 rfl C10_253 rfl rfl zm177 rfl rfl (zwt_le (Nat.le_of_ble_eq_true rfl)) rfl h
theorem s175_193 : zX d 175 193 [v0, v1, v2, zI x, v4] st A K = zX d 175 196 [v0, v1, v2, zI (zw (x + 1)), v4] st A K := zx_iinc z175 dX4_findClosure_193 rfl rfl rfl
theorem s175_196 : zX d 175 196 ls st A K = zX d 175 148 ls st A K := zx_goto z175 dX4_findClosure_196 rfl
theorem s175_199 : zX d 175 199 [v0, v1, zI x, v3, v4] st A K = zX d 175 202 [v0, v1, zI (zw (x + 1)), v3, v4] st A K := zx_iinc z175 dX4_findClosure_199 rfl rfl rfl
theorem s175_202 : zX d 175 202 ls st A K = zX d 175 128 ls st A K := zx_goto z175 dX4_findClosure_202 rfl
theorem s175_205 : zX d 175 205 ls st A K = zX d 175 206 ls (zI 0 :: st) A K := zx_const z175 dX4_findClosure_205 (by decide) rfl
theorem s175_206 : zX d 175 206 [v0, v1, v2, v3, v4] (zI x :: st) A K = zX d 175 207 [v0, v1, zI x, v3, v4] st A K := zx_istore_n z175 dX4_findClosure_206 (Nat.le_of_ble_eq_true rfl) rfl rfl
theorem s175_207 : zX d 175 207 [v0, v1, zI x, v3, v4] st A K = zX d 175 208 [v0, v1, zI x, v3, v4] (zI x :: st) A K := zx_iload_n z175 dX4_findClosure_207 rfl rfl
theorem s175_208 : zX d 175 208 [zO o, v1, v2, v3, v4] st A K = zX d 175 209 [zO o, v1, v2, v3, v4] (zO o :: st) A K := zx_aload_n z175 dX4_findClosure_208 rfl rfl
theorem s175_209 (h : tg A a = 9) : zX d 175 209 ls (zO (some a) :: st) A K = zX d 175 212 ls (fd A a 29 :: st) A K := zx_getf z175 zo175 dX4_findClosure_209 F10_250 rfl h
theorem s175_212 : zX d 175 212 ls (zI y :: zI x :: st) A K = (if y ≤ x then zX d 175 233 ls st A K else zX d 175 215 ls st A K) := zx_ic_ge z175 dX4_findClosure_212 rfl rfl
theorem s175_215 : zX d 175 215 [zO o, v1, v2, v3, v4] st A K = zX d 175 216 [zO o, v1, v2, v3, v4] (zO o :: st) A K := zx_aload_n z175 dX4_findClosure_215 rfl rfl
theorem s175_216 (h : tg A a = 9) : zX d 175 216 ls (zO (some a) :: st) A K = zX d 175 219 ls (fd A a 28 :: st) A K := zx_getf z175 zo175 dX4_findClosure_216 F10_76 rfl h
theorem s175_219 : zX d 175 219 [zO o, v1, v2, v3, v4] st A K = zX d 175 220 [zO o, v1, v2, v3, v4] (zO o :: st) A K := zx_aload_n z175 dX4_findClosure_219 rfl rfl
theorem s175_220 (h : tg A a = 9) : zX d 175 220 ls (zO (some a) :: st) A K = zX d 175 223 ls (fd A a 25 :: st) A K := zx_getf z175 zo175 dX4_findClosure_220 F10_66 rfl h
theorem s175_223 : zX d 175 223 [v0, v1, zI x, v3, v4] st A K = zX d 175 224 [v0, v1, zI x, v3, v4] (zI x :: st) A K := zx_iload_n z175 dX4_findClosure_223 rfl rfl
theorem s175_224 (h : tg A a = 20) (h0 : 0 ≤ x) (h1 : x.toNat < (ia A a).length) : zX d 175 224 ls (zI x :: zO (some a) :: st) A K = zX d 175 225 ls (zI ((ia A a).getD x.toNat 0) :: st) A K := zx_iald z175 dX4_findClosure_224 rfl h h0 h1
theorem s175_224s (h : tg A a = 30) (h0 : 0 ≤ x) (h1 : x.toNat < (ia A a).length) : zX d 175 224 ls (zI x :: zO (some a) :: st) A K = zX d 175 225 ls (zI ((ia A a).getD x.toNat 0) :: st) A K := zx_sald z175 dX4_findClosure_224 rfl h h0 h1
theorem s175_225 : zX d 175 225 ls st A K = zX d 175 226 ls (zI 0 :: st) A K := zx_const z175 dX4_findClosure_225 (by decide) rfl
theorem s175_226 (h : tg A a = 21) (h0 : 0 ≤ x) (h1 : x.toNat < (ia A a).length) : zX d 175 226 ls (zI y :: zI x :: zO (some a) :: st) A K = zX d 175 227 ls st (pI A a ((ia A a).set x.toNat (zhb y))) K := zx_bast z175 dX4_findClosure_226 rfl h h0 h1
theorem s175_226z (h : tg A a = 22) (h2 : y = 0 ∨ y = 1) (h0 : 0 ≤ x) (h1 : x.toNat < (ia A a).length) : zX d 175 226 ls (zI y :: zI x :: zO (some a) :: st) A K = zX d 175 227 ls st (pI A a ((ia A a).set x.toNat y)) K := zx_zast z175 dX4_findClosure_226 rfl h h2 h0 h1
theorem s175_227 : zX d 175 227 [v0, v1, zI x, v3, v4] st A K = zX d 175 230 [v0, v1, zI (zw (x + 1)), v3, v4] st A K := zx_iinc z175 dX4_findClosure_227 rfl rfl rfl
theorem s175_230 : zX d 175 230 ls st A K = zX d 175 207 ls st A K := zx_goto z175 dX4_findClosure_230 rfl
theorem s175_233 : zX d 175 233 [zO o, v1, v2, v3, v4] st A K = zX d 175 234 [zO o, v1, v2, v3, v4] (zO o :: st) A K := zx_aload_n z175 dX4_findClosure_233 rfl rfl
theorem s175_234 (h : tg A a = 9) : zX d 175 234 ls (zO (some a) :: st) A K = zX d 175 237 ls (fd A a 29 :: st) A K := zx_getf z175 zo175 dX4_findClosure_234 F10_250 rfl h
theorem s175_237 : zX d 175 237 ls st A K = zX d 175 240 ls (zI (400) :: st) A K := zx_sipush z175 dX4_findClosure_237 (by decide) rfl
theorem s175_240 : zX d 175 240 ls (zI y :: zI x :: st) A K = (if y < x then zX d 175 247 ls st A K else zX d 175 243 ls st A K) := zx_ic_gt z175 dX4_findClosure_240 rfl rfl
theorem s175_243 : zX d 175 243 ls st A K = zX d 175 244 ls (zI 1 :: st) A K := zx_const z175 dX4_findClosure_243 (by decide) rfl
theorem s175_244 : zX d 175 244 ls st A K = zX d 175 248 ls st A K := zx_goto z175 dX4_findClosure_244 rfl
theorem s175_247 : zX d 175 247 ls st A K = zX d 175 248 ls (zI 0 :: st) A K := zx_const z175 dX4_findClosure_247 (by decide) rfl
theorem s175_248 (h : x = 0 ∨ x = 1) : zX d 175 248 ls [zI x] A K = K (Sum.inl (some (zI x))) A := zx_iret z175 dX4_findClosure_248 zk175 (by rcases h with q | q <;> subst q <;> rfl)
theorem s176_0 : zX d 176 0 [zI x, v1, v2, v3] st A K = zX d 176 1 [zI x, v1, v2, v3] (zI x :: st) A K := zx_iload_n z176 dX4_encode_0 rfl rfl
theorem s176_1 : zX d 176 1 [v0, v1, v2, v3] (zI x :: st) A K = zX d 176 2 [v0, v1, zI x, v3] st A K := zx_istore_n z176 dX4_encode_1 (Nat.le_of_ble_eq_true rfl) rfl rfl
theorem s176_2 : zX d 176 2 ls st A K = zX d 176 4 ls (zI (8) :: st) A K := zx_bipush z176 dX4_encode_2 (by decide) rfl
theorem s176_4 : zX d 176 4 [v0, v1, v2, v3] (zI x :: st) A K = zX d 176 5 [v0, v1, v2, zI x] st A K := zx_istore_n z176 dX4_encode_4 (Nat.le_of_ble_eq_true rfl) rfl rfl
theorem s176_5 : zX d 176 5 [v0, v1, v2, zI x] st A K = zX d 176 6 [v0, v1, v2, zI x] (zI x :: st) A K := zx_iload_n z176 dX4_encode_5 rfl rfl
theorem s176_6 : zX d 176 6 ls (zI x :: st) A K = (if x < 0 then zX d 176 23 ls st A K else zX d 176 9 ls st A K) := zx_if_lt z176 dX4_encode_6 rfl rfl
theorem s176_9 : zX d 176 9 ls st A K = zX d 176 10 ls (zI 3 :: st) A K := zx_const z176 dX4_encode_9 (by decide) rfl
theorem s176_10 : zX d 176 10 [v0, v1, zI x, v3] st A K = zX d 176 11 [v0, v1, zI x, v3] (zI x :: st) A K := zx_iload_n z176 dX4_encode_10 rfl rfl
theorem s176_11 : zX d 176 11 ls (zI y :: zI x :: st) A K = zX d 176 12 ls (zI (zw (x * y)) :: st) A K := zx_imul z176 dX4_encode_11 rfl
theorem s176_12 : zX d 176 12 [v0, zO o, v2, v3] st A K = zX d 176 13 [v0, zO o, v2, v3] (zO o :: st) A K := zx_aload_n z176 dX4_encode_12 rfl rfl
theorem s176_13 : zX d 176 13 [v0, v1, v2, zI x] st A K = zX d 176 14 [v0, v1, v2, zI x] (zI x :: st) A K := zx_iload_n z176 dX4_encode_13 rfl rfl
theorem s176_14 (h : tg A a = 20) (h0 : 0 ≤ x) (h1 : x.toNat < (ia A a).length) : zX d 176 14 ls (zI x :: zO (some a) :: st) A K = zX d 176 15 ls (zI ((ia A a).getD x.toNat 0) :: st) A K := zx_iald z176 dX4_encode_14 rfl h h0 h1
theorem s176_14s (h : tg A a = 30) (h0 : 0 ≤ x) (h1 : x.toNat < (ia A a).length) : zX d 176 14 ls (zI x :: zO (some a) :: st) A K = zX d 176 15 ls (zI ((ia A a).getD x.toNat 0) :: st) A K := zx_sald z176 dX4_encode_14 rfl h h0 h1
theorem s176_15 : zX d 176 15 ls (zI y :: zI x :: st) A K = zX d 176 16 ls (zI (zw (x + y)) :: st) A K := zx_iadd z176 dX4_encode_15 rfl
theorem s176_16 : zX d 176 16 [v0, v1, v2, v3] (zI x :: st) A K = zX d 176 17 [v0, v1, zI x, v3] st A K := zx_istore_n z176 dX4_encode_16 (Nat.le_of_ble_eq_true rfl) rfl rfl
theorem s176_17 : zX d 176 17 [v0, v1, v2, zI x] st A K = zX d 176 20 [v0, v1, v2, zI (zw (x + (-1)))] st A K := zx_iinc z176 dX4_encode_17 rfl rfl rfl
theorem s176_20 : zX d 176 20 ls st A K = zX d 176 5 ls st A K := zx_goto z176 dX4_encode_20 rfl
theorem s176_23 : zX d 176 23 [v0, v1, zI x, v3] st A K = zX d 176 24 [v0, v1, zI x, v3] (zI x :: st) A K := zx_iload_n z176 dX4_encode_23 rfl rfl
theorem s176_24 : zX d 176 24 ls [zI x] A K = K (Sum.inl (some (zI x))) A := zx_iret z176 dX4_encode_24 zk176 rfl
theorem s177_0 : zX d 177 0 [v0, zI x] st A K = zX d 177 1 [v0, zI x] (zI x :: st) A K := zx_iload_n z177 dX4_addGraph_0 rfl rfl
theorem s177_1 : zX d 177 1 ls (zI x :: st) A K = (if x < 0 then zX d 177 50 ls st A K else zX d 177 4 ls st A K) := zx_if_lt z177 dX4_addGraph_1 rfl rfl
theorem s177_4 : zX d 177 4 [zO o, v1] st A K = zX d 177 5 [zO o, v1] (zO o :: st) A K := zx_aload_n z177 dX4_addGraph_4 rfl rfl
theorem s177_5 (h : tg A a = 9) : zX d 177 5 ls (zO (some a) :: st) A K = zX d 177 8 ls (fd A a 29 :: st) A K := zx_getf z177 zo177 dX4_addGraph_5 F10_250 rfl h
theorem s177_8 : zX d 177 8 ls st A K = zX d 177 11 ls (zI (400) :: st) A K := zx_sipush z177 dX4_addGraph_8 (by decide) rfl
theorem s177_11 : zX d 177 11 ls (zI y :: zI x :: st) A K = (if y < x then zX d 177 50 ls st A K else zX d 177 14 ls st A K) := zx_ic_gt z177 dX4_addGraph_11 rfl rfl
theorem s177_14 : zX d 177 14 [zO o, v1] st A K = zX d 177 15 [zO o, v1] (zO o :: st) A K := zx_aload_n z177 dX4_addGraph_14 rfl rfl
theorem s177_15 (h : tg A a = 9) : zX d 177 15 ls (zO (some a) :: st) A K = zX d 177 18 ls (fd A a 28 :: st) A K := zx_getf z177 zo177 dX4_addGraph_15 F10_76 rfl h
theorem s177_18 : zX d 177 18 [v0, zI x] st A K = zX d 177 19 [v0, zI x] (zI x :: st) A K := zx_iload_n z177 dX4_addGraph_18 rfl rfl
theorem s177_19 (h : tg A a = 21) (h0 : 0 ≤ x) (h1 : x.toNat < (ia A a).length) : zX d 177 19 ls (zI x :: zO (some a) :: st) A K = zX d 177 20 ls (zI ((ia A a).getD x.toNat 0) :: st) A K := zx_bald z177 dX4_addGraph_19 rfl h h0 h1
theorem s177_19z (h : tg A a = 22) (h0 : 0 ≤ x) (h1 : x.toNat < (ia A a).length) : zX d 177 19 ls (zI x :: zO (some a) :: st) A K = zX d 177 20 ls (zI ((ia A a).getD x.toNat 0) :: st) A K := zx_zald z177 dX4_addGraph_19 rfl h h0 h1
theorem s177_20 : zX d 177 20 ls (zI x :: st) A K = (if x ≠ 0 then zX d 177 50 ls st A K else zX d 177 23 ls st A K) := zx_if_ne z177 dX4_addGraph_20 rfl rfl
theorem s177_23 : zX d 177 23 [zO o, v1] st A K = zX d 177 24 [zO o, v1] (zO o :: st) A K := zx_aload_n z177 dX4_addGraph_23 rfl rfl
theorem s177_24 (h : tg A a = 9) : zX d 177 24 ls (zO (some a) :: st) A K = zX d 177 27 ls (fd A a 28 :: st) A K := zx_getf z177 zo177 dX4_addGraph_24 F10_76 rfl h
theorem s177_27 : zX d 177 27 [v0, zI x] st A K = zX d 177 28 [v0, zI x] (zI x :: st) A K := zx_iload_n z177 dX4_addGraph_27 rfl rfl
theorem s177_28 : zX d 177 28 ls st A K = zX d 177 29 ls (zI 1 :: st) A K := zx_const z177 dX4_addGraph_28 (by decide) rfl
theorem s177_29 (h : tg A a = 21) (h0 : 0 ≤ x) (h1 : x.toNat < (ia A a).length) : zX d 177 29 ls (zI y :: zI x :: zO (some a) :: st) A K = zX d 177 30 ls st (pI A a ((ia A a).set x.toNat (zhb y))) K := zx_bast z177 dX4_addGraph_29 rfl h h0 h1
theorem s177_29z (h : tg A a = 22) (h2 : y = 0 ∨ y = 1) (h0 : 0 ≤ x) (h1 : x.toNat < (ia A a).length) : zX d 177 29 ls (zI y :: zI x :: zO (some a) :: st) A K = zX d 177 30 ls st (pI A a ((ia A a).set x.toNat y)) K := zx_zast z177 dX4_addGraph_29 rfl h h2 h0 h1
theorem s177_30 : zX d 177 30 [zO o, v1] st A K = zX d 177 31 [zO o, v1] (zO o :: st) A K := zx_aload_n z177 dX4_addGraph_30 rfl rfl
theorem s177_31 (h : tg A a = 9) : zX d 177 31 ls (zO (some a) :: st) A K = zX d 177 34 ls (fd A a 25 :: st) A K := zx_getf z177 zo177 dX4_addGraph_31 F10_66 rfl h
theorem s177_34 : zX d 177 34 [zO o, v1] st A K = zX d 177 35 [zO o, v1] (zO o :: st) A K := zx_aload_n z177 dX4_addGraph_34 rfl rfl
theorem s177_35 (h : tg A a = 9) : zX d 177 35 ls (zO (some a) :: st) A K = zX d 177 38 ls (fd A a 29 :: st) A K := zx_getf z177 zo177 dX4_addGraph_35 F10_250 rfl h
theorem s177_38 : zX d 177 38 [v0, zI x] st A K = zX d 177 39 [v0, zI x] (zI x :: st) A K := zx_iload_n z177 dX4_addGraph_38 rfl rfl
theorem s177_39 (h : tg A a = 20) (h0 : 0 ≤ x) (h1 : x.toNat < (ia A a).length) : zX d 177 39 ls (zI y :: zI x :: zO (some a) :: st) A K = zX d 177 40 ls st (pI A a ((ia A a).set x.toNat y)) K := zx_iast z177 dX4_addGraph_39 rfl h h0 h1
theorem s177_40 : zX d 177 40 [zO o, v1] st A K = zX d 177 41 [zO o, v1] (zO o :: st) A K := zx_aload_n z177 dX4_addGraph_40 rfl rfl
theorem s177_41 (h : zc v = true) : zX d 177 41 ls (v :: st) A K = zX d 177 42 ls (v :: v :: st) A K := zx_dup z177 dX4_addGraph_41 rfl h
theorem s177_42 (h : tg A a = 9) : zX d 177 42 ls (zO (some a) :: st) A K = zX d 177 45 ls (fd A a 29 :: st) A K := zx_getf z177 zo177 dX4_addGraph_42 F10_250 rfl h
theorem s177_45 : zX d 177 45 ls st A K = zX d 177 46 ls (zI 1 :: st) A K := zx_const z177 dX4_addGraph_45 (by decide) rfl
theorem s177_46 : zX d 177 46 ls (zI y :: zI x :: st) A K = zX d 177 47 ls (zI (zw (x + y)) :: st) A K := zx_iadd z177 dX4_addGraph_46 rfl
theorem s177_47 (h : tg A a = 9) : zX d 177 47 ls (zI x :: zO (some a) :: st) A K = zX d 177 50 ls st (pF A a 29 (zI x)) K := zx_putf (q := 0) z177 zo177 dX4_addGraph_47 F10_250 rfl rfl rfl h rfl
theorem s177_50 : zX d 177 50 ls [] A K = K (Sum.inl none) A := zx_vret z177 dX4_addGraph_50 rfl
theorem s178_0 : zX d 178 0 [v0, zI x, v2, v3, v4, v5, v6, v7, v8] st A K = zX d 178 1 [v0, zI x, v2, v3, v4, v5, v6, v7, v8] (zI x :: st) A K := zx_iload_n z178 dX4_compose_0 rfl rfl
theorem s178_1 : zX (d + 1) 178 1 ls (zI i0 :: []) A K = zX d 179 0 [zI i0] [] A (zK (d + 1) 178 1 4 ls [] K) := zx_callS z178 zo178 dX4_compose_1 rfl C10_233 rfl rfl zm179 rfl rfl (zwt_le (Nat.le_of_ble_eq_true rfl)) rfl
theorem s178_4 : zX d 178 4 ls st A K = zX d 178 5 ls (zI 3 :: st) A K := zx_const z178 dX4_compose_4 (by decide) rfl
theorem s178_5 (h : y ≠ 0) : zX d 178 5 ls (zI y :: zI x :: st) A K = zX d 178 6 ls (zI (Int32.ofInt x - Int32.ofInt x / Int32.ofInt y * Int32.ofInt y).toInt :: st) A K := zx_irem z178 dX4_compose_5 rfl h
theorem s178_6 : zX d 178 6 [v0, v1, zI x, v3, v4, v5, v6, v7, v8] st A K = zX d 178 7 [v0, v1, zI x, v3, v4, v5, v6, v7, v8] (zI x :: st) A K := zx_iload_n z178 dX4_compose_6 rfl rfl
theorem s178_7 : zX (d + 1) 178 7 ls (zI i0 :: [w0]) A K = zX d 179 0 [zI i0] [] A (zK (d + 1) 178 7 10 ls [w0] K) := zx_callS z178 zo178 dX4_compose_7 rfl C10_233 rfl rfl zm179 rfl rfl (zwt_le (Nat.le_of_ble_eq_true rfl)) rfl
theorem s178_10 : zX d 178 10 ls st A K = zX d 178 11 ls (zI 3 :: st) A K := zx_const z178 dX4_compose_10 (by decide) rfl
theorem s178_11 (h : y ≠ 0) : zX d 178 11 ls (zI y :: zI x :: st) A K = zX d 178 12 ls (zI (Int32.ofInt x / Int32.ofInt y).toInt :: st) A K := zx_idiv z178 dX4_compose_11 rfl h
theorem s178_12 : zX d 178 12 ls (zI y :: zI x :: st) A K = (if x = y then zX d 178 18 ls st A K else zX d 178 15 ls st A K) := zx_ic_eq z178 dX4_compose_12 rfl rfl
theorem s178_15 : zX d 178 15 ls st A K = zX d 178 17 ls (zI (-5) :: st) A K := zx_bipush z178 dX4_compose_15 (by decide) rfl
theorem s178_17 : zX d 178 17 ls [zI x] A K = K (Sum.inl (some (zI x))) A := zx_iret z178 dX4_compose_17 zk178 rfl
theorem s178_18 : zX d 178 18 [v0, zI x, v2, v3, v4, v5, v6, v7, v8] st A K = zX d 178 19 [v0, zI x, v2, v3, v4, v5, v6, v7, v8] (zI x :: st) A K := zx_iload_n z178 dX4_compose_18 rfl rfl
theorem s178_19 : zX d 178 19 [zO o, v1, v2, v3, v4, v5, v6, v7, v8] st A K = zX d 178 20 [zO o, v1, v2, v3, v4, v5, v6, v7, v8] (zO o :: st) A K := zx_aload_n z178 dX4_compose_19 rfl rfl
theorem s178_20 (h : tg A a = 9) : zX d 178 20 ls (zO (some a) :: st) A K = zX d 178 23 ls (fd A a 26 :: st) A K := zx_getf z178 zo178 dX4_compose_20 F10_69 rfl h
theorem s178_23 : zX (d + 1) 178 23 ls (zO o1 :: zI i0 :: []) A K = zX d 180 0 [zI i0, zO o1, zU, zU] [] A (zK (d + 1) 178 23 26 ls [] K) := zx_callS z178 zo178 dX4_compose_23 rfl C10_236 rfl rfl zm180 rfl rfl (zwt_le (Nat.le_of_ble_eq_true rfl)) rfl
theorem s178_26 : zX d 178 26 [v0, v1, zI x, v3, v4, v5, v6, v7, v8] st A K = zX d 178 27 [v0, v1, zI x, v3, v4, v5, v6, v7, v8] (zI x :: st) A K := zx_iload_n z178 dX4_compose_26 rfl rfl
theorem s178_27 : zX d 178 27 [zO o, v1, v2, v3, v4, v5, v6, v7, v8] st A K = zX d 178 28 [zO o, v1, v2, v3, v4, v5, v6, v7, v8] (zO o :: st) A K := zx_aload_n z178 dX4_compose_27 rfl rfl
theorem s178_28 (h : tg A a = 9) : zX d 178 28 ls (zO (some a) :: st) A K = zX d 178 31 ls (fd A a 27 :: st) A K := zx_getf z178 zo178 dX4_compose_28 F10_72 rfl h
theorem s178_31 : zX (d + 1) 178 31 ls (zO o1 :: zI i0 :: []) A K = zX d 180 0 [zI i0, zO o1, zU, zU] [] A (zK (d + 1) 178 31 34 ls [] K) := zx_callS z178 zo178 dX4_compose_31 rfl C10_236 rfl rfl zm180 rfl rfl (zwt_le (Nat.le_of_ble_eq_true rfl)) rfl
theorem s178_34 : zX d 178 34 ls st A K = zX d 178 35 ls (zI 0 :: st) A K := zx_const z178 dX4_compose_34 (by decide) rfl
theorem s178_35 : zX d 178 35 [v0, v1, v2, v3, v4, v5, v6, v7, v8] (zI x :: st) A K = zX d 178 36 [v0, v1, v2, zI x, v4, v5, v6, v7, v8] st A K := zx_istore_n z178 dX4_compose_35 (Nat.le_of_ble_eq_true rfl) rfl rfl
theorem s178_36 : zX d 178 36 [v0, v1, v2, zI x, v4, v5, v6, v7, v8] st A K = zX d 178 37 [v0, v1, v2, zI x, v4, v5, v6, v7, v8] (zI x :: st) A K := zx_iload_n z178 dX4_compose_36 rfl rfl
theorem s178_37 : zX d 178 37 ls st A K = zX d 178 38 ls (zI 3 :: st) A K := zx_const z178 dX4_compose_37 (by decide) rfl
theorem s178_38 : zX d 178 38 ls (zI y :: zI x :: st) A K = (if y ≤ x then zX d 178 148 ls st A K else zX d 178 41 ls st A K) := zx_ic_ge z178 dX4_compose_38 rfl rfl
theorem s178_41 : zX d 178 41 ls st A K = zX d 178 42 ls (zI 0 :: st) A K := zx_const z178 dX4_compose_41 (by decide) rfl
theorem s178_42 : zX d 178 42 [v0, v1, v2, v3, v4, v5, v6, v7, v8] (zI x :: st) A K = zX d 178 44 [v0, v1, v2, v3, zI x, v5, v6, v7, v8] st A K := zx_istore z178 dX4_compose_42 (Nat.le_of_ble_eq_true rfl) rfl rfl
theorem s178_44 : zX d 178 44 [v0, v1, v2, v3, zI x, v5, v6, v7, v8] st A K = zX d 178 46 [v0, v1, v2, v3, zI x, v5, v6, v7, v8] (zI x :: st) A K := zx_iload z178 dX4_compose_44 rfl rfl
theorem s178_46 : zX d 178 46 ls st A K = zX d 178 47 ls (zI 3 :: st) A K := zx_const z178 dX4_compose_46 (by decide) rfl
theorem s178_47 : zX d 178 47 ls (zI y :: zI x :: st) A K = (if y ≤ x then zX d 178 142 ls st A K else zX d 178 50 ls st A K) := zx_ic_ge z178 dX4_compose_47 rfl rfl
theorem s178_50 : zX d 178 50 ls st A K = zX d 178 51 ls (zI 0 :: st) A K := zx_const z178 dX4_compose_50 (by decide) rfl
theorem s178_51 : zX d 178 51 [v0, v1, v2, v3, v4, v5, v6, v7, v8] (zI x :: st) A K = zX d 178 53 [v0, v1, v2, v3, v4, zI x, v6, v7, v8] st A K := zx_istore z178 dX4_compose_51 (Nat.le_of_ble_eq_true rfl) rfl rfl
theorem s178_53 : zX d 178 53 ls st A K = zX d 178 54 ls (zI 0 :: st) A K := zx_const z178 dX4_compose_53 (by decide) rfl
theorem s178_54 : zX d 178 54 [v0, v1, v2, v3, v4, v5, v6, v7, v8] (zI x :: st) A K = zX d 178 56 [v0, v1, v2, v3, v4, v5, zI x, v7, v8] st A K := zx_istore z178 dX4_compose_54 (Nat.le_of_ble_eq_true rfl) rfl rfl
theorem s178_56 : zX d 178 56 [v0, v1, v2, v3, v4, v5, zI x, v7, v8] st A K = zX d 178 58 [v0, v1, v2, v3, v4, v5, zI x, v7, v8] (zI x :: st) A K := zx_iload z178 dX4_compose_56 rfl rfl
theorem s178_58 : zX d 178 58 ls st A K = zX d 178 59 ls (zI 3 :: st) A K := zx_const z178 dX4_compose_58 (by decide) rfl
theorem s178_59 : zX d 178 59 ls (zI y :: zI x :: st) A K = (if y ≤ x then zX d 178 123 ls st A K else zX d 178 62 ls st A K) := zx_ic_ge z178 dX4_compose_59 rfl rfl
theorem s178_62 : zX d 178 62 [zO o, v1, v2, v3, v4, v5, v6, v7, v8] st A K = zX d 178 63 [zO o, v1, v2, v3, v4, v5, v6, v7, v8] (zO o :: st) A K := zx_aload_n z178 dX4_compose_62 rfl rfl
theorem s178_63 (h : tg A a = 9) : zX d 178 63 ls (zO (some a) :: st) A K = zX d 178 66 ls (fd A a 26 :: st) A K := zx_getf z178 zo178 dX4_compose_63 F10_69 rfl h
theorem s178_66 : zX d 178 66 ls st A K = zX d 178 67 ls (zI 3 :: st) A K := zx_const z178 dX4_compose_66 (by decide) rfl
theorem s178_67 : zX d 178 67 [v0, v1, v2, zI x, v4, v5, v6, v7, v8] st A K = zX d 178 68 [v0, v1, v2, zI x, v4, v5, v6, v7, v8] (zI x :: st) A K := zx_iload_n z178 dX4_compose_67 rfl rfl
theorem s178_68 : zX d 178 68 ls (zI y :: zI x :: st) A K = zX d 178 69 ls (zI (zw (x * y)) :: st) A K := zx_imul z178 dX4_compose_68 rfl
theorem s178_69 : zX d 178 69 [v0, v1, v2, v3, v4, v5, zI x, v7, v8] st A K = zX d 178 71 [v0, v1, v2, v3, v4, v5, zI x, v7, v8] (zI x :: st) A K := zx_iload z178 dX4_compose_69 rfl rfl
theorem s178_71 : zX d 178 71 ls (zI y :: zI x :: st) A K = zX d 178 72 ls (zI (zw (x + y)) :: st) A K := zx_iadd z178 dX4_compose_71 rfl
theorem s178_72 (h : tg A a = 20) (h0 : 0 ≤ x) (h1 : x.toNat < (ia A a).length) : zX d 178 72 ls (zI x :: zO (some a) :: st) A K = zX d 178 73 ls (zI ((ia A a).getD x.toNat 0) :: st) A K := zx_iald z178 dX4_compose_72 rfl h h0 h1
theorem s178_72s (h : tg A a = 30) (h0 : 0 ≤ x) (h1 : x.toNat < (ia A a).length) : zX d 178 72 ls (zI x :: zO (some a) :: st) A K = zX d 178 73 ls (zI ((ia A a).getD x.toNat 0) :: st) A K := zx_sald z178 dX4_compose_72 rfl h h0 h1
theorem s178_73 : zX d 178 73 [v0, v1, v2, v3, v4, v5, v6, v7, v8] (zI x :: st) A K = zX d 178 75 [v0, v1, v2, v3, v4, v5, v6, zI x, v8] st A K := zx_istore z178 dX4_compose_73 (Nat.le_of_ble_eq_true rfl) rfl rfl
theorem s178_75 : zX d 178 75 [zO o, v1, v2, v3, v4, v5, v6, v7, v8] st A K = zX d 178 76 [zO o, v1, v2, v3, v4, v5, v6, v7, v8] (zO o :: st) A K := zx_aload_n z178 dX4_compose_75 rfl rfl
theorem s178_76 (h : tg A a = 9) : zX d 178 76 ls (zO (some a) :: st) A K = zX d 178 79 ls (fd A a 27 :: st) A K := zx_getf z178 zo178 dX4_compose_76 F10_72 rfl h
theorem s178_79 : zX d 178 79 ls st A K = zX d 178 80 ls (zI 3 :: st) A K := zx_const z178 dX4_compose_79 (by decide) rfl
theorem s178_80 : zX d 178 80 [v0, v1, v2, v3, v4, v5, zI x, v7, v8] st A K = zX d 178 82 [v0, v1, v2, v3, v4, v5, zI x, v7, v8] (zI x :: st) A K := zx_iload z178 dX4_compose_80 rfl rfl
theorem s178_82 : zX d 178 82 ls (zI y :: zI x :: st) A K = zX d 178 83 ls (zI (zw (x * y)) :: st) A K := zx_imul z178 dX4_compose_82 rfl
theorem s178_83 : zX d 178 83 [v0, v1, v2, v3, zI x, v5, v6, v7, v8] st A K = zX d 178 85 [v0, v1, v2, v3, zI x, v5, v6, v7, v8] (zI x :: st) A K := zx_iload z178 dX4_compose_83 rfl rfl
theorem s178_85 : zX d 178 85 ls (zI y :: zI x :: st) A K = zX d 178 86 ls (zI (zw (x + y)) :: st) A K := zx_iadd z178 dX4_compose_85 rfl
theorem s178_86 (h : tg A a = 20) (h0 : 0 ≤ x) (h1 : x.toNat < (ia A a).length) : zX d 178 86 ls (zI x :: zO (some a) :: st) A K = zX d 178 87 ls (zI ((ia A a).getD x.toNat 0) :: st) A K := zx_iald z178 dX4_compose_86 rfl h h0 h1
theorem s178_86s (h : tg A a = 30) (h0 : 0 ≤ x) (h1 : x.toNat < (ia A a).length) : zX d 178 86 ls (zI x :: zO (some a) :: st) A K = zX d 178 87 ls (zI ((ia A a).getD x.toNat 0) :: st) A K := zx_sald z178 dX4_compose_86 rfl h h0 h1
theorem s178_87 : zX d 178 87 [v0, v1, v2, v3, v4, v5, v6, v7, v8] (zI x :: st) A K = zX d 178 89 [v0, v1, v2, v3, v4, v5, v6, v7, zI x] st A K := zx_istore z178 dX4_compose_87 (Nat.le_of_ble_eq_true rfl) rfl rfl
theorem s178_89 : zX d 178 89 [v0, v1, v2, v3, v4, zI x, v6, v7, v8] st A K = zX d 178 91 [v0, v1, v2, v3, v4, zI x, v6, v7, v8] (zI x :: st) A K := zx_iload z178 dX4_compose_89 rfl rfl
theorem s178_91 : zX d 178 91 [v0, v1, v2, v3, v4, v5, v6, zI x, v8] st A K = zX d 178 93 [v0, v1, v2, v3, v4, v5, v6, zI x, v8] (zI x :: st) A K := zx_iload z178 dX4_compose_91 rfl rfl
theorem s178_93 : zX d 178 93 ls (zI x :: st) A K = (if x = 0 then zX d 178 101 ls st A K else zX d 178 96 ls st A K) := zx_if_eq z178 dX4_compose_93 rfl rfl
theorem s178_96 : zX d 178 96 [v0, v1, v2, v3, v4, v5, v6, v7, zI x] st A K = zX d 178 98 [v0, v1, v2, v3, v4, v5, v6, v7, zI x] (zI x :: st) A K := zx_iload z178 dX4_compose_96 rfl rfl
theorem s178_98 : zX d 178 98 ls (zI x :: st) A K = (if x ≠ 0 then zX d 178 105 ls st A K else zX d 178 101 ls st A K) := zx_if_ne z178 dX4_compose_98 rfl rfl
theorem s178_101 : zX d 178 101 ls st A K = zX d 178 102 ls (zI 0 :: st) A K := zx_const z178 dX4_compose_101 (by decide) rfl
theorem s178_102 : zX d 178 102 ls st A K = zX d 178 112 ls st A K := zx_goto z178 dX4_compose_102 rfl
theorem s178_105 : zX d 178 105 [v0, v1, v2, v3, v4, v5, v6, zI x, v8] st A K = zX d 178 107 [v0, v1, v2, v3, v4, v5, v6, zI x, v8] (zI x :: st) A K := zx_iload z178 dX4_compose_105 rfl rfl
theorem s178_107 : zX d 178 107 [v0, v1, v2, v3, v4, v5, v6, v7, zI x] st A K = zX d 178 109 [v0, v1, v2, v3, v4, v5, v6, v7, zI x] (zI x :: st) A K := zx_iload z178 dX4_compose_107 rfl rfl
theorem s178_109 : zX (d + 1) 178 109 ls (zI i1 :: zI i0 :: [w0]) A K = zX d 277 0 [zI i0, zI i1] [] A (zK (d + 1) 178 109 112 ls [w0] K) := zx_callS z178 zo178 dX4_compose_109 rfl C10_240 rfl rfl zm277 rfl rfl (zwt_le (Nat.le_of_ble_eq_true rfl)) rfl
theorem s178_112 : zX (d + 1) 178 112 ls (zI i1 :: zI i0 :: []) A K = zX d 277 0 [zI i0, zI i1] [] A (zK (d + 1) 178 112 115 ls [] K) := zx_callS z178 zo178 dX4_compose_112 rfl C10_240 rfl rfl zm277 rfl rfl (zwt_le (Nat.le_of_ble_eq_true rfl)) rfl
theorem s178_115 : zX d 178 115 [v0, v1, v2, v3, v4, v5, v6, v7, v8] (zI x :: st) A K = zX d 178 117 [v0, v1, v2, v3, v4, zI x, v6, v7, v8] st A K := zx_istore z178 dX4_compose_115 (Nat.le_of_ble_eq_true rfl) rfl rfl
theorem s178_117 : zX d 178 117 [v0, v1, v2, v3, v4, v5, zI x, v7, v8] st A K = zX d 178 120 [v0, v1, v2, v3, v4, v5, zI (zw (x + 1)), v7, v8] st A K := zx_iinc z178 dX4_compose_117 rfl rfl rfl
theorem s178_120 : zX d 178 120 ls st A K = zX d 178 56 ls st A K := zx_goto z178 dX4_compose_120 rfl
theorem s178_123 : zX d 178 123 [zO o, v1, v2, v3, v4, v5, v6, v7, v8] st A K = zX d 178 124 [zO o, v1, v2, v3, v4, v5, v6, v7, v8] (zO o :: st) A K := zx_aload_n z178 dX4_compose_123 rfl rfl
theorem s178_124 (h : tg A a = 9) : zX d 178 124 ls (zO (some a) :: st) A K = zX d 178 127 ls (fd A a 30 :: st) A K := zx_getf z178 zo178 dX4_compose_124 F10_79 rfl h
theorem s178_127 : zX d 178 127 ls st A K = zX d 178 128 ls (zI 3 :: st) A K := zx_const z178 dX4_compose_127 (by decide) rfl
theorem s178_128 : zX d 178 128 [v0, v1, v2, zI x, v4, v5, v6, v7, v8] st A K = zX d 178 129 [v0, v1, v2, zI x, v4, v5, v6, v7, v8] (zI x :: st) A K := zx_iload_n z178 dX4_compose_128 rfl rfl
theorem s178_129 : zX d 178 129 ls (zI y :: zI x :: st) A K = zX d 178 130 ls (zI (zw (x * y)) :: st) A K := zx_imul z178 dX4_compose_129 rfl
theorem s178_130 : zX d 178 130 [v0, v1, v2, v3, zI x, v5, v6, v7, v8] st A K = zX d 178 132 [v0, v1, v2, v3, zI x, v5, v6, v7, v8] (zI x :: st) A K := zx_iload z178 dX4_compose_130 rfl rfl
theorem s178_132 : zX d 178 132 ls (zI y :: zI x :: st) A K = zX d 178 133 ls (zI (zw (x + y)) :: st) A K := zx_iadd z178 dX4_compose_132 rfl
theorem s178_133 : zX d 178 133 [v0, v1, v2, v3, v4, zI x, v6, v7, v8] st A K = zX d 178 135 [v0, v1, v2, v3, v4, zI x, v6, v7, v8] (zI x :: st) A K := zx_iload z178 dX4_compose_133 rfl rfl
theorem s178_135 (h : tg A a = 20) (h0 : 0 ≤ x) (h1 : x.toNat < (ia A a).length) : zX d 178 135 ls (zI y :: zI x :: zO (some a) :: st) A K = zX d 178 136 ls st (pI A a ((ia A a).set x.toNat y)) K := zx_iast z178 dX4_compose_135 rfl h h0 h1
theorem s178_136 : zX d 178 136 [v0, v1, v2, v3, zI x, v5, v6, v7, v8] st A K = zX d 178 139 [v0, v1, v2, v3, zI (zw (x + 1)), v5, v6, v7, v8] st A K := zx_iinc z178 dX4_compose_136 rfl rfl rfl
theorem s178_139 : zX d 178 139 ls st A K = zX d 178 44 ls st A K := zx_goto z178 dX4_compose_139 rfl
theorem s178_142 : zX d 178 142 [v0, v1, v2, zI x, v4, v5, v6, v7, v8] st A K = zX d 178 145 [v0, v1, v2, zI (zw (x + 1)), v4, v5, v6, v7, v8] st A K := zx_iinc z178 dX4_compose_142 rfl rfl rfl
theorem s178_145 : zX d 178 145 ls st A K = zX d 178 36 ls st A K := zx_goto z178 dX4_compose_145 rfl
theorem s178_148 : zX d 178 148 [v0, zI x, v2, v3, v4, v5, v6, v7, v8] st A K = zX d 178 149 [v0, zI x, v2, v3, v4, v5, v6, v7, v8] (zI x :: st) A K := zx_iload_n z178 dX4_compose_148 rfl rfl
theorem s178_149 : zX (d + 1) 178 149 ls (zI i0 :: []) A K = zX d 179 0 [zI i0] [] A (zK (d + 1) 178 149 152 ls [] K) := zx_callS z178 zo178 dX4_compose_149 rfl C10_233 rfl rfl zm179 rfl rfl (zwt_le (Nat.le_of_ble_eq_true rfl)) rfl
theorem s178_152 : zX d 178 152 ls st A K = zX d 178 153 ls (zI 3 :: st) A K := zx_const z178 dX4_compose_152 (by decide) rfl
theorem s178_153 (h : y ≠ 0) : zX d 178 153 ls (zI y :: zI x :: st) A K = zX d 178 154 ls (zI (Int32.ofInt x / Int32.ofInt y).toInt :: st) A K := zx_idiv z178 dX4_compose_153 rfl h
theorem s178_154 : zX d 178 154 ls st A K = zX d 178 155 ls (zI 3 :: st) A K := zx_const z178 dX4_compose_154 (by decide) rfl
theorem s178_155 : zX d 178 155 ls (zI y :: zI x :: st) A K = zX d 178 156 ls (zI (zw (x * y)) :: st) A K := zx_imul z178 dX4_compose_155 rfl
theorem s178_156 : zX d 178 156 [v0, v1, zI x, v3, v4, v5, v6, v7, v8] st A K = zX d 178 157 [v0, v1, zI x, v3, v4, v5, v6, v7, v8] (zI x :: st) A K := zx_iload_n z178 dX4_compose_156 rfl rfl
theorem s178_157 : zX (d + 1) 178 157 ls (zI i0 :: [w0]) A K = zX d 179 0 [zI i0] [] A (zK (d + 1) 178 157 160 ls [w0] K) := zx_callS z178 zo178 dX4_compose_157 rfl C10_233 rfl rfl zm179 rfl rfl (zwt_le (Nat.le_of_ble_eq_true rfl)) rfl
theorem s178_160 : zX d 178 160 ls st A K = zX d 178 161 ls (zI 3 :: st) A K := zx_const z178 dX4_compose_160 (by decide) rfl
theorem s178_161 (h : y ≠ 0) : zX d 178 161 ls (zI y :: zI x :: st) A K = zX d 178 162 ls (zI (Int32.ofInt x - Int32.ofInt x / Int32.ofInt y * Int32.ofInt y).toInt :: st) A K := zx_irem z178 dX4_compose_161 rfl h
theorem s178_162 : zX d 178 162 ls (zI y :: zI x :: st) A K = zX d 178 163 ls (zI (zw (x + y)) :: st) A K := zx_iadd z178 dX4_compose_162 rfl
theorem s178_163 : zX d 178 163 [zO o, v1, v2, v3, v4, v5, v6, v7, v8] st A K = zX d 178 164 [zO o, v1, v2, v3, v4, v5, v6, v7, v8] (zO o :: st) A K := zx_aload_n z178 dX4_compose_163 rfl rfl
theorem s178_164 (h : tg A a = 9) : zX d 178 164 ls (zO (some a) :: st) A K = zX d 178 167 ls (fd A a 30 :: st) A K := zx_getf z178 zo178 dX4_compose_164 F10_79 rfl h
theorem s178_167 : zX (d + 1) 178 167 ls (zO o1 :: zI i0 :: []) A K = zX d 176 0 [zI i0, zO o1, zU, zU] [] A (zK (d + 1) 178 167 170 ls [] K) := zx_callS z178 zo178 dX4_compose_167 rfl C10_246 rfl rfl zm176 rfl rfl (zwt_le (Nat.le_of_ble_eq_true rfl)) rfl
theorem s178_170 : zX d 178 170 ls [zI x] A K = K (Sum.inl (some (zI x))) A := zx_iret z178 dX4_compose_170 zk178 rfl
theorem s179_0 : zX d 179 0 [zI x] st A K = zX d 179 1 [zI x] (zI x :: st) A K := zx_iload_n z179 dX4_functions_0 rfl rfl
theorem s179_1 : zX d 179 1 ls st A K = zX d 179 4 ls (zI (19683) :: st) A K := zx_sipush z179 dX4_functions_1 (by decide) rfl
theorem s179_4 (h : y ≠ 0) : zX d 179 4 ls (zI y :: zI x :: st) A K = zX d 179 5 ls (zI (Int32.ofInt x / Int32.ofInt y).toInt :: st) A K := zx_idiv z179 dX4_functions_4 rfl h
theorem s179_5 : zX d 179 5 ls [zI x] A K = K (Sum.inl (some (zI x))) A := zx_iret z179 dX4_functions_5 zk179 rfl
theorem s180_0 : zX d 180 0 [zI x, v1, v2, v3] st A K = zX d 180 1 [zI x, v1, v2, v3] (zI x :: st) A K := zx_iload_n z180 dX4_decode_0 rfl rfl
theorem s180_1 : zX d 180 1 [v0, v1, v2, v3] (zI x :: st) A K = zX d 180 2 [v0, v1, zI x, v3] st A K := zx_istore_n z180 dX4_decode_1 (Nat.le_of_ble_eq_true rfl) rfl rfl
theorem s180_2 : zX d 180 2 ls st A K = zX d 180 3 ls (zI 0 :: st) A K := zx_const z180 dX4_decode_2 (by decide) rfl
theorem s180_3 : zX d 180 3 [v0, v1, v2, v3] (zI x :: st) A K = zX d 180 4 [v0, v1, v2, zI x] st A K := zx_istore_n z180 dX4_decode_3 (Nat.le_of_ble_eq_true rfl) rfl rfl
theorem s180_4 : zX d 180 4 [v0, v1, v2, zI x] st A K = zX d 180 5 [v0, v1, v2, zI x] (zI x :: st) A K := zx_iload_n z180 dX4_decode_4 rfl rfl
theorem s180_5 : zX d 180 5 ls st A K = zX d 180 7 ls (zI (9) :: st) A K := zx_bipush z180 dX4_decode_5 (by decide) rfl
theorem s180_7 : zX d 180 7 ls (zI y :: zI x :: st) A K = (if y ≤ x then zX d 180 26 ls st A K else zX d 180 10 ls st A K) := zx_ic_ge z180 dX4_decode_7 rfl rfl
theorem s180_10 : zX d 180 10 [v0, zO o, v2, v3] st A K = zX d 180 11 [v0, zO o, v2, v3] (zO o :: st) A K := zx_aload_n z180 dX4_decode_10 rfl rfl
theorem s180_11 : zX d 180 11 [v0, v1, v2, zI x] st A K = zX d 180 12 [v0, v1, v2, zI x] (zI x :: st) A K := zx_iload_n z180 dX4_decode_11 rfl rfl
theorem s180_12 : zX d 180 12 [v0, v1, zI x, v3] st A K = zX d 180 13 [v0, v1, zI x, v3] (zI x :: st) A K := zx_iload_n z180 dX4_decode_12 rfl rfl
theorem s180_13 : zX d 180 13 ls st A K = zX d 180 14 ls (zI 3 :: st) A K := zx_const z180 dX4_decode_13 (by decide) rfl
theorem s180_14 (h : y ≠ 0) : zX d 180 14 ls (zI y :: zI x :: st) A K = zX d 180 15 ls (zI (Int32.ofInt x - Int32.ofInt x / Int32.ofInt y * Int32.ofInt y).toInt :: st) A K := zx_irem z180 dX4_decode_14 rfl h
theorem s180_15 (h : tg A a = 20) (h0 : 0 ≤ x) (h1 : x.toNat < (ia A a).length) : zX d 180 15 ls (zI y :: zI x :: zO (some a) :: st) A K = zX d 180 16 ls st (pI A a ((ia A a).set x.toNat y)) K := zx_iast z180 dX4_decode_15 rfl h h0 h1
theorem s180_16 : zX d 180 16 [v0, v1, zI x, v3] st A K = zX d 180 17 [v0, v1, zI x, v3] (zI x :: st) A K := zx_iload_n z180 dX4_decode_16 rfl rfl
theorem s180_17 : zX d 180 17 ls st A K = zX d 180 18 ls (zI 3 :: st) A K := zx_const z180 dX4_decode_17 (by decide) rfl
theorem s180_18 (h : y ≠ 0) : zX d 180 18 ls (zI y :: zI x :: st) A K = zX d 180 19 ls (zI (Int32.ofInt x / Int32.ofInt y).toInt :: st) A K := zx_idiv z180 dX4_decode_18 rfl h
theorem s180_19 : zX d 180 19 [v0, v1, v2, v3] (zI x :: st) A K = zX d 180 20 [v0, v1, zI x, v3] st A K := zx_istore_n z180 dX4_decode_19 (Nat.le_of_ble_eq_true rfl) rfl rfl
theorem s180_20 : zX d 180 20 [v0, v1, v2, zI x] st A K = zX d 180 23 [v0, v1, v2, zI (zw (x + 1))] st A K := zx_iinc z180 dX4_decode_20 rfl rfl rfl
theorem s180_23 : zX d 180 23 ls st A K = zX d 180 4 ls st A K := zx_goto z180 dX4_decode_23 rfl
theorem s180_26 : zX d 180 26 ls [] A K = K (Sum.inl none) A := zx_vret z180 dX4_decode_26 rfl
theorem s181_0 : zX d 181 0 [zO o, v1, v2] st A K = zX d 181 1 [zO o, v1, v2] (zO o :: st) A K := zx_aload_n z181 dX4_idempotentCount_0 rfl rfl
theorem s181_1 (h : tg A a = 9)  : zX (d + 1) 181 1 ls (zO (some a) :: []) A K = zX d 175 0 [zO (some a), zU, zU, zU, zU] [] A (zK (d + 1) 181 1 4 ls [] K) := zx_callV (t := 9) z181 zo181 dX4_idempotentCount_1 rfl C10_259 rfl rfl zm175 rfl rfl (zwt_le (Nat.le_of_ble_eq_true rfl)) rfl h
theorem s181_4 : zX d 181 4 ls (zI x :: st) A K = (if x ≠ 0 then zX d 181 10 ls st A K else zX d 181 7 ls st A K) := zx_if_ne z181 dX4_idempotentCount_4 rfl rfl
theorem s181_7 : zX d 181 7 ls st A K = zX d 181 9 ls (zI (-8) :: st) A K := zx_bipush z181 dX4_idempotentCount_7 (by decide) rfl
theorem s181_9 : zX d 181 9 ls [zI x] A K = K (Sum.inl (some (zI x))) A := zx_iret z181 dX4_idempotentCount_9 zk181 rfl
theorem s181_10 : zX d 181 10 ls st A K = zX d 181 11 ls (zI 0 :: st) A K := zx_const z181 dX4_idempotentCount_10 (by decide) rfl
theorem s181_11 : zX d 181 11 [v0, v1, v2] (zI x :: st) A K = zX d 181 12 [v0, zI x, v2] st A K := zx_istore_n z181 dX4_idempotentCount_11 (Nat.le_of_ble_eq_true rfl) rfl rfl
theorem s181_12 : zX d 181 12 ls st A K = zX d 181 13 ls (zI 0 :: st) A K := zx_const z181 dX4_idempotentCount_12 (by decide) rfl
theorem s181_13 : zX d 181 13 [v0, v1, v2] (zI x :: st) A K = zX d 181 14 [v0, v1, zI x] st A K := zx_istore_n z181 dX4_idempotentCount_13 (Nat.le_of_ble_eq_true rfl) rfl rfl
theorem s181_14 : zX d 181 14 [v0, v1, zI x] st A K = zX d 181 15 [v0, v1, zI x] (zI x :: st) A K := zx_iload_n z181 dX4_idempotentCount_14 rfl rfl
theorem s181_15 : zX d 181 15 [zO o, v1, v2] st A K = zX d 181 16 [zO o, v1, v2] (zO o :: st) A K := zx_aload_n z181 dX4_idempotentCount_15 rfl rfl
theorem s181_16 (h : tg A a = 9) : zX d 181 16 ls (zO (some a) :: st) A K = zX d 181 19 ls (fd A a 29 :: st) A K := zx_getf z181 zo181 dX4_idempotentCount_16 F10_250 rfl h
theorem s181_19 : zX d 181 19 ls (zI y :: zI x :: st) A K = (if y ≤ x then zX d 181 75 ls st A K else zX d 181 22 ls st A K) := zx_ic_ge z181 dX4_idempotentCount_19 rfl rfl
theorem s181_22 : zX d 181 22 [v0, zI x, v2] st A K = zX d 181 23 [v0, zI x, v2] (zI x :: st) A K := zx_iload_n z181 dX4_idempotentCount_22 rfl rfl
theorem s181_23 : zX d 181 23 [zO o, v1, v2] st A K = zX d 181 24 [zO o, v1, v2] (zO o :: st) A K := zx_aload_n z181 dX4_idempotentCount_23 rfl rfl
theorem s181_24 (h : tg A a = 9) : zX d 181 24 ls (zO (some a) :: st) A K = zX d 181 27 ls (fd A a 25 :: st) A K := zx_getf z181 zo181 dX4_idempotentCount_24 F10_66 rfl h
theorem s181_27 : zX d 181 27 [v0, v1, zI x] st A K = zX d 181 28 [v0, v1, zI x] (zI x :: st) A K := zx_iload_n z181 dX4_idempotentCount_27 rfl rfl
theorem s181_28 (h : tg A a = 20) (h0 : 0 ≤ x) (h1 : x.toNat < (ia A a).length) : zX d 181 28 ls (zI x :: zO (some a) :: st) A K = zX d 181 29 ls (zI ((ia A a).getD x.toNat 0) :: st) A K := zx_iald z181 dX4_idempotentCount_28 rfl h h0 h1
theorem s181_28s (h : tg A a = 30) (h0 : 0 ≤ x) (h1 : x.toNat < (ia A a).length) : zX d 181 28 ls (zI x :: zO (some a) :: st) A K = zX d 181 29 ls (zI ((ia A a).getD x.toNat 0) :: st) A K := zx_sald z181 dX4_idempotentCount_28 rfl h h0 h1
theorem s181_29 : zX (d + 1) 181 29 ls (zI i0 :: [w0]) A K = zX d 179 0 [zI i0] [] A (zK (d + 1) 181 29 32 ls [w0] K) := zx_callS z181 zo181 dX4_idempotentCount_29 rfl C10_233 rfl rfl zm179 rfl rfl (zwt_le (Nat.le_of_ble_eq_true rfl)) rfl
theorem s181_32 : zX d 181 32 ls st A K = zX d 181 33 ls (zI 4 :: st) A K := zx_const z181 dX4_idempotentCount_32 (by decide) rfl
theorem s181_33 (h : y ≠ 0) : zX d 181 33 ls (zI y :: zI x :: st) A K = zX d 181 34 ls (zI (Int32.ofInt x - Int32.ofInt x / Int32.ofInt y * Int32.ofInt y).toInt :: st) A K := zx_irem z181 dX4_idempotentCount_33 rfl h
theorem s181_34 : zX d 181 34 ls (zI x :: st) A K = (if x ≠ 0 then zX d 181 66 ls st A K else zX d 181 37 ls st A K) := zx_if_ne z181 dX4_idempotentCount_34 rfl rfl
theorem s181_37 : zX d 181 37 [zO o, v1, v2] st A K = zX d 181 38 [zO o, v1, v2] (zO o :: st) A K := zx_aload_n z181 dX4_idempotentCount_37 rfl rfl
theorem s181_38 : zX d 181 38 [zO o, v1, v2] st A K = zX d 181 39 [zO o, v1, v2] (zO o :: st) A K := zx_aload_n z181 dX4_idempotentCount_38 rfl rfl
theorem s181_39 (h : tg A a = 9) : zX d 181 39 ls (zO (some a) :: st) A K = zX d 181 42 ls (fd A a 25 :: st) A K := zx_getf z181 zo181 dX4_idempotentCount_39 F10_66 rfl h
theorem s181_42 : zX d 181 42 [v0, v1, zI x] st A K = zX d 181 43 [v0, v1, zI x] (zI x :: st) A K := zx_iload_n z181 dX4_idempotentCount_42 rfl rfl
theorem s181_43 (h : tg A a = 20) (h0 : 0 ≤ x) (h1 : x.toNat < (ia A a).length) : zX d 181 43 ls (zI x :: zO (some a) :: st) A K = zX d 181 44 ls (zI ((ia A a).getD x.toNat 0) :: st) A K := zx_iald z181 dX4_idempotentCount_43 rfl h h0 h1
theorem s181_43s (h : tg A a = 30) (h0 : 0 ≤ x) (h1 : x.toNat < (ia A a).length) : zX d 181 43 ls (zI x :: zO (some a) :: st) A K = zX d 181 44 ls (zI ((ia A a).getD x.toNat 0) :: st) A K := zx_sald z181 dX4_idempotentCount_43 rfl h h0 h1
theorem s181_44 : zX d 181 44 [zO o, v1, v2] st A K = zX d 181 45 [zO o, v1, v2] (zO o :: st) A K := zx_aload_n z181 dX4_idempotentCount_44 rfl rfl
theorem s181_45 (h : tg A a = 9) : zX d 181 45 ls (zO (some a) :: st) A K = zX d 181 48 ls (fd A a 25 :: st) A K := zx_getf z181 zo181 dX4_idempotentCount_45 F10_66 rfl h
theorem s181_48 : zX d 181 48 [v0, v1, zI x] st A K = zX d 181 49 [v0, v1, zI x] (zI x :: st) A K := zx_iload_n z181 dX4_idempotentCount_48 rfl rfl
theorem s181_49 (h : tg A a = 20) (h0 : 0 ≤ x) (h1 : x.toNat < (ia A a).length) : zX d 181 49 ls (zI x :: zO (some a) :: st) A K = zX d 181 50 ls (zI ((ia A a).getD x.toNat 0) :: st) A K := zx_iald z181 dX4_idempotentCount_49 rfl h h0 h1
theorem s181_49s (h : tg A a = 30) (h0 : 0 ≤ x) (h1 : x.toNat < (ia A a).length) : zX d 181 49 ls (zI x :: zO (some a) :: st) A K = zX d 181 50 ls (zI ((ia A a).getD x.toNat 0) :: st) A K := zx_sald z181 dX4_idempotentCount_49 rfl h h0 h1
theorem s181_50 (h : tg A a = 9)  : zX (d + 1) 181 50 ls (zI i1 :: zI i0 :: zO (some a) :: [w0]) A K = zX d 178 0 [zO (some a), zI i0, zI i1, zU, zU, zU, zU, zU, zU] [] A (zK (d + 1) 181 50 53 ls [w0] K) := zx_callV (t := 9) z181 zo181 dX4_idempotentCount_50 rfl C10_256 rfl rfl zm178 rfl rfl (zwt_le (Nat.le_of_ble_eq_true rfl)) rfl h
theorem s181_53 : zX d 181 53 [zO o, v1, v2] st A K = zX d 181 54 [zO o, v1, v2] (zO o :: st) A K := zx_aload_n z181 dX4_idempotentCount_53 rfl rfl
theorem s181_54 (h : tg A a = 9) : zX d 181 54 ls (zO (some a) :: st) A K = zX d 181 57 ls (fd A a 25 :: st) A K := zx_getf z181 zo181 dX4_idempotentCount_54 F10_66 rfl h
theorem s181_57 : zX d 181 57 [v0, v1, zI x] st A K = zX d 181 58 [v0, v1, zI x] (zI x :: st) A K := zx_iload_n z181 dX4_idempotentCount_57 rfl rfl
theorem s181_58 (h : tg A a = 20) (h0 : 0 ≤ x) (h1 : x.toNat < (ia A a).length) : zX d 181 58 ls (zI x :: zO (some a) :: st) A K = zX d 181 59 ls (zI ((ia A a).getD x.toNat 0) :: st) A K := zx_iald z181 dX4_idempotentCount_58 rfl h h0 h1
theorem s181_58s (h : tg A a = 30) (h0 : 0 ≤ x) (h1 : x.toNat < (ia A a).length) : zX d 181 58 ls (zI x :: zO (some a) :: st) A K = zX d 181 59 ls (zI ((ia A a).getD x.toNat 0) :: st) A K := zx_sald z181 dX4_idempotentCount_58 rfl h h0 h1
theorem s181_59 : zX d 181 59 ls (zI y :: zI x :: st) A K = (if x ≠ y then zX d 181 66 ls st A K else zX d 181 62 ls st A K) := zx_ic_ne z181 dX4_idempotentCount_59 rfl rfl
theorem s181_62 : zX d 181 62 ls st A K = zX d 181 63 ls (zI 1 :: st) A K := zx_const z181 dX4_idempotentCount_62 (by decide) rfl
theorem s181_63 : zX d 181 63 ls st A K = zX d 181 67 ls st A K := zx_goto z181 dX4_idempotentCount_63 rfl
theorem s181_66 : zX d 181 66 ls st A K = zX d 181 67 ls (zI 0 :: st) A K := zx_const z181 dX4_idempotentCount_66 (by decide) rfl
theorem s181_67 : zX d 181 67 ls (zI y :: zI x :: st) A K = zX d 181 68 ls (zI (zw (x + y)) :: st) A K := zx_iadd z181 dX4_idempotentCount_67 rfl
theorem s181_68 : zX d 181 68 [v0, v1, v2] (zI x :: st) A K = zX d 181 69 [v0, zI x, v2] st A K := zx_istore_n z181 dX4_idempotentCount_68 (Nat.le_of_ble_eq_true rfl) rfl rfl
theorem s181_69 : zX d 181 69 [v0, v1, zI x] st A K = zX d 181 72 [v0, v1, zI (zw (x + 1))] st A K := zx_iinc z181 dX4_idempotentCount_69 rfl rfl rfl
theorem s181_72 : zX d 181 72 ls st A K = zX d 181 14 ls st A K := zx_goto z181 dX4_idempotentCount_72 rfl
theorem s181_75 : zX d 181 75 [v0, zI x, v2] st A K = zX d 181 76 [v0, zI x, v2] (zI x :: st) A K := zx_iload_n z181 dX4_idempotentCount_75 rfl rfl
theorem s181_76 : zX d 181 76 ls [zI x] A K = K (Sum.inl (some (zI x))) A := zx_iret z181 dX4_idempotentCount_76 zk181 rfl
theorem s182_0 : zX d 182 0 [zO o, v1, v2] st A K = zX d 182 1 [zO o, v1, v2] (zO o :: st) A K := zx_aload_n z182 dX4_terminatesBySizeChange_0 rfl rfl
theorem s182_1 (h : tg A a = 9)  : zX (d + 1) 182 1 ls (zO (some a) :: []) A K = zX d 175 0 [zO (some a), zU, zU, zU, zU] [] A (zK (d + 1) 182 1 4 ls [] K) := zx_callV (t := 9) z182 zo182 dX4_terminatesBySizeChange_1 rfl C10_259 rfl rfl zm175 rfl rfl (zwt_le (Nat.le_of_ble_eq_true rfl)) rfl h
theorem s182_4 : zX d 182 4 ls (zI x :: st) A K = (if x ≠ 0 then zX d 182 10 ls st A K else zX d 182 7 ls st A K) := zx_if_ne z182 dX4_terminatesBySizeChange_4 rfl rfl
theorem s182_7 : zX d 182 7 ls st A K = zX d 182 9 ls (zI (-8) :: st) A K := zx_bipush z182 dX4_terminatesBySizeChange_7 (by decide) rfl
theorem s182_9 : zX d 182 9 ls [zI x] A K = K (Sum.inl (some (zI x))) A := zx_iret z182 dX4_terminatesBySizeChange_9 zk182 rfl
theorem s182_10 : zX d 182 10 ls st A K = zX d 182 11 ls (zI 1 :: st) A K := zx_const z182 dX4_terminatesBySizeChange_10 (by decide) rfl
theorem s182_11 : zX d 182 11 [v0, v1, v2] (zI x :: st) A K = zX d 182 12 [v0, zI x, v2] st A K := zx_istore_n z182 dX4_terminatesBySizeChange_11 (Nat.le_of_ble_eq_true rfl) rfl rfl
theorem s182_12 : zX d 182 12 ls st A K = zX d 182 13 ls (zI 0 :: st) A K := zx_const z182 dX4_terminatesBySizeChange_12 (by decide) rfl
theorem s182_13 : zX d 182 13 [v0, v1, v2] (zI x :: st) A K = zX d 182 14 [v0, v1, zI x] st A K := zx_istore_n z182 dX4_terminatesBySizeChange_13 (Nat.le_of_ble_eq_true rfl) rfl rfl
theorem s182_14 : zX d 182 14 [v0, v1, zI x] st A K = zX d 182 15 [v0, v1, zI x] (zI x :: st) A K := zx_iload_n z182 dX4_terminatesBySizeChange_14 rfl rfl
theorem s182_15 : zX d 182 15 [zO o, v1, v2] st A K = zX d 182 16 [zO o, v1, v2] (zO o :: st) A K := zx_aload_n z182 dX4_terminatesBySizeChange_15 rfl rfl
theorem s182_16 (h : tg A a = 9) : zX d 182 16 ls (zO (some a) :: st) A K = zX d 182 19 ls (fd A a 29 :: st) A K := zx_getf z182 zo182 dX4_terminatesBySizeChange_16 F10_250 rfl h
theorem s182_19 : zX d 182 19 ls (zI y :: zI x :: st) A K = (if y ≤ x then zX d 182 119 ls st A K else zX d 182 22 ls st A K) := zx_ic_ge z182 dX4_terminatesBySizeChange_19 rfl rfl
theorem s182_22 : zX d 182 22 [zO o, v1, v2] st A K = zX d 182 23 [zO o, v1, v2] (zO o :: st) A K := zx_aload_n z182 dX4_terminatesBySizeChange_22 rfl rfl
theorem s182_23 (h : tg A a = 9) : zX d 182 23 ls (zO (some a) :: st) A K = zX d 182 26 ls (fd A a 25 :: st) A K := zx_getf z182 zo182 dX4_terminatesBySizeChange_23 F10_66 rfl h
theorem s182_26 : zX d 182 26 [v0, v1, zI x] st A K = zX d 182 27 [v0, v1, zI x] (zI x :: st) A K := zx_iload_n z182 dX4_terminatesBySizeChange_26 rfl rfl
theorem s182_27 (h : tg A a = 20) (h0 : 0 ≤ x) (h1 : x.toNat < (ia A a).length) : zX d 182 27 ls (zI x :: zO (some a) :: st) A K = zX d 182 28 ls (zI ((ia A a).getD x.toNat 0) :: st) A K := zx_iald z182 dX4_terminatesBySizeChange_27 rfl h h0 h1
theorem s182_27s (h : tg A a = 30) (h0 : 0 ≤ x) (h1 : x.toNat < (ia A a).length) : zX d 182 27 ls (zI x :: zO (some a) :: st) A K = zX d 182 28 ls (zI ((ia A a).getD x.toNat 0) :: st) A K := zx_sald z182 dX4_terminatesBySizeChange_27 rfl h h0 h1
theorem s182_28 : zX (d + 1) 182 28 ls (zI i0 :: []) A K = zX d 179 0 [zI i0] [] A (zK (d + 1) 182 28 31 ls [] K) := zx_callS z182 zo182 dX4_terminatesBySizeChange_28 rfl C10_233 rfl rfl zm179 rfl rfl (zwt_le (Nat.le_of_ble_eq_true rfl)) rfl
theorem s182_31 : zX d 182 31 ls st A K = zX d 182 32 ls (zI 4 :: st) A K := zx_const z182 dX4_terminatesBySizeChange_31 (by decide) rfl
theorem s182_32 (h : y ≠ 0) : zX d 182 32 ls (zI y :: zI x :: st) A K = zX d 182 33 ls (zI (Int32.ofInt x - Int32.ofInt x / Int32.ofInt y * Int32.ofInt y).toInt :: st) A K := zx_irem z182 dX4_terminatesBySizeChange_32 rfl h
theorem s182_33 : zX d 182 33 ls (zI x :: st) A K = (if x ≠ 0 then zX d 182 113 ls st A K else zX d 182 36 ls st A K) := zx_if_ne z182 dX4_terminatesBySizeChange_33 rfl rfl
theorem s182_36 : zX d 182 36 [zO o, v1, v2] st A K = zX d 182 37 [zO o, v1, v2] (zO o :: st) A K := zx_aload_n z182 dX4_terminatesBySizeChange_36 rfl rfl
theorem s182_37 : zX d 182 37 [zO o, v1, v2] st A K = zX d 182 38 [zO o, v1, v2] (zO o :: st) A K := zx_aload_n z182 dX4_terminatesBySizeChange_37 rfl rfl
theorem s182_38 (h : tg A a = 9) : zX d 182 38 ls (zO (some a) :: st) A K = zX d 182 41 ls (fd A a 25 :: st) A K := zx_getf z182 zo182 dX4_terminatesBySizeChange_38 F10_66 rfl h
theorem s182_41 : zX d 182 41 [v0, v1, zI x] st A K = zX d 182 42 [v0, v1, zI x] (zI x :: st) A K := zx_iload_n z182 dX4_terminatesBySizeChange_41 rfl rfl
theorem s182_42 (h : tg A a = 20) (h0 : 0 ≤ x) (h1 : x.toNat < (ia A a).length) : zX d 182 42 ls (zI x :: zO (some a) :: st) A K = zX d 182 43 ls (zI ((ia A a).getD x.toNat 0) :: st) A K := zx_iald z182 dX4_terminatesBySizeChange_42 rfl h h0 h1
theorem s182_42s (h : tg A a = 30) (h0 : 0 ≤ x) (h1 : x.toNat < (ia A a).length) : zX d 182 42 ls (zI x :: zO (some a) :: st) A K = zX d 182 43 ls (zI ((ia A a).getD x.toNat 0) :: st) A K := zx_sald z182 dX4_terminatesBySizeChange_42 rfl h h0 h1
theorem s182_43 : zX d 182 43 [zO o, v1, v2] st A K = zX d 182 44 [zO o, v1, v2] (zO o :: st) A K := zx_aload_n z182 dX4_terminatesBySizeChange_43 rfl rfl
theorem s182_44 (h : tg A a = 9) : zX d 182 44 ls (zO (some a) :: st) A K = zX d 182 47 ls (fd A a 25 :: st) A K := zx_getf z182 zo182 dX4_terminatesBySizeChange_44 F10_66 rfl h
theorem s182_47 : zX d 182 47 [v0, v1, zI x] st A K = zX d 182 48 [v0, v1, zI x] (zI x :: st) A K := zx_iload_n z182 dX4_terminatesBySizeChange_47 rfl rfl
theorem s182_48 (h : tg A a = 20) (h0 : 0 ≤ x) (h1 : x.toNat < (ia A a).length) : zX d 182 48 ls (zI x :: zO (some a) :: st) A K = zX d 182 49 ls (zI ((ia A a).getD x.toNat 0) :: st) A K := zx_iald z182 dX4_terminatesBySizeChange_48 rfl h h0 h1
theorem s182_48s (h : tg A a = 30) (h0 : 0 ≤ x) (h1 : x.toNat < (ia A a).length) : zX d 182 48 ls (zI x :: zO (some a) :: st) A K = zX d 182 49 ls (zI ((ia A a).getD x.toNat 0) :: st) A K := zx_sald z182 dX4_terminatesBySizeChange_48 rfl h h0 h1
theorem s182_49 (h : tg A a = 9)  : zX (d + 1) 182 49 ls (zI i1 :: zI i0 :: zO (some a) :: []) A K = zX d 178 0 [zO (some a), zI i0, zI i1, zU, zU, zU, zU, zU, zU] [] A (zK (d + 1) 182 49 52 ls [] K) := zx_callV (t := 9) z182 zo182 dX4_terminatesBySizeChange_49 rfl C10_256 rfl rfl zm178 rfl rfl (zwt_le (Nat.le_of_ble_eq_true rfl)) rfl h
theorem s182_52 : zX d 182 52 [zO o, v1, v2] st A K = zX d 182 53 [zO o, v1, v2] (zO o :: st) A K := zx_aload_n z182 dX4_terminatesBySizeChange_52 rfl rfl
theorem s182_53 (h : tg A a = 9) : zX d 182 53 ls (zO (some a) :: st) A K = zX d 182 56 ls (fd A a 25 :: st) A K := zx_getf z182 zo182 dX4_terminatesBySizeChange_53 F10_66 rfl h
theorem s182_56 : zX d 182 56 [v0, v1, zI x] st A K = zX d 182 57 [v0, v1, zI x] (zI x :: st) A K := zx_iload_n z182 dX4_terminatesBySizeChange_56 rfl rfl
theorem s182_57 (h : tg A a = 20) (h0 : 0 ≤ x) (h1 : x.toNat < (ia A a).length) : zX d 182 57 ls (zI x :: zO (some a) :: st) A K = zX d 182 58 ls (zI ((ia A a).getD x.toNat 0) :: st) A K := zx_iald z182 dX4_terminatesBySizeChange_57 rfl h h0 h1
theorem s182_57s (h : tg A a = 30) (h0 : 0 ≤ x) (h1 : x.toNat < (ia A a).length) : zX d 182 57 ls (zI x :: zO (some a) :: st) A K = zX d 182 58 ls (zI ((ia A a).getD x.toNat 0) :: st) A K := zx_sald z182 dX4_terminatesBySizeChange_57 rfl h h0 h1
theorem s182_58 : zX d 182 58 ls (zI y :: zI x :: st) A K = (if x ≠ y then zX d 182 113 ls st A K else zX d 182 61 ls st A K) := zx_ic_ne z182 dX4_terminatesBySizeChange_58 rfl rfl
theorem s182_61 : zX d 182 61 [zO o, v1, v2] st A K = zX d 182 62 [zO o, v1, v2] (zO o :: st) A K := zx_aload_n z182 dX4_terminatesBySizeChange_61 rfl rfl
theorem s182_62 (h : tg A a = 9) : zX d 182 62 ls (zO (some a) :: st) A K = zX d 182 65 ls (fd A a 25 :: st) A K := zx_getf z182 zo182 dX4_terminatesBySizeChange_62 F10_66 rfl h
theorem s182_65 : zX d 182 65 [v0, v1, zI x] st A K = zX d 182 66 [v0, v1, zI x] (zI x :: st) A K := zx_iload_n z182 dX4_terminatesBySizeChange_65 rfl rfl
theorem s182_66 (h : tg A a = 20) (h0 : 0 ≤ x) (h1 : x.toNat < (ia A a).length) : zX d 182 66 ls (zI x :: zO (some a) :: st) A K = zX d 182 67 ls (zI ((ia A a).getD x.toNat 0) :: st) A K := zx_iald z182 dX4_terminatesBySizeChange_66 rfl h h0 h1
theorem s182_66s (h : tg A a = 30) (h0 : 0 ≤ x) (h1 : x.toNat < (ia A a).length) : zX d 182 66 ls (zI x :: zO (some a) :: st) A K = zX d 182 67 ls (zI ((ia A a).getD x.toNat 0) :: st) A K := zx_sald z182 dX4_terminatesBySizeChange_66 rfl h h0 h1
theorem s182_67 : zX d 182 67 [zO o, v1, v2] st A K = zX d 182 68 [zO o, v1, v2] (zO o :: st) A K := zx_aload_n z182 dX4_terminatesBySizeChange_67 rfl rfl
theorem s182_68 (h : tg A a = 9) : zX d 182 68 ls (zO (some a) :: st) A K = zX d 182 71 ls (fd A a 26 :: st) A K := zx_getf z182 zo182 dX4_terminatesBySizeChange_68 F10_69 rfl h
theorem s182_71 : zX (d + 1) 182 71 ls (zO o1 :: zI i0 :: []) A K = zX d 180 0 [zI i0, zO o1, zU, zU] [] A (zK (d + 1) 182 71 74 ls [] K) := zx_callS z182 zo182 dX4_terminatesBySizeChange_71 rfl C10_236 rfl rfl zm180 rfl rfl (zwt_le (Nat.le_of_ble_eq_true rfl)) rfl
theorem s182_74 : zX d 182 74 [v0, zI x, v2] st A K = zX d 182 75 [v0, zI x, v2] (zI x :: st) A K := zx_iload_n z182 dX4_terminatesBySizeChange_74 rfl rfl
theorem s182_75 : zX d 182 75 [zO o, v1, v2] st A K = zX d 182 76 [zO o, v1, v2] (zO o :: st) A K := zx_aload_n z182 dX4_terminatesBySizeChange_75 rfl rfl
theorem s182_76 (h : tg A a = 9) : zX d 182 76 ls (zO (some a) :: st) A K = zX d 182 79 ls (fd A a 26 :: st) A K := zx_getf z182 zo182 dX4_terminatesBySizeChange_76 F10_69 rfl h
theorem s182_79 : zX d 182 79 ls st A K = zX d 182 80 ls (zI 0 :: st) A K := zx_const z182 dX4_terminatesBySizeChange_79 (by decide) rfl
theorem s182_80 (h : tg A a = 20) (h0 : 0 ≤ x) (h1 : x.toNat < (ia A a).length) : zX d 182 80 ls (zI x :: zO (some a) :: st) A K = zX d 182 81 ls (zI ((ia A a).getD x.toNat 0) :: st) A K := zx_iald z182 dX4_terminatesBySizeChange_80 rfl h h0 h1
theorem s182_80s (h : tg A a = 30) (h0 : 0 ≤ x) (h1 : x.toNat < (ia A a).length) : zX d 182 80 ls (zI x :: zO (some a) :: st) A K = zX d 182 81 ls (zI ((ia A a).getD x.toNat 0) :: st) A K := zx_sald z182 dX4_terminatesBySizeChange_80 rfl h h0 h1
theorem s182_81 : zX d 182 81 ls st A K = zX d 182 82 ls (zI 2 :: st) A K := zx_const z182 dX4_terminatesBySizeChange_81 (by decide) rfl
theorem s182_82 : zX d 182 82 ls (zI y :: zI x :: st) A K = (if x = y then zX d 182 106 ls st A K else zX d 182 85 ls st A K) := zx_ic_eq z182 dX4_terminatesBySizeChange_82 rfl rfl
theorem s182_85 : zX d 182 85 [zO o, v1, v2] st A K = zX d 182 86 [zO o, v1, v2] (zO o :: st) A K := zx_aload_n z182 dX4_terminatesBySizeChange_85 rfl rfl
theorem s182_86 (h : tg A a = 9) : zX d 182 86 ls (zO (some a) :: st) A K = zX d 182 89 ls (fd A a 26 :: st) A K := zx_getf z182 zo182 dX4_terminatesBySizeChange_86 F10_69 rfl h
theorem s182_89 : zX d 182 89 ls st A K = zX d 182 90 ls (zI 4 :: st) A K := zx_const z182 dX4_terminatesBySizeChange_89 (by decide) rfl
theorem s182_90 (h : tg A a = 20) (h0 : 0 ≤ x) (h1 : x.toNat < (ia A a).length) : zX d 182 90 ls (zI x :: zO (some a) :: st) A K = zX d 182 91 ls (zI ((ia A a).getD x.toNat 0) :: st) A K := zx_iald z182 dX4_terminatesBySizeChange_90 rfl h h0 h1
theorem s182_90s (h : tg A a = 30) (h0 : 0 ≤ x) (h1 : x.toNat < (ia A a).length) : zX d 182 90 ls (zI x :: zO (some a) :: st) A K = zX d 182 91 ls (zI ((ia A a).getD x.toNat 0) :: st) A K := zx_sald z182 dX4_terminatesBySizeChange_90 rfl h h0 h1
theorem s182_91 : zX d 182 91 ls st A K = zX d 182 92 ls (zI 2 :: st) A K := zx_const z182 dX4_terminatesBySizeChange_91 (by decide) rfl
theorem s182_92 : zX d 182 92 ls (zI y :: zI x :: st) A K = (if x = y then zX d 182 106 ls st A K else zX d 182 95 ls st A K) := zx_ic_eq z182 dX4_terminatesBySizeChange_92 rfl rfl
theorem s182_95 : zX d 182 95 [zO o, v1, v2] st A K = zX d 182 96 [zO o, v1, v2] (zO o :: st) A K := zx_aload_n z182 dX4_terminatesBySizeChange_95 rfl rfl
theorem s182_96 (h : tg A a = 9) : zX d 182 96 ls (zO (some a) :: st) A K = zX d 182 99 ls (fd A a 26 :: st) A K := zx_getf z182 zo182 dX4_terminatesBySizeChange_96 F10_69 rfl h
theorem s182_99 : zX d 182 99 ls st A K = zX d 182 101 ls (zI (8) :: st) A K := zx_bipush z182 dX4_terminatesBySizeChange_99 (by decide) rfl
theorem s182_101 (h : tg A a = 20) (h0 : 0 ≤ x) (h1 : x.toNat < (ia A a).length) : zX d 182 101 ls (zI x :: zO (some a) :: st) A K = zX d 182 102 ls (zI ((ia A a).getD x.toNat 0) :: st) A K := zx_iald z182 dX4_terminatesBySizeChange_101 rfl h h0 h1
theorem s182_101s (h : tg A a = 30) (h0 : 0 ≤ x) (h1 : x.toNat < (ia A a).length) : zX d 182 101 ls (zI x :: zO (some a) :: st) A K = zX d 182 102 ls (zI ((ia A a).getD x.toNat 0) :: st) A K := zx_sald z182 dX4_terminatesBySizeChange_101 rfl h h0 h1
theorem s182_102 : zX d 182 102 ls st A K = zX d 182 103 ls (zI 2 :: st) A K := zx_const z182 dX4_terminatesBySizeChange_102 (by decide) rfl
theorem s182_103 : zX d 182 103 ls (zI y :: zI x :: st) A K = (if x ≠ y then zX d 182 110 ls st A K else zX d 182 106 ls st A K) := zx_ic_ne z182 dX4_terminatesBySizeChange_103 rfl rfl
theorem s182_106 : zX d 182 106 ls st A K = zX d 182 107 ls (zI 1 :: st) A K := zx_const z182 dX4_terminatesBySizeChange_106 (by decide) rfl
theorem s182_107 : zX d 182 107 ls st A K = zX d 182 111 ls st A K := zx_goto z182 dX4_terminatesBySizeChange_107 rfl
theorem s182_110 : zX d 182 110 ls st A K = zX d 182 111 ls (zI 0 :: st) A K := zx_const z182 dX4_terminatesBySizeChange_110 (by decide) rfl
theorem s182_111 : zX d 182 111 ls (zI y :: zI x :: st) A K = zX d 182 112 ls (zI ((Int32.ofInt x &&& Int32.ofInt y).toInt) :: st) A K := zx_iand z182 dX4_terminatesBySizeChange_111 rfl
theorem s182_112 : zX d 182 112 [v0, v1, v2] (zI x :: st) A K = zX d 182 113 [v0, zI x, v2] st A K := zx_istore_n z182 dX4_terminatesBySizeChange_112 (Nat.le_of_ble_eq_true rfl) rfl rfl
theorem s182_113 : zX d 182 113 [v0, v1, zI x] st A K = zX d 182 116 [v0, v1, zI (zw (x + 1))] st A K := zx_iinc z182 dX4_terminatesBySizeChange_113 rfl rfl rfl
theorem s182_116 : zX d 182 116 ls st A K = zX d 182 14 ls st A K := zx_goto z182 dX4_terminatesBySizeChange_116 rfl
theorem s182_119 : zX d 182 119 [v0, zI x, v2] st A K = zX d 182 120 [v0, zI x, v2] (zI x :: st) A K := zx_iload_n z182 dX4_terminatesBySizeChange_119 rfl rfl
theorem s182_120 : zX d 182 120 ls (zI x :: st) A K = (if x = 0 then zX d 182 127 ls st A K else zX d 182 123 ls st A K) := zx_if_eq z182 dX4_terminatesBySizeChange_120 rfl rfl
theorem s182_123 : zX d 182 123 ls st A K = zX d 182 124 ls (zI 1 :: st) A K := zx_const z182 dX4_terminatesBySizeChange_123 (by decide) rfl
theorem s182_124 : zX d 182 124 ls st A K = zX d 182 128 ls st A K := zx_goto z182 dX4_terminatesBySizeChange_124 rfl
theorem s182_127 : zX d 182 127 ls st A K = zX d 182 128 ls (zI 0 :: st) A K := zx_const z182 dX4_terminatesBySizeChange_127 (by decide) rfl
theorem s182_128 : zX d 182 128 ls [zI x] A K = K (Sum.inl (some (zI x))) A := zx_iret z182 dX4_terminatesBySizeChange_128 zk182 rfl
theorem s183_0 : zX d 183 0 [zO o, v1] st A K = zX d 183 1 [zO o, v1] (zO o :: st) A K := zx_aload_n z183 dX4_projection_0 rfl rfl
theorem s183_1 (h : tg A a = 9)  : zX (d + 1) 183 1 ls (zO (some a) :: []) A K = zX d 167 0 [zO (some a), zU, zU] [] A (zK (d + 1) 183 1 4 ls [] K) := zx_callV (t := 9) z183 zo183 dX4_projection_1 rfl C10_223 rfl rfl zm167 rfl rfl (zwt_le (Nat.le_of_ble_eq_true rfl)) rfl h
theorem s183_4 : zX d 183 4 [zO o, v1] st A K = zX d 183 5 [zO o, v1] (zO o :: st) A K := zx_aload_n z183 dX4_projection_4 rfl rfl
theorem s183_5 (h : tg A a = 9)  : zX (d + 1) 183 5 ls (zO (some a) :: []) A K = zX d 168 0 [zO (some a), zU, zU, zU] [] A (zK (d + 1) 183 5 8 ls [] K) := zx_callV (t := 9) z183 zo183 dX4_projection_5 rfl C10_226 rfl rfl zm168 rfl rfl (zwt_le (Nat.le_of_ble_eq_true rfl)) rfl h
theorem s183_8 : zX d 183 8 [v0, zI x] st A K = zX d 183 9 [v0, zI x] (zI x :: st) A K := zx_iload_n z183 dX4_projection_8 rfl rfl
theorem s183_9 : zX d 183 9 ls st A K = zX d 183 10 ls (zI 0 :: st) A K := zx_const z183 dX4_projection_9 (by decide) rfl
theorem s183_10 : zX d 183 10 [zO o, v1] st A K = zX d 183 11 [zO o, v1] (zO o :: st) A K := zx_aload_n z183 dX4_projection_10 rfl rfl
theorem s183_11 (h : tg A a = 9) : zX d 183 11 ls (zO (some a) :: st) A K = zX d 183 14 ls (fd A a 24 :: st) A K := zx_getf z183 zo183 dX4_projection_11 F10_220 rfl h
theorem s183_14 : zX d 183 14 ls st A K = zX d 183 15 ls (zI 1 :: st) A K := zx_const z183 dX4_projection_14 (by decide) rfl
theorem s183_15 : zX d 183 15 ls (zI y :: zI x :: st) A K = zX d 183 16 ls (zI (zw (x - y)) :: st) A K := zx_isub z183 dX4_projection_15 rfl
theorem s183_16 : zX (d + 1) 183 16 ls (zI i2 :: zI i1 :: zI i0 :: []) A K = zX d 129 0 [zI i0, zI i1, zI i2] [] A (zK (d + 1) 183 16 19 ls [] K) := zx_callS z183 zo183 dX4_projection_16 rfl C10_105 rfl rfl zm129 rfl rfl (zwt_le (Nat.le_of_ble_eq_true rfl)) rfl
theorem s183_19 : zX d 183 19 ls (zI x :: st) A K = (if x = 0 then zX d 183 30 ls st A K else zX d 183 22 ls st A K) := zx_if_eq z183 dX4_projection_19 rfl rfl
theorem s183_22 : zX d 183 22 [zO o, v1] st A K = zX d 183 23 [zO o, v1] (zO o :: st) A K := zx_aload_n z183 dX4_projection_22 rfl rfl
theorem s183_23 : zX d 183 23 [v0, zI x] st A K = zX d 183 24 [v0, zI x] (zI x :: st) A K := zx_iload_n z183 dX4_projection_23 rfl rfl
theorem s183_24 (h : tg A a = 9)  : zX (d + 1) 183 24 ls (zI i0 :: zO (some a) :: []) A K = zX d 184 0 [zO (some a), zI i0, zU, zU, zU] [] A (zK (d + 1) 183 24 27 ls [] K) := zx_callV (t := 9) z183 zo183 dX4_projection_24 rfl C10_265 rfl rfl zm184 rfl rfl (zwt_le (Nat.le_of_ble_eq_true rfl)) rfl h
theorem s183_27 : zX d 183 27 ls st A K = zX d 183 31 ls st A K := zx_goto z183 dX4_projection_27 rfl
theorem s183_30 : zX d 183 30 ls st A K = zX d 183 31 ls (zI (-1) :: st) A K := zx_const z183 dX4_projection_30 (by decide) rfl
theorem s183_31 : zX d 183 31 ls [zI x] A K = K (Sum.inl (some (zI x))) A := zx_iret z183 dX4_projection_31 zk183 rfl
theorem s184_0 : zX d 184 0 ls st A K = zX d 184 1 ls (zI 1 :: st) A K := zx_const z184 dX4_findProjection_0 (by decide) rfl
theorem s184_1 : zX d 184 1 [v0, v1, v2, v3, v4] (zI x :: st) A K = zX d 184 2 [v0, v1, zI x, v3, v4] st A K := zx_istore_n z184 dX4_findProjection_1 (Nat.le_of_ble_eq_true rfl) rfl rfl
theorem s184_2 : zX d 184 2 [v0, v1, zI x, v3, v4] st A K = zX d 184 3 [v0, v1, zI x, v3, v4] (zI x :: st) A K := zx_iload_n z184 dX4_findProjection_2 rfl rfl
theorem s184_3 : zX d 184 3 [zO o, v1, v2, v3, v4] st A K = zX d 184 4 [zO o, v1, v2, v3, v4] (zO o :: st) A K := zx_aload_n z184 dX4_findProjection_3 rfl rfl
theorem s184_4 (h : tg A a = 9) : zX d 184 4 ls (zO (some a) :: st) A K = zX d 184 7 ls (fd A a 0 :: st) A K := zx_getf z184 zo184 dX4_findProjection_4 F10_9 rfl h
theorem s184_7 : zX d 184 7 ls st A K = zX d 184 8 ls (zI 0 :: st) A K := zx_const z184 dX4_findProjection_7 (by decide) rfl
theorem s184_8 (h : tg A a = 20) (h0 : 0 ≤ x) (h1 : x.toNat < (ia A a).length) : zX d 184 8 ls (zI x :: zO (some a) :: st) A K = zX d 184 9 ls (zI ((ia A a).getD x.toNat 0) :: st) A K := zx_iald z184 dX4_findProjection_8 rfl h h0 h1
theorem s184_8s (h : tg A a = 30) (h0 : 0 ≤ x) (h1 : x.toNat < (ia A a).length) : zX d 184 8 ls (zI x :: zO (some a) :: st) A K = zX d 184 9 ls (zI ((ia A a).getD x.toNat 0) :: st) A K := zx_sald z184 dX4_findProjection_8 rfl h h0 h1
theorem s184_9 : zX d 184 9 ls (zI y :: zI x :: st) A K = (if y < x then zX d 184 99 ls st A K else zX d 184 12 ls st A K) := zx_ic_gt z184 dX4_findProjection_9 rfl rfl
theorem s184_12 : zX d 184 12 ls st A K = zX d 184 13 ls (zI 1 :: st) A K := zx_const z184 dX4_findProjection_12 (by decide) rfl
theorem s184_13 : zX d 184 13 [v0, v1, v2, v3, v4] (zI x :: st) A K = zX d 184 14 [v0, v1, v2, zI x, v4] st A K := zx_istore_n z184 dX4_findProjection_13 (Nat.le_of_ble_eq_true rfl) rfl rfl
theorem s184_14 : zX d 184 14 [v0, v1, v2, zI x, v4] st A K = zX d 184 15 [v0, v1, v2, zI x, v4] (zI x :: st) A K := zx_iload_n z184 dX4_findProjection_14 rfl rfl
theorem s184_15 : zX d 184 15 [zO o, v1, v2, v3, v4] st A K = zX d 184 16 [zO o, v1, v2, v3, v4] (zO o :: st) A K := zx_aload_n z184 dX4_findProjection_15 rfl rfl
theorem s184_16 (h : tg A a = 9) : zX d 184 16 ls (zO (some a) :: st) A K = zX d 184 19 ls (fd A a 0 :: st) A K := zx_getf z184 zo184 dX4_findProjection_16 F10_9 rfl h
theorem s184_19 : zX d 184 19 ls st A K = zX d 184 20 ls (zI 1 :: st) A K := zx_const z184 dX4_findProjection_19 (by decide) rfl
theorem s184_20 (h : tg A a = 20) (h0 : 0 ≤ x) (h1 : x.toNat < (ia A a).length) : zX d 184 20 ls (zI x :: zO (some a) :: st) A K = zX d 184 21 ls (zI ((ia A a).getD x.toNat 0) :: st) A K := zx_iald z184 dX4_findProjection_20 rfl h h0 h1
theorem s184_20s (h : tg A a = 30) (h0 : 0 ≤ x) (h1 : x.toNat < (ia A a).length) : zX d 184 20 ls (zI x :: zO (some a) :: st) A K = zX d 184 21 ls (zI ((ia A a).getD x.toNat 0) :: st) A K := zx_sald z184 dX4_findProjection_20 rfl h h0 h1
theorem s184_21 : zX d 184 21 ls (zI y :: zI x :: st) A K = (if y < x then zX d 184 93 ls st A K else zX d 184 24 ls st A K) := zx_ic_gt z184 dX4_findProjection_21 rfl rfl
theorem s184_24 : zX d 184 24 ls st A K = zX d 184 25 ls (zI 1 :: st) A K := zx_const z184 dX4_findProjection_24 (by decide) rfl
theorem s184_25 : zX d 184 25 [v0, v1, v2, v3, v4] (zI x :: st) A K = zX d 184 27 [v0, v1, v2, v3, zI x] st A K := zx_istore z184 dX4_findProjection_25 (Nat.le_of_ble_eq_true rfl) rfl rfl
theorem s184_27 : zX d 184 27 [v0, v1, v2, v3, zI x] st A K = zX d 184 29 [v0, v1, v2, v3, zI x] (zI x :: st) A K := zx_iload z184 dX4_findProjection_27 rfl rfl
theorem s184_29 : zX d 184 29 [zO o, v1, v2, v3, v4] st A K = zX d 184 30 [zO o, v1, v2, v3, v4] (zO o :: st) A K := zx_aload_n z184 dX4_findProjection_29 rfl rfl
theorem s184_30 (h : tg A a = 9) : zX d 184 30 ls (zO (some a) :: st) A K = zX d 184 33 ls (fd A a 0 :: st) A K := zx_getf z184 zo184 dX4_findProjection_30 F10_9 rfl h
theorem s184_33 : zX d 184 33 ls st A K = zX d 184 34 ls (zI 2 :: st) A K := zx_const z184 dX4_findProjection_33 (by decide) rfl
theorem s184_34 (h : tg A a = 20) (h0 : 0 ≤ x) (h1 : x.toNat < (ia A a).length) : zX d 184 34 ls (zI x :: zO (some a) :: st) A K = zX d 184 35 ls (zI ((ia A a).getD x.toNat 0) :: st) A K := zx_iald z184 dX4_findProjection_34 rfl h h0 h1
theorem s184_34s (h : tg A a = 30) (h0 : 0 ≤ x) (h1 : x.toNat < (ia A a).length) : zX d 184 34 ls (zI x :: zO (some a) :: st) A K = zX d 184 35 ls (zI ((ia A a).getD x.toNat 0) :: st) A K := zx_sald z184 dX4_findProjection_34 rfl h h0 h1
theorem s184_35 : zX d 184 35 ls (zI y :: zI x :: st) A K = (if y < x then zX d 184 87 ls st A K else zX d 184 38 ls st A K) := zx_ic_gt z184 dX4_findProjection_35 rfl rfl
theorem s184_38 : zX d 184 38 [zO o, v1, v2, v3, v4] st A K = zX d 184 39 [zO o, v1, v2, v3, v4] (zO o :: st) A K := zx_aload_n z184 dX4_findProjection_38 rfl rfl
theorem s184_39 (h : tg A a = 9) : zX d 184 39 ls (zO (some a) :: st) A K = zX d 184 42 ls (fd A a 31 :: st) A K := zx_getf z184 zo184 dX4_findProjection_39 F10_82 rfl h
theorem s184_42 : zX d 184 42 ls st A K = zX d 184 43 ls (zI 0 :: st) A K := zx_const z184 dX4_findProjection_42 (by decide) rfl
theorem s184_43 : zX d 184 43 [v0, v1, zI x, v3, v4] st A K = zX d 184 44 [v0, v1, zI x, v3, v4] (zI x :: st) A K := zx_iload_n z184 dX4_findProjection_43 rfl rfl
theorem s184_44 (h : tg A a = 20) (h0 : 0 ≤ x) (h1 : x.toNat < (ia A a).length) : zX d 184 44 ls (zI y :: zI x :: zO (some a) :: st) A K = zX d 184 45 ls st (pI A a ((ia A a).set x.toNat y)) K := zx_iast z184 dX4_findProjection_44 rfl h h0 h1
theorem s184_45 : zX d 184 45 [zO o, v1, v2, v3, v4] st A K = zX d 184 46 [zO o, v1, v2, v3, v4] (zO o :: st) A K := zx_aload_n z184 dX4_findProjection_45 rfl rfl
theorem s184_46 (h : tg A a = 9) : zX d 184 46 ls (zO (some a) :: st) A K = zX d 184 49 ls (fd A a 31 :: st) A K := zx_getf z184 zo184 dX4_findProjection_46 F10_82 rfl h
theorem s184_49 : zX d 184 49 ls st A K = zX d 184 50 ls (zI 1 :: st) A K := zx_const z184 dX4_findProjection_49 (by decide) rfl
theorem s184_50 : zX d 184 50 [v0, v1, v2, zI x, v4] st A K = zX d 184 51 [v0, v1, v2, zI x, v4] (zI x :: st) A K := zx_iload_n z184 dX4_findProjection_50 rfl rfl
theorem s184_51 (h : tg A a = 20) (h0 : 0 ≤ x) (h1 : x.toNat < (ia A a).length) : zX d 184 51 ls (zI y :: zI x :: zO (some a) :: st) A K = zX d 184 52 ls st (pI A a ((ia A a).set x.toNat y)) K := zx_iast z184 dX4_findProjection_51 rfl h h0 h1
theorem s184_52 : zX d 184 52 [zO o, v1, v2, v3, v4] st A K = zX d 184 53 [zO o, v1, v2, v3, v4] (zO o :: st) A K := zx_aload_n z184 dX4_findProjection_52 rfl rfl
theorem s184_53 (h : tg A a = 9) : zX d 184 53 ls (zO (some a) :: st) A K = zX d 184 56 ls (fd A a 31 :: st) A K := zx_getf z184 zo184 dX4_findProjection_53 F10_82 rfl h
theorem s184_56 : zX d 184 56 ls st A K = zX d 184 57 ls (zI 2 :: st) A K := zx_const z184 dX4_findProjection_56 (by decide) rfl
theorem s184_57 : zX d 184 57 [v0, v1, v2, v3, zI x] st A K = zX d 184 59 [v0, v1, v2, v3, zI x] (zI x :: st) A K := zx_iload z184 dX4_findProjection_57 rfl rfl
theorem s184_59 (h : tg A a = 20) (h0 : 0 ≤ x) (h1 : x.toNat < (ia A a).length) : zX d 184 59 ls (zI y :: zI x :: zO (some a) :: st) A K = zX d 184 60 ls st (pI A a ((ia A a).set x.toNat y)) K := zx_iast z184 dX4_findProjection_59 rfl h h0 h1
theorem s184_60 : zX d 184 60 [zO o, v1, v2, v3, v4] st A K = zX d 184 61 [zO o, v1, v2, v3, v4] (zO o :: st) A K := zx_aload_n z184 dX4_findProjection_60 rfl rfl
theorem s184_61 : zX d 184 61 [v0, zI x, v2, v3, v4] st A K = zX d 184 62 [v0, zI x, v2, v3, v4] (zI x :: st) A K := zx_iload_n z184 dX4_findProjection_61 rfl rfl
theorem s184_62 (h : tg A a = 9)  : zX (d + 1) 184 62 ls (zI i0 :: zO (some a) :: []) A K = zX d 185 0 [zO (some a), zI i0, zU, zU, zU, zU] [] A (zK (d + 1) 184 62 65 ls [] K) := zx_callV (t := 9) z184 zo184 dX4_findProjection_62 rfl C10_262 rfl rfl zm185 rfl rfl (zwt_le (Nat.le_of_ble_eq_true rfl)) rfl h
theorem s184_65 : zX d 184 65 ls (zI x :: st) A K = (if x = 0 then zX d 184 81 ls st A K else zX d 184 68 ls st A K) := zx_if_eq z184 dX4_findProjection_65 rfl rfl
theorem s184_68 : zX d 184 68 ls st A K = zX d 184 70 ls (zI (100) :: st) A K := zx_bipush z184 dX4_findProjection_68 (by decide) rfl
theorem s184_70 : zX d 184 70 [v0, v1, zI x, v3, v4] st A K = zX d 184 71 [v0, v1, zI x, v3, v4] (zI x :: st) A K := zx_iload_n z184 dX4_findProjection_70 rfl rfl
theorem s184_71 : zX d 184 71 ls (zI y :: zI x :: st) A K = zX d 184 72 ls (zI (zw (x * y)) :: st) A K := zx_imul z184 dX4_findProjection_71 rfl
theorem s184_72 : zX d 184 72 ls st A K = zX d 184 74 ls (zI (10) :: st) A K := zx_bipush z184 dX4_findProjection_72 (by decide) rfl
theorem s184_74 : zX d 184 74 [v0, v1, v2, zI x, v4] st A K = zX d 184 75 [v0, v1, v2, zI x, v4] (zI x :: st) A K := zx_iload_n z184 dX4_findProjection_74 rfl rfl
theorem s184_75 : zX d 184 75 ls (zI y :: zI x :: st) A K = zX d 184 76 ls (zI (zw (x * y)) :: st) A K := zx_imul z184 dX4_findProjection_75 rfl
theorem s184_76 : zX d 184 76 ls (zI y :: zI x :: st) A K = zX d 184 77 ls (zI (zw (x + y)) :: st) A K := zx_iadd z184 dX4_findProjection_76 rfl
theorem s184_77 : zX d 184 77 [v0, v1, v2, v3, zI x] st A K = zX d 184 79 [v0, v1, v2, v3, zI x] (zI x :: st) A K := zx_iload z184 dX4_findProjection_77 rfl rfl
theorem s184_79 : zX d 184 79 ls (zI y :: zI x :: st) A K = zX d 184 80 ls (zI (zw (x + y)) :: st) A K := zx_iadd z184 dX4_findProjection_79 rfl
theorem s184_80 : zX d 184 80 ls [zI x] A K = K (Sum.inl (some (zI x))) A := zx_iret z184 dX4_findProjection_80 zk184 rfl
theorem s184_81 : zX d 184 81 [v0, v1, v2, v3, zI x] st A K = zX d 184 84 [v0, v1, v2, v3, zI (zw (x + 1))] st A K := zx_iinc z184 dX4_findProjection_81 rfl rfl rfl
theorem s184_84 : zX d 184 84 ls st A K = zX d 184 27 ls st A K := zx_goto z184 dX4_findProjection_84 rfl
theorem s184_87 : zX d 184 87 [v0, v1, v2, zI x, v4] st A K = zX d 184 90 [v0, v1, v2, zI (zw (x + 1)), v4] st A K := zx_iinc z184 dX4_findProjection_87 rfl rfl rfl
theorem s184_90 : zX d 184 90 ls st A K = zX d 184 14 ls st A K := zx_goto z184 dX4_findProjection_90 rfl
theorem s184_93 : zX d 184 93 [v0, v1, zI x, v3, v4] st A K = zX d 184 96 [v0, v1, zI (zw (x + 1)), v3, v4] st A K := zx_iinc z184 dX4_findProjection_93 rfl rfl rfl
theorem s184_96 : zX d 184 96 ls st A K = zX d 184 2 ls st A K := zx_goto z184 dX4_findProjection_96 rfl
theorem s184_99 : zX d 184 99 ls st A K = zX d 184 101 ls (zI (-5) :: st) A K := zx_bipush z184 dX4_findProjection_99 (by decide) rfl
theorem s184_101 : zX d 184 101 ls [zI x] A K = K (Sum.inl (some (zI x))) A := zx_iret z184 dX4_findProjection_101 zk184 rfl
theorem s185_0 : zX d 185 0 ls st A K = zX d 185 1 ls (zI 0 :: st) A K := zx_const z185 dX4_isValid_0 (by decide) rfl
theorem s185_1 : zX d 185 1 [v0, v1, v2, v3, v4, v5] (zI x :: st) A K = zX d 185 2 [v0, v1, zI x, v3, v4, v5] st A K := zx_istore_n z185 dX4_isValid_1 (Nat.le_of_ble_eq_true rfl) rfl rfl
theorem s185_2 : zX d 185 2 [zO o, v1, v2, v3, v4, v5] st A K = zX d 185 3 [zO o, v1, v2, v3, v4, v5] (zO o :: st) A K := zx_aload_n z185 dX4_isValid_2 rfl rfl
theorem s185_3 (h : tg A a = 9) : zX d 185 3 ls (zO (some a) :: st) A K = zX d 185 6 ls (fd A a 32 :: st) A K := zx_getf z185 zo185 dX4_isValid_3 F10_85 rfl h
theorem s185_6 : zX d 185 6 [v0, v1, v2, v3, v4, v5] (zO o :: st) A K = zX d 185 7 [v0, v1, v2, zO o, v4, v5] st A K := zx_astore_n z185 dX4_isValid_6 (Nat.le_of_ble_eq_true rfl) rfl rfl
theorem s185_7 : zX d 185 7 ls st A K = zX d 185 8 ls (zI 0 :: st) A K := zx_const z185 dX4_isValid_7 (by decide) rfl
theorem s185_8 : zX d 185 8 [v0, v1, v2, v3, v4, v5] (zI x :: st) A K = zX d 185 10 [v0, v1, v2, v3, zI x, v5] st A K := zx_istore z185 dX4_isValid_8 (Nat.le_of_ble_eq_true rfl) rfl rfl
theorem s185_10 : zX d 185 10 [v0, v1, v2, v3, zI x, v5] st A K = zX d 185 12 [v0, v1, v2, v3, zI x, v5] (zI x :: st) A K := zx_iload z185 dX4_isValid_10 rfl rfl
theorem s185_12 : zX d 185 12 ls st A K = zX d 185 13 ls (zI 3 :: st) A K := zx_const z185 dX4_isValid_12 (by decide) rfl
theorem s185_13 : zX d 185 13 ls (zI y :: zI x :: st) A K = (if y ≤ x then zX d 185 27 ls st A K else zX d 185 16 ls st A K) := zx_ic_ge z185 dX4_isValid_13 rfl rfl
theorem s185_16 : zX d 185 16 [v0, v1, v2, zO o, v4, v5] st A K = zX d 185 17 [v0, v1, v2, zO o, v4, v5] (zO o :: st) A K := zx_aload_n z185 dX4_isValid_16 rfl rfl
theorem s185_17 : zX d 185 17 [v0, v1, v2, v3, zI x, v5] st A K = zX d 185 19 [v0, v1, v2, v3, zI x, v5] (zI x :: st) A K := zx_iload z185 dX4_isValid_17 rfl rfl
theorem s185_19 : zX d 185 19 ls st A K = zX d 185 20 ls (zI 0 :: st) A K := zx_const z185 dX4_isValid_19 (by decide) rfl
theorem s185_20 (h : tg A a = 21) (h0 : 0 ≤ x) (h1 : x.toNat < (ia A a).length) : zX d 185 20 ls (zI y :: zI x :: zO (some a) :: st) A K = zX d 185 21 ls st (pI A a ((ia A a).set x.toNat (zhb y))) K := zx_bast z185 dX4_isValid_20 rfl h h0 h1
theorem s185_20z (h : tg A a = 22) (h2 : y = 0 ∨ y = 1) (h0 : 0 ≤ x) (h1 : x.toNat < (ia A a).length) : zX d 185 20 ls (zI y :: zI x :: zO (some a) :: st) A K = zX d 185 21 ls st (pI A a ((ia A a).set x.toNat y)) K := zx_zast z185 dX4_isValid_20 rfl h h2 h0 h1
theorem s185_21 : zX d 185 21 [v0, v1, v2, v3, zI x, v5] st A K = zX d 185 24 [v0, v1, v2, v3, zI (zw (x + 1)), v5] st A K := zx_iinc z185 dX4_isValid_21 rfl rfl rfl
theorem s185_24 : zX d 185 24 ls st A K = zX d 185 10 ls st A K := zx_goto z185 dX4_isValid_24 rfl
theorem s185_27 : zX d 185 27 ls st A K = zX d 185 28 ls (zI 0 :: st) A K := zx_const z185 dX4_isValid_27 (by decide) rfl
theorem s185_28 : zX d 185 28 [v0, v1, v2, v3, v4, v5] (zI x :: st) A K = zX d 185 30 [v0, v1, v2, v3, zI x, v5] st A K := zx_istore z185 dX4_isValid_28 (Nat.le_of_ble_eq_true rfl) rfl rfl
theorem s185_30 : zX d 185 30 [v0, v1, v2, v3, zI x, v5] st A K = zX d 185 32 [v0, v1, v2, v3, zI x, v5] (zI x :: st) A K := zx_iload z185 dX4_isValid_30 rfl rfl
theorem s185_32 : zX d 185 32 [zO o, v1, v2, v3, v4, v5] st A K = zX d 185 33 [zO o, v1, v2, v3, v4, v5] (zO o :: st) A K := zx_aload_n z185 dX4_isValid_32 rfl rfl
theorem s185_33 (h : tg A a = 9) : zX d 185 33 ls (zO (some a) :: st) A K = zX d 185 36 ls (fd A a 23 :: st) A K := zx_getf z185 zo185 dX4_isValid_33 F10_211 rfl h
theorem s185_36 : zX d 185 36 ls (zI y :: zI x :: st) A K = (if y ≤ x then zX d 185 129 ls st A K else zX d 185 39 ls st A K) := zx_ic_ge z185 dX4_isValid_36 rfl rfl
theorem s185_39 : zX d 185 39 [zO o, v1, v2, v3, v4, v5] st A K = zX d 185 40 [zO o, v1, v2, v3, v4, v5] (zO o :: st) A K := zx_aload_n z185 dX4_isValid_39 rfl rfl
theorem s185_40 (h : tg A a = 9) : zX d 185 40 ls (zO (some a) :: st) A K = zX d 185 43 ls (fd A a 22 :: st) A K := zx_getf z185 zo185 dX4_isValid_40 F10_63 rfl h
theorem s185_43 : zX d 185 43 [v0, v1, v2, v3, zI x, v5] st A K = zX d 185 45 [v0, v1, v2, v3, zI x, v5] (zI x :: st) A K := zx_iload z185 dX4_isValid_43 rfl rfl
theorem s185_45 (h : tg A a = 20) (h0 : 0 ≤ x) (h1 : x.toNat < (ia A a).length) : zX d 185 45 ls (zI x :: zO (some a) :: st) A K = zX d 185 46 ls (zI ((ia A a).getD x.toNat 0) :: st) A K := zx_iald z185 dX4_isValid_45 rfl h h0 h1
theorem s185_45s (h : tg A a = 30) (h0 : 0 ≤ x) (h1 : x.toNat < (ia A a).length) : zX d 185 45 ls (zI x :: zO (some a) :: st) A K = zX d 185 46 ls (zI ((ia A a).getD x.toNat 0) :: st) A K := zx_sald z185 dX4_isValid_45 rfl h h0 h1
theorem s185_46 : zX d 185 46 [v0, zI x, v2, v3, v4, v5] st A K = zX d 185 47 [v0, zI x, v2, v3, v4, v5] (zI x :: st) A K := zx_iload_n z185 dX4_isValid_46 rfl rfl
theorem s185_47 : zX d 185 47 ls (zI y :: zI x :: st) A K = (if x ≠ y then zX d 185 123 ls st A K else zX d 185 50 ls st A K) := zx_ic_ne z185 dX4_isValid_47 rfl rfl
theorem s185_50 : zX d 185 50 [zO o, v1, v2, v3, v4, v5] st A K = zX d 185 51 [zO o, v1, v2, v3, v4, v5] (zO o :: st) A K := zx_aload_n z185 dX4_isValid_50 rfl rfl
theorem s185_51 : zX d 185 51 [v0, v1, v2, v3, zI x, v5] st A K = zX d 185 53 [v0, v1, v2, v3, zI x, v5] (zI x :: st) A K := zx_iload z185 dX4_isValid_51 rfl rfl
theorem s185_53 : zX d 185 53 [zO o, v1, v2, v3, v4, v5] st A K = zX d 185 54 [zO o, v1, v2, v3, v4, v5] (zO o :: st) A K := zx_aload_n z185 dX4_isValid_53 rfl rfl
theorem s185_54 (h : tg A a = 9) : zX d 185 54 ls (zO (some a) :: st) A K = zX d 185 57 ls (fd A a 31 :: st) A K := zx_getf z185 zo185 dX4_isValid_54 F10_82 rfl h
theorem s185_57 : zX d 185 57 [zO o, v1, v2, v3, v4, v5] st A K = zX d 185 58 [zO o, v1, v2, v3, v4, v5] (zO o :: st) A K := zx_aload_n z185 dX4_isValid_57 rfl rfl
theorem s185_58 : zX d 185 58 [v0, v1, v2, v3, zI x, v5] st A K = zX d 185 60 [v0, v1, v2, v3, zI x, v5] (zI x :: st) A K := zx_iload z185 dX4_isValid_58 rfl rfl
theorem s185_60 (h : tg A a = 9)  : zX (d + 1) 185 60 ls (zI i0 :: zO (some a) :: [w0, w1, w2]) A K = zX d 154 0 [zO (some a), zI i0] [] A (zK (d + 1) 185 60 63 ls [w0, w1, w2] K) := zx_callV (t := 9) z185 zo185 dX4_isValid_60 rfl C10_191 rfl rfl zm154 rfl rfl (zwt_le (Nat.le_of_ble_eq_true rfl)) rfl h
theorem s185_63 (h : tg A a = 20) (h0 : 0 ≤ x) (h1 : x.toNat < (ia A a).length) : zX d 185 63 ls (zI x :: zO (some a) :: st) A K = zX d 185 64 ls (zI ((ia A a).getD x.toNat 0) :: st) A K := zx_iald z185 dX4_isValid_63 rfl h h0 h1
theorem s185_63s (h : tg A a = 30) (h0 : 0 ≤ x) (h1 : x.toNat < (ia A a).length) : zX d 185 63 ls (zI x :: zO (some a) :: st) A K = zX d 185 64 ls (zI ((ia A a).getD x.toNat 0) :: st) A K := zx_sald z185 dX4_isValid_63 rfl h h0 h1
theorem s185_64 : zX d 185 64 ls st A K = zX d 185 65 ls (zI 1 :: st) A K := zx_const z185 dX4_isValid_64 (by decide) rfl
theorem s185_65 : zX d 185 65 ls (zI y :: zI x :: st) A K = zX d 185 66 ls (zI (zw (x - y)) :: st) A K := zx_isub z185 dX4_isValid_65 rfl
theorem s185_66 : zX d 185 66 [zO o, v1, v2, v3, v4, v5] st A K = zX d 185 67 [zO o, v1, v2, v3, v4, v5] (zO o :: st) A K := zx_aload_n z185 dX4_isValid_66 rfl rfl
theorem s185_67 (h : tg A a = 9) : zX d 185 67 ls (zO (some a) :: st) A K = zX d 185 70 ls (fd A a 31 :: st) A K := zx_getf z185 zo185 dX4_isValid_67 F10_82 rfl h
theorem s185_70 : zX d 185 70 [zO o, v1, v2, v3, v4, v5] st A K = zX d 185 71 [zO o, v1, v2, v3, v4, v5] (zO o :: st) A K := zx_aload_n z185 dX4_isValid_70 rfl rfl
theorem s185_71 : zX d 185 71 [v0, v1, v2, v3, zI x, v5] st A K = zX d 185 73 [v0, v1, v2, v3, zI x, v5] (zI x :: st) A K := zx_iload z185 dX4_isValid_71 rfl rfl
theorem s185_73 (h : tg A a = 9)  : zX (d + 1) 185 73 ls (zI i0 :: zO (some a) :: [w0, w1, w2, w3]) A K = zX d 157 0 [zO (some a), zI i0] [] A (zK (d + 1) 185 73 76 ls [w0, w1, w2, w3] K) := zx_callV (t := 9) z185 zo185 dX4_isValid_73 rfl C10_194 rfl rfl zm157 rfl rfl (zwt_le (Nat.le_of_ble_eq_true rfl)) rfl h
theorem s185_76 (h : tg A a = 20) (h0 : 0 ≤ x) (h1 : x.toNat < (ia A a).length) : zX d 185 76 ls (zI x :: zO (some a) :: st) A K = zX d 185 77 ls (zI ((ia A a).getD x.toNat 0) :: st) A K := zx_iald z185 dX4_isValid_76 rfl h h0 h1
theorem s185_76s (h : tg A a = 30) (h0 : 0 ≤ x) (h1 : x.toNat < (ia A a).length) : zX d 185 76 ls (zI x :: zO (some a) :: st) A K = zX d 185 77 ls (zI ((ia A a).getD x.toNat 0) :: st) A K := zx_sald z185 dX4_isValid_76 rfl h h0 h1
theorem s185_77 : zX d 185 77 ls st A K = zX d 185 78 ls (zI 1 :: st) A K := zx_const z185 dX4_isValid_77 (by decide) rfl
theorem s185_78 : zX d 185 78 ls (zI y :: zI x :: st) A K = zX d 185 79 ls (zI (zw (x - y)) :: st) A K := zx_isub z185 dX4_isValid_78 rfl
theorem s185_79 (h : tg A a = 9)  : zX (d + 1) 185 79 ls (zI i2 :: zI i1 :: zI i0 :: zO (some a) :: []) A K = zX d 172 0 [zO (some a), zI i0, zI i1, zI i2, zU, zU, zU, zU, zU] [] A (zK (d + 1) 185 79 82 ls [] K) := zx_callV (t := 9) z185 zo185 dX4_isValid_79 rfl C10_229 rfl rfl zm172 rfl rfl (zwt_le (Nat.le_of_ble_eq_true rfl)) rfl h
theorem s185_82 : zX d 185 82 [v0, v1, v2, v3, v4, v5] (zI x :: st) A K = zX d 185 84 [v0, v1, v2, v3, v4, zI x] st A K := zx_istore z185 dX4_isValid_82 (Nat.le_of_ble_eq_true rfl) rfl rfl
theorem s185_84 : zX d 185 84 [v0, v1, v2, v3, v4, zI x] st A K = zX d 185 86 [v0, v1, v2, v3, v4, zI x] (zI x :: st) A K := zx_iload z185 dX4_isValid_84 rfl rfl
theorem s185_86 : zX d 185 86 ls (zI x :: st) A K = (if x ≠ 0 then zX d 185 91 ls st A K else zX d 185 89 ls st A K) := zx_if_ne z185 dX4_isValid_86 rfl rfl
theorem s185_89 : zX d 185 89 ls st A K = zX d 185 90 ls (zI 0 :: st) A K := zx_const z185 dX4_isValid_89 (by decide) rfl
theorem s185_90 (h : x = 0 ∨ x = 1) : zX d 185 90 ls [zI x] A K = K (Sum.inl (some (zI x))) A := zx_iret z185 dX4_isValid_90 zk185 (by rcases h with q | q <;> subst q <;> rfl)
theorem s185_91 : zX d 185 91 [v0, v1, zI x, v3, v4, v5] st A K = zX d 185 92 [v0, v1, zI x, v3, v4, v5] (zI x :: st) A K := zx_iload_n z185 dX4_isValid_91 rfl rfl
theorem s185_92 : zX d 185 92 [v0, v1, v2, v3, v4, zI x] st A K = zX d 185 94 [v0, v1, v2, v3, v4, zI x] (zI x :: st) A K := zx_iload z185 dX4_isValid_92 rfl rfl
theorem s185_94 : zX d 185 94 ls st A K = zX d 185 95 ls (zI 2 :: st) A K := zx_const z185 dX4_isValid_94 (by decide) rfl
theorem s185_95 : zX d 185 95 ls (zI y :: zI x :: st) A K = (if x ≠ y then zX d 185 102 ls st A K else zX d 185 98 ls st A K) := zx_ic_ne z185 dX4_isValid_95 rfl rfl
theorem s185_98 : zX d 185 98 ls st A K = zX d 185 99 ls (zI 1 :: st) A K := zx_const z185 dX4_isValid_98 (by decide) rfl
theorem s185_99 : zX d 185 99 ls st A K = zX d 185 103 ls st A K := zx_goto z185 dX4_isValid_99 rfl
theorem s185_102 : zX d 185 102 ls st A K = zX d 185 103 ls (zI 0 :: st) A K := zx_const z185 dX4_isValid_102 (by decide) rfl
theorem s185_103 : zX d 185 103 ls (zI y :: zI x :: st) A K = zX d 185 104 ls (zI ((Int32.ofInt x ||| Int32.ofInt y).toInt) :: st) A K := zx_ior z185 dX4_isValid_103 rfl
theorem s185_104 : zX d 185 104 [v0, v1, v2, v3, v4, v5] (zI x :: st) A K = zX d 185 105 [v0, v1, zI x, v3, v4, v5] st A K := zx_istore_n z185 dX4_isValid_104 (Nat.le_of_ble_eq_true rfl) rfl rfl
theorem s185_105 : zX d 185 105 [v0, v1, v2, zO o, v4, v5] st A K = zX d 185 106 [v0, v1, v2, zO o, v4, v5] (zO o :: st) A K := zx_aload_n z185 dX4_isValid_105 rfl rfl
theorem s185_106 : zX d 185 106 [zO o, v1, v2, v3, v4, v5] st A K = zX d 185 107 [zO o, v1, v2, v3, v4, v5] (zO o :: st) A K := zx_aload_n z185 dX4_isValid_106 rfl rfl
theorem s185_107 : zX d 185 107 [v0, v1, v2, v3, zI x, v5] st A K = zX d 185 109 [v0, v1, v2, v3, zI x, v5] (zI x :: st) A K := zx_iload z185 dX4_isValid_107 rfl rfl
theorem s185_109 (h : tg A a = 9)  : zX (d + 1) 185 109 ls (zI i0 :: zO (some a) :: [w0]) A K = zX d 154 0 [zO (some a), zI i0] [] A (zK (d + 1) 185 109 112 ls [w0] K) := zx_callV (t := 9) z185 zo185 dX4_isValid_109 rfl C10_191 rfl rfl zm154 rfl rfl (zwt_le (Nat.le_of_ble_eq_true rfl)) rfl h
theorem s185_112 : zX d 185 112 ls st A K = zX d 185 113 ls (zI 1 :: st) A K := zx_const z185 dX4_isValid_112 (by decide) rfl
theorem s185_113 (h : tg A a = 21) (h0 : 0 ≤ x) (h1 : x.toNat < (ia A a).length) : zX d 185 113 ls (zI y :: zI x :: zO (some a) :: st) A K = zX d 185 114 ls st (pI A a ((ia A a).set x.toNat (zhb y))) K := zx_bast z185 dX4_isValid_113 rfl h h0 h1
theorem s185_113z (h : tg A a = 22) (h2 : y = 0 ∨ y = 1) (h0 : 0 ≤ x) (h1 : x.toNat < (ia A a).length) : zX d 185 113 ls (zI y :: zI x :: zO (some a) :: st) A K = zX d 185 114 ls st (pI A a ((ia A a).set x.toNat y)) K := zx_zast z185 dX4_isValid_113 rfl h h2 h0 h1
theorem s185_114 : zX d 185 114 [v0, v1, v2, zO o, v4, v5] st A K = zX d 185 115 [v0, v1, v2, zO o, v4, v5] (zO o :: st) A K := zx_aload_n z185 dX4_isValid_114 rfl rfl
theorem s185_115 : zX d 185 115 [zO o, v1, v2, v3, v4, v5] st A K = zX d 185 116 [zO o, v1, v2, v3, v4, v5] (zO o :: st) A K := zx_aload_n z185 dX4_isValid_115 rfl rfl
theorem s185_116 : zX d 185 116 [v0, v1, v2, v3, zI x, v5] st A K = zX d 185 118 [v0, v1, v2, v3, zI x, v5] (zI x :: st) A K := zx_iload z185 dX4_isValid_116 rfl rfl
theorem s185_118 (h : tg A a = 9)  : zX (d + 1) 185 118 ls (zI i0 :: zO (some a) :: [w0]) A K = zX d 157 0 [zO (some a), zI i0] [] A (zK (d + 1) 185 118 121 ls [w0] K) := zx_callV (t := 9) z185 zo185 dX4_isValid_118 rfl C10_194 rfl rfl zm157 rfl rfl (zwt_le (Nat.le_of_ble_eq_true rfl)) rfl h
theorem s185_121 : zX d 185 121 ls st A K = zX d 185 122 ls (zI 1 :: st) A K := zx_const z185 dX4_isValid_121 (by decide) rfl
theorem s185_122 (h : tg A a = 21) (h0 : 0 ≤ x) (h1 : x.toNat < (ia A a).length) : zX d 185 122 ls (zI y :: zI x :: zO (some a) :: st) A K = zX d 185 123 ls st (pI A a ((ia A a).set x.toNat (zhb y))) K := zx_bast z185 dX4_isValid_122 rfl h h0 h1
theorem s185_122z (h : tg A a = 22) (h2 : y = 0 ∨ y = 1) (h0 : 0 ≤ x) (h1 : x.toNat < (ia A a).length) : zX d 185 122 ls (zI y :: zI x :: zO (some a) :: st) A K = zX d 185 123 ls st (pI A a ((ia A a).set x.toNat y)) K := zx_zast z185 dX4_isValid_122 rfl h h2 h0 h1
theorem s185_123 : zX d 185 123 [v0, v1, v2, v3, zI x, v5] st A K = zX d 185 126 [v0, v1, v2, v3, zI (zw (x + 1)), v5] st A K := zx_iinc z185 dX4_isValid_123 rfl rfl rfl
theorem s185_126 : zX d 185 126 ls st A K = zX d 185 30 ls st A K := zx_goto z185 dX4_isValid_126 rfl
theorem s185_129 : zX d 185 129 [v0, v1, zI x, v3, v4, v5] st A K = zX d 185 130 [v0, v1, zI x, v3, v4, v5] (zI x :: st) A K := zx_iload_n z185 dX4_isValid_129 rfl rfl
theorem s185_130 : zX d 185 130 [v0, v1, v2, v3, v4, v5] (zI x :: st) A K = zX d 185 132 [v0, v1, v2, v3, zI x, v5] st A K := zx_istore z185 dX4_isValid_130 (Nat.le_of_ble_eq_true rfl) rfl rfl
theorem s185_132 : zX d 185 132 ls st A K = zX d 185 133 ls (zI 0 :: st) A K := zx_const z185 dX4_isValid_132 (by decide) rfl
theorem s185_133 : zX d 185 133 [v0, v1, v2, v3, v4, v5] (zI x :: st) A K = zX d 185 135 [v0, v1, v2, v3, v4, zI x] st A K := zx_istore z185 dX4_isValid_133 (Nat.le_of_ble_eq_true rfl) rfl rfl
theorem s185_135 : zX d 185 135 [v0, v1, v2, v3, v4, zI x] st A K = zX d 185 137 [v0, v1, v2, v3, v4, zI x] (zI x :: st) A K := zx_iload z185 dX4_isValid_135 rfl rfl
theorem s185_137 : zX d 185 137 ls st A K = zX d 185 138 ls (zI 3 :: st) A K := zx_const z185 dX4_isValid_137 (by decide) rfl
theorem s185_138 : zX d 185 138 ls (zI y :: zI x :: st) A K = (if y ≤ x then zX d 185 175 ls st A K else zX d 185 141 ls st A K) := zx_ic_ge z185 dX4_isValid_138 rfl rfl
theorem s185_141 : zX d 185 141 [v0, v1, v2, v3, zI x, v5] st A K = zX d 185 143 [v0, v1, v2, v3, zI x, v5] (zI x :: st) A K := zx_iload z185 dX4_isValid_141 rfl rfl
theorem s185_143 : zX d 185 143 [v0, v1, v2, zO o, v4, v5] st A K = zX d 185 144 [v0, v1, v2, zO o, v4, v5] (zO o :: st) A K := zx_aload_n z185 dX4_isValid_143 rfl rfl
theorem s185_144 : zX d 185 144 [v0, v1, v2, v3, v4, zI x] st A K = zX d 185 146 [v0, v1, v2, v3, v4, zI x] (zI x :: st) A K := zx_iload z185 dX4_isValid_144 rfl rfl
theorem s185_146 (h : tg A a = 21) (h0 : 0 ≤ x) (h1 : x.toNat < (ia A a).length) : zX d 185 146 ls (zI x :: zO (some a) :: st) A K = zX d 185 147 ls (zI ((ia A a).getD x.toNat 0) :: st) A K := zx_bald z185 dX4_isValid_146 rfl h h0 h1
theorem s185_146z (h : tg A a = 22) (h0 : 0 ≤ x) (h1 : x.toNat < (ia A a).length) : zX d 185 146 ls (zI x :: zO (some a) :: st) A K = zX d 185 147 ls (zI ((ia A a).getD x.toNat 0) :: st) A K := zx_zald z185 dX4_isValid_146 rfl h h0 h1
theorem s185_147 : zX d 185 147 ls (zI x :: st) A K = (if x ≠ 0 then zX d 185 161 ls st A K else zX d 185 150 ls st A K) := zx_if_ne z185 dX4_isValid_147 rfl rfl
theorem s185_150 : zX d 185 150 [zO o, v1, v2, v3, v4, v5] st A K = zX d 185 151 [zO o, v1, v2, v3, v4, v5] (zO o :: st) A K := zx_aload_n z185 dX4_isValid_150 rfl rfl
theorem s185_151 (h : tg A a = 9) : zX d 185 151 ls (zO (some a) :: st) A K = zX d 185 154 ls (fd A a 31 :: st) A K := zx_getf z185 zo185 dX4_isValid_151 F10_82 rfl h
theorem s185_154 : zX d 185 154 [v0, v1, v2, v3, v4, zI x] st A K = zX d 185 156 [v0, v1, v2, v3, v4, zI x] (zI x :: st) A K := zx_iload z185 dX4_isValid_154 rfl rfl
theorem s185_156 (h : tg A a = 20) (h0 : 0 ≤ x) (h1 : x.toNat < (ia A a).length) : zX d 185 156 ls (zI x :: zO (some a) :: st) A K = zX d 185 157 ls (zI ((ia A a).getD x.toNat 0) :: st) A K := zx_iald z185 dX4_isValid_156 rfl h h0 h1
theorem s185_156s (h : tg A a = 30) (h0 : 0 ≤ x) (h1 : x.toNat < (ia A a).length) : zX d 185 156 ls (zI x :: zO (some a) :: st) A K = zX d 185 157 ls (zI ((ia A a).getD x.toNat 0) :: st) A K := zx_sald z185 dX4_isValid_156 rfl h h0 h1
theorem s185_157 : zX d 185 157 ls st A K = zX d 185 158 ls (zI 1 :: st) A K := zx_const z185 dX4_isValid_157 (by decide) rfl
theorem s185_158 : zX d 185 158 ls (zI y :: zI x :: st) A K = (if x ≠ y then zX d 185 165 ls st A K else zX d 185 161 ls st A K) := zx_ic_ne z185 dX4_isValid_158 rfl rfl
theorem s185_161 : zX d 185 161 ls st A K = zX d 185 162 ls (zI 1 :: st) A K := zx_const z185 dX4_isValid_161 (by decide) rfl
theorem s185_162 : zX d 185 162 ls st A K = zX d 185 166 ls st A K := zx_goto z185 dX4_isValid_162 rfl
theorem s185_165 : zX d 185 165 ls st A K = zX d 185 166 ls (zI 0 :: st) A K := zx_const z185 dX4_isValid_165 (by decide) rfl
theorem s185_166 : zX d 185 166 ls (zI y :: zI x :: st) A K = zX d 185 167 ls (zI ((Int32.ofInt x &&& Int32.ofInt y).toInt) :: st) A K := zx_iand z185 dX4_isValid_166 rfl
theorem s185_167 : zX d 185 167 [v0, v1, v2, v3, v4, v5] (zI x :: st) A K = zX d 185 169 [v0, v1, v2, v3, zI x, v5] st A K := zx_istore z185 dX4_isValid_167 (Nat.le_of_ble_eq_true rfl) rfl rfl
theorem s185_169 : zX d 185 169 [v0, v1, v2, v3, v4, zI x] st A K = zX d 185 172 [v0, v1, v2, v3, v4, zI (zw (x + 1))] st A K := zx_iinc z185 dX4_isValid_169 rfl rfl rfl
theorem s185_172 : zX d 185 172 ls st A K = zX d 185 135 ls st A K := zx_goto z185 dX4_isValid_172 rfl
theorem s185_175 : zX d 185 175 [v0, v1, v2, v3, zI x, v5] st A K = zX d 185 177 [v0, v1, v2, v3, zI x, v5] (zI x :: st) A K := zx_iload z185 dX4_isValid_175 rfl rfl
theorem s185_177 (h : x = 0 ∨ x = 1) : zX d 185 177 ls [zI x] A K = K (Sum.inl (some (zI x))) A := zx_iret z185 dX4_isValid_177 zk185 (by rcases h with q | q <;> subst q <;> rfl)
theorem s186_0 : zX d 186 0 [zO o] st A K = zX d 186 1 [zO o] (zO o :: st) A K := zx_aload_n z186 dX4_eliminationRounds_0 rfl rfl
theorem s186_1 (h : tg A a = 9)  : zX (d + 1) 186 1 ls (zO (some a) :: []) A K = zX d 187 0 [zO (some a), zU, zU, zU, zU] [] A (zK (d + 1) 186 1 4 ls [] K) := zx_callV (t := 9) z186 zo186 dX4_eliminationRounds_1 rfl C10_268 rfl rfl zm187 rfl rfl (zwt_le (Nat.le_of_ble_eq_true rfl)) rfl h
theorem s186_4 : zX d 186 4 ls [zI x] A K = K (Sum.inl (some (zI x))) A := zx_iret z186 dX4_eliminationRounds_4 zk186 rfl
theorem s187_0 : zX d 187 0 [zO o, v1, v2, v3, v4] st A K = zX d 187 1 [zO o, v1, v2, v3, v4] (zO o :: st) A K := zx_aload_n z187 dX4_eliminate_0 rfl rfl
theorem s187_1 (h : tg A a = 9)  : zX (d + 1) 187 1 ls (zO (some a) :: []) A K = zX d 167 0 [zO (some a), zU, zU] [] A (zK (d + 1) 187 1 4 ls [] K) := zx_callV (t := 9) z187 zo187 dX4_eliminate_1 rfl C10_223 rfl rfl zm167 rfl rfl (zwt_le (Nat.le_of_ble_eq_true rfl)) rfl h
theorem s187_4 : zX d 187 4 ls st A K = zX d 187 5 ls (zI 0 :: st) A K := zx_const z187 dX4_eliminate_4 (by decide) rfl
theorem s187_5 : zX d 187 5 [v0, v1, v2, v3, v4] (zI x :: st) A K = zX d 187 6 [v0, zI x, v2, v3, v4] st A K := zx_istore_n z187 dX4_eliminate_5 (Nat.le_of_ble_eq_true rfl) rfl rfl
theorem s187_6 : zX d 187 6 ls st A K = zX d 187 7 ls (zI 1 :: st) A K := zx_const z187 dX4_eliminate_6 (by decide) rfl
theorem s187_7 : zX d 187 7 [v0, v1, v2, v3, v4] (zI x :: st) A K = zX d 187 8 [v0, v1, zI x, v3, v4] st A K := zx_istore_n z187 dX4_eliminate_7 (Nat.le_of_ble_eq_true rfl) rfl rfl
theorem s187_8 : zX d 187 8 [v0, v1, zI x, v3, v4] st A K = zX d 187 9 [v0, v1, zI x, v3, v4] (zI x :: st) A K := zx_iload_n z187 dX4_eliminate_8 rfl rfl
theorem s187_9 : zX d 187 9 ls (zI x :: st) A K = (if x = 0 then zX d 187 201 ls st A K else zX d 187 12 ls st A K) := zx_if_eq z187 dX4_eliminate_9 rfl rfl
theorem s187_12 : zX d 187 12 [zO o, v1, v2, v3, v4] st A K = zX d 187 13 [zO o, v1, v2, v3, v4] (zO o :: st) A K := zx_aload_n z187 dX4_eliminate_12 rfl rfl
theorem s187_13 (h : tg A a = 9)  : zX (d + 1) 187 13 ls (zO (some a) :: []) A K = zX d 168 0 [zO (some a), zU, zU, zU] [] A (zK (d + 1) 187 13 16 ls [] K) := zx_callV (t := 9) z187 zo187 dX4_eliminate_13 rfl C10_226 rfl rfl zm168 rfl rfl (zwt_le (Nat.le_of_ble_eq_true rfl)) rfl h
theorem s187_16 : zX d 187 16 ls st A K = zX d 187 17 ls (zI 0 :: st) A K := zx_const z187 dX4_eliminate_16 (by decide) rfl
theorem s187_17 : zX d 187 17 [v0, v1, v2, v3, v4] (zI x :: st) A K = zX d 187 18 [v0, v1, zI x, v3, v4] st A K := zx_istore_n z187 dX4_eliminate_17 (Nat.le_of_ble_eq_true rfl) rfl rfl
theorem s187_18 : zX d 187 18 ls st A K = zX d 187 19 ls (zI 0 :: st) A K := zx_const z187 dX4_eliminate_18 (by decide) rfl
theorem s187_19 : zX d 187 19 [v0, v1, v2, v3, v4] (zI x :: st) A K = zX d 187 20 [v0, v1, v2, zI x, v4] st A K := zx_istore_n z187 dX4_eliminate_19 (Nat.le_of_ble_eq_true rfl) rfl rfl
theorem s187_20 : zX d 187 20 [v0, v1, v2, zI x, v4] st A K = zX d 187 21 [v0, v1, v2, zI x, v4] (zI x :: st) A K := zx_iload_n z187 dX4_eliminate_20 rfl rfl
theorem s187_21 : zX d 187 21 [zO o, v1, v2, v3, v4] st A K = zX d 187 22 [zO o, v1, v2, v3, v4] (zO o :: st) A K := zx_aload_n z187 dX4_eliminate_21 rfl rfl
theorem s187_22 (h : tg A a = 9) : zX d 187 22 ls (zO (some a) :: st) A K = zX d 187 25 ls (fd A a 23 :: st) A K := zx_getf z187 zo187 dX4_eliminate_22 F10_211 rfl h
theorem s187_25 : zX d 187 25 ls (zI y :: zI x :: st) A K = (if y ≤ x then zX d 187 41 ls st A K else zX d 187 28 ls st A K) := zx_ic_ge z187 dX4_eliminate_25 rfl rfl
theorem s187_28 : zX d 187 28 [zO o, v1, v2, v3, v4] st A K = zX d 187 29 [zO o, v1, v2, v3, v4] (zO o :: st) A K := zx_aload_n z187 dX4_eliminate_28 rfl rfl
theorem s187_29 (h : tg A a = 9) : zX d 187 29 ls (zO (some a) :: st) A K = zX d 187 32 ls (fd A a 33 :: st) A K := zx_getf z187 zo187 dX4_eliminate_29 F10_88 rfl h
theorem s187_32 : zX d 187 32 [v0, v1, v2, zI x, v4] st A K = zX d 187 33 [v0, v1, v2, zI x, v4] (zI x :: st) A K := zx_iload_n z187 dX4_eliminate_32 rfl rfl
theorem s187_33 : zX d 187 33 ls st A K = zX d 187 34 ls (zI 0 :: st) A K := zx_const z187 dX4_eliminate_33 (by decide) rfl
theorem s187_34 (h : tg A a = 21) (h0 : 0 ≤ x) (h1 : x.toNat < (ia A a).length) : zX d 187 34 ls (zI y :: zI x :: zO (some a) :: st) A K = zX d 187 35 ls st (pI A a ((ia A a).set x.toNat (zhb y))) K := zx_bast z187 dX4_eliminate_34 rfl h h0 h1
theorem s187_34z (h : tg A a = 22) (h2 : y = 0 ∨ y = 1) (h0 : 0 ≤ x) (h1 : x.toNat < (ia A a).length) : zX d 187 34 ls (zI y :: zI x :: zO (some a) :: st) A K = zX d 187 35 ls st (pI A a ((ia A a).set x.toNat y)) K := zx_zast z187 dX4_eliminate_34 rfl h h2 h0 h1
theorem s187_35 : zX d 187 35 [v0, v1, v2, zI x, v4] st A K = zX d 187 38 [v0, v1, v2, zI (zw (x + 1)), v4] st A K := zx_iinc z187 dX4_eliminate_35 rfl rfl rfl
theorem s187_38 : zX d 187 38 ls st A K = zX d 187 20 ls st A K := zx_goto z187 dX4_eliminate_38 rfl
theorem s187_41 : zX d 187 41 ls st A K = zX d 187 42 ls (zI 0 :: st) A K := zx_const z187 dX4_eliminate_41 (by decide) rfl
theorem s187_42 : zX d 187 42 [v0, v1, v2, v3, v4] (zI x :: st) A K = zX d 187 43 [v0, v1, v2, zI x, v4] st A K := zx_istore_n z187 dX4_eliminate_42 (Nat.le_of_ble_eq_true rfl) rfl rfl
theorem s187_43 : zX d 187 43 [v0, v1, v2, zI x, v4] st A K = zX d 187 44 [v0, v1, v2, zI x, v4] (zI x :: st) A K := zx_iload_n z187 dX4_eliminate_43 rfl rfl
theorem s187_44 : zX d 187 44 [zO o, v1, v2, v3, v4] st A K = zX d 187 45 [zO o, v1, v2, v3, v4] (zO o :: st) A K := zx_aload_n z187 dX4_eliminate_44 rfl rfl
theorem s187_45 (h : tg A a = 9) : zX d 187 45 ls (zO (some a) :: st) A K = zX d 187 48 ls (fd A a 24 :: st) A K := zx_getf z187 zo187 dX4_eliminate_45 F10_220 rfl h
theorem s187_48 : zX d 187 48 ls (zI y :: zI x :: st) A K = (if y ≤ x then zX d 187 147 ls st A K else zX d 187 51 ls st A K) := zx_ic_ge z187 dX4_eliminate_48 rfl rfl
theorem s187_51 : zX d 187 51 [zO o, v1, v2, v3, v4] st A K = zX d 187 52 [zO o, v1, v2, v3, v4] (zO o :: st) A K := zx_aload_n z187 dX4_eliminate_51 rfl rfl
theorem s187_52 : zX d 187 52 [v0, v1, v2, zI x, v4] st A K = zX d 187 53 [v0, v1, v2, zI x, v4] (zI x :: st) A K := zx_iload_n z187 dX4_eliminate_52 rfl rfl
theorem s187_53 (h : tg A a = 9)  : zX (d + 1) 187 53 ls (zI i0 :: zO (some a) :: []) A K = zX d 184 0 [zO (some a), zI i0, zU, zU, zU] [] A (zK (d + 1) 187 53 56 ls [] K) := zx_callV (t := 9) z187 zo187 dX4_eliminate_53 rfl C10_265 rfl rfl zm184 rfl rfl (zwt_le (Nat.le_of_ble_eq_true rfl)) rfl h
theorem s187_56 : zX d 187 56 ls (zI x :: st) A K = (if x < 0 then zX d 187 141 ls st A K else zX d 187 59 ls st A K) := zx_if_lt z187 dX4_eliminate_56 rfl rfl
theorem s187_59 : zX d 187 59 ls st A K = zX d 187 60 ls (zI 1 :: st) A K := zx_const z187 dX4_eliminate_59 (by decide) rfl
theorem s187_60 : zX d 187 60 [v0, v1, v2, v3, v4] (zI x :: st) A K = zX d 187 61 [v0, v1, zI x, v3, v4] st A K := zx_istore_n z187 dX4_eliminate_60 (Nat.le_of_ble_eq_true rfl) rfl rfl
theorem s187_61 : zX d 187 61 ls st A K = zX d 187 62 ls (zI 0 :: st) A K := zx_const z187 dX4_eliminate_61 (by decide) rfl
theorem s187_62 : zX d 187 62 [v0, v1, v2, v3, v4] (zI x :: st) A K = zX d 187 64 [v0, v1, v2, v3, zI x] st A K := zx_istore z187 dX4_eliminate_62 (Nat.le_of_ble_eq_true rfl) rfl rfl
theorem s187_64 : zX d 187 64 [v0, v1, v2, v3, zI x] st A K = zX d 187 66 [v0, v1, v2, v3, zI x] (zI x :: st) A K := zx_iload z187 dX4_eliminate_64 rfl rfl
theorem s187_66 : zX d 187 66 [zO o, v1, v2, v3, v4] st A K = zX d 187 67 [zO o, v1, v2, v3, v4] (zO o :: st) A K := zx_aload_n z187 dX4_eliminate_66 rfl rfl
theorem s187_67 (h : tg A a = 9) : zX d 187 67 ls (zO (some a) :: st) A K = zX d 187 70 ls (fd A a 23 :: st) A K := zx_getf z187 zo187 dX4_eliminate_67 F10_211 rfl h
theorem s187_70 : zX d 187 70 ls (zI y :: zI x :: st) A K = (if y ≤ x then zX d 187 141 ls st A K else zX d 187 73 ls st A K) := zx_ic_ge z187 dX4_eliminate_70 rfl rfl
theorem s187_73 : zX d 187 73 [zO o, v1, v2, v3, v4] st A K = zX d 187 74 [zO o, v1, v2, v3, v4] (zO o :: st) A K := zx_aload_n z187 dX4_eliminate_73 rfl rfl
theorem s187_74 (h : tg A a = 9) : zX d 187 74 ls (zO (some a) :: st) A K = zX d 187 77 ls (fd A a 33 :: st) A K := zx_getf z187 zo187 dX4_eliminate_74 F10_88 rfl h
theorem s187_77 : zX d 187 77 [v0, v1, v2, v3, zI x] st A K = zX d 187 79 [v0, v1, v2, v3, zI x] (zI x :: st) A K := zx_iload z187 dX4_eliminate_77 rfl rfl
theorem s187_79 (h : zc v = true) (h2 : zc u = true) : zX d 187 79 ls (v :: u :: st) A K = zX d 187 80 ls (v :: u :: v :: u :: st) A K := zx_dup2 z187 dX4_eliminate_79 rfl h h2
theorem s187_80 (h : tg A a = 21) (h0 : 0 ≤ x) (h1 : x.toNat < (ia A a).length) : zX d 187 80 ls (zI x :: zO (some a) :: st) A K = zX d 187 81 ls (zI ((ia A a).getD x.toNat 0) :: st) A K := zx_bald z187 dX4_eliminate_80 rfl h h0 h1
theorem s187_80z (h : tg A a = 22) (h0 : 0 ≤ x) (h1 : x.toNat < (ia A a).length) : zX d 187 80 ls (zI x :: zO (some a) :: st) A K = zX d 187 81 ls (zI ((ia A a).getD x.toNat 0) :: st) A K := zx_zald z187 dX4_eliminate_80 rfl h h0 h1
theorem s187_81 : zX d 187 81 [zO o, v1, v2, v3, v4] st A K = zX d 187 82 [zO o, v1, v2, v3, v4] (zO o :: st) A K := zx_aload_n z187 dX4_eliminate_81 rfl rfl
theorem s187_82 (h : tg A a = 9) : zX d 187 82 ls (zO (some a) :: st) A K = zX d 187 85 ls (fd A a 22 :: st) A K := zx_getf z187 zo187 dX4_eliminate_82 F10_63 rfl h
theorem s187_85 : zX d 187 85 [v0, v1, v2, v3, zI x] st A K = zX d 187 87 [v0, v1, v2, v3, zI x] (zI x :: st) A K := zx_iload z187 dX4_eliminate_85 rfl rfl
theorem s187_87 (h : tg A a = 20) (h0 : 0 ≤ x) (h1 : x.toNat < (ia A a).length) : zX d 187 87 ls (zI x :: zO (some a) :: st) A K = zX d 187 88 ls (zI ((ia A a).getD x.toNat 0) :: st) A K := zx_iald z187 dX4_eliminate_87 rfl h h0 h1
theorem s187_87s (h : tg A a = 30) (h0 : 0 ≤ x) (h1 : x.toNat < (ia A a).length) : zX d 187 87 ls (zI x :: zO (some a) :: st) A K = zX d 187 88 ls (zI ((ia A a).getD x.toNat 0) :: st) A K := zx_sald z187 dX4_eliminate_87 rfl h h0 h1
theorem s187_88 : zX d 187 88 [v0, v1, v2, zI x, v4] st A K = zX d 187 89 [v0, v1, v2, zI x, v4] (zI x :: st) A K := zx_iload_n z187 dX4_eliminate_88 rfl rfl
theorem s187_89 : zX d 187 89 ls (zI y :: zI x :: st) A K = (if x ≠ y then zX d 187 132 ls st A K else zX d 187 92 ls st A K) := zx_ic_ne z187 dX4_eliminate_89 rfl rfl
theorem s187_92 : zX d 187 92 [zO o, v1, v2, v3, v4] st A K = zX d 187 93 [zO o, v1, v2, v3, v4] (zO o :: st) A K := zx_aload_n z187 dX4_eliminate_92 rfl rfl
theorem s187_93 : zX d 187 93 [v0, v1, v2, v3, zI x] st A K = zX d 187 95 [v0, v1, v2, v3, zI x] (zI x :: st) A K := zx_iload z187 dX4_eliminate_93 rfl rfl
theorem s187_95 : zX d 187 95 [zO o, v1, v2, v3, v4] st A K = zX d 187 96 [zO o, v1, v2, v3, v4] (zO o :: st) A K := zx_aload_n z187 dX4_eliminate_95 rfl rfl
theorem s187_96 (h : tg A a = 9) : zX d 187 96 ls (zO (some a) :: st) A K = zX d 187 99 ls (fd A a 31 :: st) A K := zx_getf z187 zo187 dX4_eliminate_96 F10_82 rfl h
theorem s187_99 : zX d 187 99 [zO o, v1, v2, v3, v4] st A K = zX d 187 100 [zO o, v1, v2, v3, v4] (zO o :: st) A K := zx_aload_n z187 dX4_eliminate_99 rfl rfl
theorem s187_100 : zX d 187 100 [v0, v1, v2, v3, zI x] st A K = zX d 187 102 [v0, v1, v2, v3, zI x] (zI x :: st) A K := zx_iload z187 dX4_eliminate_100 rfl rfl
theorem s187_102 (h : tg A a = 9) (hw0 : zc w0 = true) (hw1 : zc w1 = true) (hw2 : zc w2 = true) (hw3 : zc w3 = true) (hw4 : zc w4 = true) (hw5 : zc w5 = true) : zX (d + 1) 187 102 ls (zI i0 :: zO (some a) :: [w0, w1, w2, w3, w4, w5]) A K = zX d 154 0 [zO (some a), zI i0] [] A (zK (d + 1) 187 102 105 ls [w0, w1, w2, w3, w4, w5] K) := zx_callV (t := 9) z187 zo187 dX4_eliminate_102 rfl C10_191 rfl rfl zm154 rfl rfl (zwt_c6 hw0 hw1 hw2 hw3 hw4 hw5) rfl h
theorem s187_105 (h : tg A a = 20) (h0 : 0 ≤ x) (h1 : x.toNat < (ia A a).length) : zX d 187 105 ls (zI x :: zO (some a) :: st) A K = zX d 187 106 ls (zI ((ia A a).getD x.toNat 0) :: st) A K := zx_iald z187 dX4_eliminate_105 rfl h h0 h1
theorem s187_105s (h : tg A a = 30) (h0 : 0 ≤ x) (h1 : x.toNat < (ia A a).length) : zX d 187 105 ls (zI x :: zO (some a) :: st) A K = zX d 187 106 ls (zI ((ia A a).getD x.toNat 0) :: st) A K := zx_sald z187 dX4_eliminate_105 rfl h h0 h1
theorem s187_106 : zX d 187 106 ls st A K = zX d 187 107 ls (zI 1 :: st) A K := zx_const z187 dX4_eliminate_106 (by decide) rfl
theorem s187_107 : zX d 187 107 ls (zI y :: zI x :: st) A K = zX d 187 108 ls (zI (zw (x - y)) :: st) A K := zx_isub z187 dX4_eliminate_107 rfl
theorem s187_108 : zX d 187 108 [zO o, v1, v2, v3, v4] st A K = zX d 187 109 [zO o, v1, v2, v3, v4] (zO o :: st) A K := zx_aload_n z187 dX4_eliminate_108 rfl rfl
theorem s187_109 (h : tg A a = 9) : zX d 187 109 ls (zO (some a) :: st) A K = zX d 187 112 ls (fd A a 31 :: st) A K := zx_getf z187 zo187 dX4_eliminate_109 F10_82 rfl h
theorem s187_112 : zX d 187 112 [zO o, v1, v2, v3, v4] st A K = zX d 187 113 [zO o, v1, v2, v3, v4] (zO o :: st) A K := zx_aload_n z187 dX4_eliminate_112 rfl rfl
theorem s187_113 : zX d 187 113 [v0, v1, v2, v3, zI x] st A K = zX d 187 115 [v0, v1, v2, v3, zI x] (zI x :: st) A K := zx_iload z187 dX4_eliminate_113 rfl rfl
theorem s187_115 (h : tg A a = 9) (hw0 : zc w0 = true) (hw1 : zc w1 = true) (hw2 : zc w2 = true) (hw3 : zc w3 = true) (hw4 : zc w4 = true) (hw5 : zc w5 = true) (hw6 : zc w6 = true) : zX (d + 1) 187 115 ls (zI i0 :: zO (some a) :: [w0, w1, w2, w3, w4, w5, w6]) A K = zX d 157 0 [zO (some a), zI i0] [] A (zK (d + 1) 187 115 118 ls [w0, w1, w2, w3, w4, w5, w6] K) := zx_callV (t := 9) z187 zo187 dX4_eliminate_115 rfl C10_194 rfl rfl zm157 rfl rfl (zwt_c7 hw0 hw1 hw2 hw3 hw4 hw5 hw6) rfl h
theorem s187_118 (h : tg A a = 20) (h0 : 0 ≤ x) (h1 : x.toNat < (ia A a).length) : zX d 187 118 ls (zI x :: zO (some a) :: st) A K = zX d 187 119 ls (zI ((ia A a).getD x.toNat 0) :: st) A K := zx_iald z187 dX4_eliminate_118 rfl h h0 h1
theorem s187_118s (h : tg A a = 30) (h0 : 0 ≤ x) (h1 : x.toNat < (ia A a).length) : zX d 187 118 ls (zI x :: zO (some a) :: st) A K = zX d 187 119 ls (zI ((ia A a).getD x.toNat 0) :: st) A K := zx_sald z187 dX4_eliminate_118 rfl h h0 h1
theorem s187_119 : zX d 187 119 ls st A K = zX d 187 120 ls (zI 1 :: st) A K := zx_const z187 dX4_eliminate_119 (by decide) rfl
theorem s187_120 : zX d 187 120 ls (zI y :: zI x :: st) A K = zX d 187 121 ls (zI (zw (x - y)) :: st) A K := zx_isub z187 dX4_eliminate_120 rfl
theorem s187_121 (h : tg A a = 9)  : zX (d + 1) 187 121 ls (zI i2 :: zI i1 :: zI i0 :: zO (some a) :: [w0, w1, w2]) A K = zX d 172 0 [zO (some a), zI i0, zI i1, zI i2, zU, zU, zU, zU, zU] [] A (zK (d + 1) 187 121 124 ls [w0, w1, w2] K) := zx_callV (t := 9) z187 zo187 dX4_eliminate_121 rfl C10_229 rfl rfl zm172 rfl rfl (zwt_le (Nat.le_of_ble_eq_true rfl)) rfl h
theorem s187_124 : zX d 187 124 ls st A K = zX d 187 125 ls (zI 2 :: st) A K := zx_const z187 dX4_eliminate_124 (by decide) rfl
theorem s187_125 : zX d 187 125 ls (zI y :: zI x :: st) A K = (if x ≠ y then zX d 187 132 ls st A K else zX d 187 128 ls st A K) := zx_ic_ne z187 dX4_eliminate_125 rfl rfl
theorem s187_128 : zX d 187 128 ls st A K = zX d 187 129 ls (zI 1 :: st) A K := zx_const z187 dX4_eliminate_128 (by decide) rfl
theorem s187_129 : zX d 187 129 ls st A K = zX d 187 133 ls st A K := zx_goto z187 dX4_eliminate_129 rfl
theorem s187_132 : zX d 187 132 ls st A K = zX d 187 133 ls (zI 0 :: st) A K := zx_const z187 dX4_eliminate_132 (by decide) rfl
theorem s187_133 : zX d 187 133 ls (zI y :: zI x :: st) A K = zX d 187 134 ls (zI ((Int32.ofInt x ||| Int32.ofInt y).toInt) :: st) A K := zx_ior z187 dX4_eliminate_133 rfl
theorem s187_134 (h : tg A a = 21) (h0 : 0 ≤ x) (h1 : x.toNat < (ia A a).length) : zX d 187 134 ls (zI y :: zI x :: zO (some a) :: st) A K = zX d 187 135 ls st (pI A a ((ia A a).set x.toNat (zhb y))) K := zx_bast z187 dX4_eliminate_134 rfl h h0 h1
theorem s187_134z (h : tg A a = 22) (h2 : y = 0 ∨ y = 1) (h0 : 0 ≤ x) (h1 : x.toNat < (ia A a).length) : zX d 187 134 ls (zI y :: zI x :: zO (some a) :: st) A K = zX d 187 135 ls st (pI A a ((ia A a).set x.toNat y)) K := zx_zast z187 dX4_eliminate_134 rfl h h2 h0 h1
theorem s187_135 : zX d 187 135 [v0, v1, v2, v3, zI x] st A K = zX d 187 138 [v0, v1, v2, v3, zI (zw (x + 1))] st A K := zx_iinc z187 dX4_eliminate_135 rfl rfl rfl
theorem s187_138 : zX d 187 138 ls st A K = zX d 187 64 ls st A K := zx_goto z187 dX4_eliminate_138 rfl
theorem s187_141 : zX d 187 141 [v0, v1, v2, zI x, v4] st A K = zX d 187 144 [v0, v1, v2, zI (zw (x + 1)), v4] st A K := zx_iinc z187 dX4_eliminate_141 rfl rfl rfl
theorem s187_144 : zX d 187 144 ls st A K = zX d 187 43 ls st A K := zx_goto z187 dX4_eliminate_144 rfl
theorem s187_147 : zX d 187 147 ls st A K = zX d 187 148 ls (zI 0 :: st) A K := zx_const z187 dX4_eliminate_147 (by decide) rfl
theorem s187_148 : zX d 187 148 [v0, v1, v2, v3, v4] (zI x :: st) A K = zX d 187 149 [v0, v1, v2, zI x, v4] st A K := zx_istore_n z187 dX4_eliminate_148 (Nat.le_of_ble_eq_true rfl) rfl rfl
theorem s187_149 : zX d 187 149 [v0, v1, v2, zI x, v4] st A K = zX d 187 150 [v0, v1, v2, zI x, v4] (zI x :: st) A K := zx_iload_n z187 dX4_eliminate_149 rfl rfl
theorem s187_150 : zX d 187 150 [zO o, v1, v2, v3, v4] st A K = zX d 187 151 [zO o, v1, v2, v3, v4] (zO o :: st) A K := zx_aload_n z187 dX4_eliminate_150 rfl rfl
theorem s187_151 (h : tg A a = 9) : zX d 187 151 ls (zO (some a) :: st) A K = zX d 187 154 ls (fd A a 23 :: st) A K := zx_getf z187 zo187 dX4_eliminate_151 F10_211 rfl h
theorem s187_154 : zX d 187 154 ls (zI y :: zI x :: st) A K = (if y ≤ x then zX d 187 186 ls st A K else zX d 187 157 ls st A K) := zx_ic_ge z187 dX4_eliminate_154 rfl rfl
theorem s187_157 : zX d 187 157 [zO o, v1, v2, v3, v4] st A K = zX d 187 158 [zO o, v1, v2, v3, v4] (zO o :: st) A K := zx_aload_n z187 dX4_eliminate_157 rfl rfl
theorem s187_158 (h : tg A a = 9) : zX d 187 158 ls (zO (some a) :: st) A K = zX d 187 161 ls (fd A a 21 :: st) A K := zx_getf z187 zo187 dX4_eliminate_158 F10_59 rfl h
theorem s187_161 : zX d 187 161 [v0, v1, v2, zI x, v4] st A K = zX d 187 162 [v0, v1, v2, zI x, v4] (zI x :: st) A K := zx_iload_n z187 dX4_eliminate_161 rfl rfl
theorem s187_162 (h : zc v = true) (h2 : zc u = true) : zX d 187 162 ls (v :: u :: st) A K = zX d 187 163 ls (v :: u :: v :: u :: st) A K := zx_dup2 z187 dX4_eliminate_162 rfl h h2
theorem s187_163 (h : tg A a = 21) (h0 : 0 ≤ x) (h1 : x.toNat < (ia A a).length) : zX d 187 163 ls (zI x :: zO (some a) :: st) A K = zX d 187 164 ls (zI ((ia A a).getD x.toNat 0) :: st) A K := zx_bald z187 dX4_eliminate_163 rfl h h0 h1
theorem s187_163z (h : tg A a = 22) (h0 : 0 ≤ x) (h1 : x.toNat < (ia A a).length) : zX d 187 163 ls (zI x :: zO (some a) :: st) A K = zX d 187 164 ls (zI ((ia A a).getD x.toNat 0) :: st) A K := zx_zald z187 dX4_eliminate_163 rfl h h0 h1
theorem s187_164 : zX d 187 164 [zO o, v1, v2, v3, v4] st A K = zX d 187 165 [zO o, v1, v2, v3, v4] (zO o :: st) A K := zx_aload_n z187 dX4_eliminate_164 rfl rfl
theorem s187_165 (h : tg A a = 9) : zX d 187 165 ls (zO (some a) :: st) A K = zX d 187 168 ls (fd A a 33 :: st) A K := zx_getf z187 zo187 dX4_eliminate_165 F10_88 rfl h
theorem s187_168 : zX d 187 168 [v0, v1, v2, zI x, v4] st A K = zX d 187 169 [v0, v1, v2, zI x, v4] (zI x :: st) A K := zx_iload_n z187 dX4_eliminate_168 rfl rfl
theorem s187_169 (h : tg A a = 21) (h0 : 0 ≤ x) (h1 : x.toNat < (ia A a).length) : zX d 187 169 ls (zI x :: zO (some a) :: st) A K = zX d 187 170 ls (zI ((ia A a).getD x.toNat 0) :: st) A K := zx_bald z187 dX4_eliminate_169 rfl h h0 h1
theorem s187_169z (h : tg A a = 22) (h0 : 0 ≤ x) (h1 : x.toNat < (ia A a).length) : zX d 187 169 ls (zI x :: zO (some a) :: st) A K = zX d 187 170 ls (zI ((ia A a).getD x.toNat 0) :: st) A K := zx_zald z187 dX4_eliminate_169 rfl h h0 h1
theorem s187_170 : zX d 187 170 ls (zI x :: st) A K = (if x ≠ 0 then zX d 187 177 ls st A K else zX d 187 173 ls st A K) := zx_if_ne z187 dX4_eliminate_170 rfl rfl
theorem s187_173 : zX d 187 173 ls st A K = zX d 187 174 ls (zI 1 :: st) A K := zx_const z187 dX4_eliminate_173 (by decide) rfl
theorem s187_174 : zX d 187 174 ls st A K = zX d 187 178 ls st A K := zx_goto z187 dX4_eliminate_174 rfl
theorem s187_177 : zX d 187 177 ls st A K = zX d 187 178 ls (zI 0 :: st) A K := zx_const z187 dX4_eliminate_177 (by decide) rfl
theorem s187_178 : zX d 187 178 ls (zI y :: zI x :: st) A K = zX d 187 179 ls (zI ((Int32.ofInt x &&& Int32.ofInt y).toInt) :: st) A K := zx_iand z187 dX4_eliminate_178 rfl
theorem s187_179 (h : tg A a = 21) (h0 : 0 ≤ x) (h1 : x.toNat < (ia A a).length) : zX d 187 179 ls (zI y :: zI x :: zO (some a) :: st) A K = zX d 187 180 ls st (pI A a ((ia A a).set x.toNat (zhb y))) K := zx_bast z187 dX4_eliminate_179 rfl h h0 h1
theorem s187_179z (h : tg A a = 22) (h2 : y = 0 ∨ y = 1) (h0 : 0 ≤ x) (h1 : x.toNat < (ia A a).length) : zX d 187 179 ls (zI y :: zI x :: zO (some a) :: st) A K = zX d 187 180 ls st (pI A a ((ia A a).set x.toNat y)) K := zx_zast z187 dX4_eliminate_179 rfl h h2 h0 h1
theorem s187_180 : zX d 187 180 [v0, v1, v2, zI x, v4] st A K = zX d 187 183 [v0, v1, v2, zI (zw (x + 1)), v4] st A K := zx_iinc z187 dX4_eliminate_180 rfl rfl rfl
theorem s187_183 : zX d 187 183 ls st A K = zX d 187 149 ls st A K := zx_goto z187 dX4_eliminate_183 rfl
theorem s187_186 : zX d 187 186 [v0, zI x, v2, v3, v4] st A K = zX d 187 187 [v0, zI x, v2, v3, v4] (zI x :: st) A K := zx_iload_n z187 dX4_eliminate_186 rfl rfl
theorem s187_187 : zX d 187 187 [v0, v1, zI x, v3, v4] st A K = zX d 187 188 [v0, v1, zI x, v3, v4] (zI x :: st) A K := zx_iload_n z187 dX4_eliminate_187 rfl rfl
theorem s187_188 : zX d 187 188 ls (zI x :: st) A K = (if x = 0 then zX d 187 195 ls st A K else zX d 187 191 ls st A K) := zx_if_eq z187 dX4_eliminate_188 rfl rfl
theorem s187_191 : zX d 187 191 ls st A K = zX d 187 192 ls (zI 1 :: st) A K := zx_const z187 dX4_eliminate_191 (by decide) rfl
theorem s187_192 : zX d 187 192 ls st A K = zX d 187 196 ls st A K := zx_goto z187 dX4_eliminate_192 rfl
theorem s187_195 : zX d 187 195 ls st A K = zX d 187 196 ls (zI 0 :: st) A K := zx_const z187 dX4_eliminate_195 (by decide) rfl
theorem s187_196 : zX d 187 196 ls (zI y :: zI x :: st) A K = zX d 187 197 ls (zI (zw (x + y)) :: st) A K := zx_iadd z187 dX4_eliminate_196 rfl
theorem s187_197 : zX d 187 197 [v0, v1, v2, v3, v4] (zI x :: st) A K = zX d 187 198 [v0, zI x, v2, v3, v4] st A K := zx_istore_n z187 dX4_eliminate_197 (Nat.le_of_ble_eq_true rfl) rfl rfl
theorem s187_198 : zX d 187 198 ls st A K = zX d 187 8 ls st A K := zx_goto z187 dX4_eliminate_198 rfl
theorem s187_201 : zX d 187 201 [v0, zI x, v2, v3, v4] st A K = zX d 187 202 [v0, zI x, v2, v3, v4] (zI x :: st) A K := zx_iload_n z187 dX4_eliminate_201 rfl rfl
theorem s187_202 : zX d 187 202 ls [zI x] A K = K (Sum.inl (some (zI x))) A := zx_iret z187 dX4_eliminate_202 zk187 rfl
theorem s188_0 : zX d 188 0 [zO o, v1, v2, v3] st A K = zX d 188 1 [zO o, v1, v2, v3] (zO o :: st) A K := zx_aload_n z188 dX4_remainingPairCount_0 rfl rfl
theorem s188_1 (h : tg A a = 9)  : zX (d + 1) 188 1 ls (zO (some a) :: []) A K = zX d 187 0 [zO (some a), zU, zU, zU, zU] [] A (zK (d + 1) 188 1 4 ls [] K) := zx_callV (t := 9) z188 zo188 dX4_remainingPairCount_1 rfl C10_268 rfl rfl zm187 rfl rfl (zwt_le (Nat.le_of_ble_eq_true rfl)) rfl h
theorem s188_4 : zX d 188 4 [v0, v1, v2, v3] (zI x :: st) A K = zX d 188 5 [v0, zI x, v2, v3] st A K := zx_istore_n z188 dX4_remainingPairCount_4 (Nat.le_of_ble_eq_true rfl) rfl rfl
theorem s188_5 : zX d 188 5 ls st A K = zX d 188 6 ls (zI 0 :: st) A K := zx_const z188 dX4_remainingPairCount_5 (by decide) rfl
theorem s188_6 : zX d 188 6 [v0, v1, v2, v3] (zI x :: st) A K = zX d 188 7 [v0, v1, zI x, v3] st A K := zx_istore_n z188 dX4_remainingPairCount_6 (Nat.le_of_ble_eq_true rfl) rfl rfl
theorem s188_7 : zX d 188 7 ls st A K = zX d 188 8 ls (zI 0 :: st) A K := zx_const z188 dX4_remainingPairCount_7 (by decide) rfl
theorem s188_8 : zX d 188 8 [v0, v1, v2, v3] (zI x :: st) A K = zX d 188 9 [v0, v1, v2, zI x] st A K := zx_istore_n z188 dX4_remainingPairCount_8 (Nat.le_of_ble_eq_true rfl) rfl rfl
theorem s188_9 : zX d 188 9 [v0, v1, v2, zI x] st A K = zX d 188 10 [v0, v1, v2, zI x] (zI x :: st) A K := zx_iload_n z188 dX4_remainingPairCount_9 rfl rfl
theorem s188_10 : zX d 188 10 [zO o, v1, v2, v3] st A K = zX d 188 11 [zO o, v1, v2, v3] (zO o :: st) A K := zx_aload_n z188 dX4_remainingPairCount_10 rfl rfl
theorem s188_11 (h : tg A a = 9) : zX d 188 11 ls (zO (some a) :: st) A K = zX d 188 14 ls (fd A a 23 :: st) A K := zx_getf z188 zo188 dX4_remainingPairCount_11 F10_211 rfl h
theorem s188_14 : zX d 188 14 ls (zI y :: zI x :: st) A K = (if y ≤ x then zX d 188 40 ls st A K else zX d 188 17 ls st A K) := zx_ic_ge z188 dX4_remainingPairCount_14 rfl rfl
theorem s188_17 : zX d 188 17 [v0, v1, zI x, v3] st A K = zX d 188 18 [v0, v1, zI x, v3] (zI x :: st) A K := zx_iload_n z188 dX4_remainingPairCount_17 rfl rfl
theorem s188_18 : zX d 188 18 [zO o, v1, v2, v3] st A K = zX d 188 19 [zO o, v1, v2, v3] (zO o :: st) A K := zx_aload_n z188 dX4_remainingPairCount_18 rfl rfl
theorem s188_19 (h : tg A a = 9) : zX d 188 19 ls (zO (some a) :: st) A K = zX d 188 22 ls (fd A a 22 :: st) A K := zx_getf z188 zo188 dX4_remainingPairCount_19 F10_63 rfl h
theorem s188_22 : zX d 188 22 [v0, v1, v2, zI x] st A K = zX d 188 23 [v0, v1, v2, zI x] (zI x :: st) A K := zx_iload_n z188 dX4_remainingPairCount_22 rfl rfl
theorem s188_23 (h : tg A a = 20) (h0 : 0 ≤ x) (h1 : x.toNat < (ia A a).length) : zX d 188 23 ls (zI x :: zO (some a) :: st) A K = zX d 188 24 ls (zI ((ia A a).getD x.toNat 0) :: st) A K := zx_iald z188 dX4_remainingPairCount_23 rfl h h0 h1
theorem s188_23s (h : tg A a = 30) (h0 : 0 ≤ x) (h1 : x.toNat < (ia A a).length) : zX d 188 23 ls (zI x :: zO (some a) :: st) A K = zX d 188 24 ls (zI ((ia A a).getD x.toNat 0) :: st) A K := zx_sald z188 dX4_remainingPairCount_23 rfl h h0 h1
theorem s188_24 : zX d 188 24 ls (zI x :: st) A K = (if x < 0 then zX d 188 31 ls st A K else zX d 188 27 ls st A K) := zx_if_lt z188 dX4_remainingPairCount_24 rfl rfl
theorem s188_27 : zX d 188 27 ls st A K = zX d 188 28 ls (zI 1 :: st) A K := zx_const z188 dX4_remainingPairCount_27 (by decide) rfl
theorem s188_28 : zX d 188 28 ls st A K = zX d 188 32 ls st A K := zx_goto z188 dX4_remainingPairCount_28 rfl
theorem s188_31 : zX d 188 31 ls st A K = zX d 188 32 ls (zI 0 :: st) A K := zx_const z188 dX4_remainingPairCount_31 (by decide) rfl
theorem s188_32 : zX d 188 32 ls (zI y :: zI x :: st) A K = zX d 188 33 ls (zI (zw (x + y)) :: st) A K := zx_iadd z188 dX4_remainingPairCount_32 rfl
theorem s188_33 : zX d 188 33 [v0, v1, v2, v3] (zI x :: st) A K = zX d 188 34 [v0, v1, zI x, v3] st A K := zx_istore_n z188 dX4_remainingPairCount_33 (Nat.le_of_ble_eq_true rfl) rfl rfl
theorem s188_34 : zX d 188 34 [v0, v1, v2, zI x] st A K = zX d 188 37 [v0, v1, v2, zI (zw (x + 1))] st A K := zx_iinc z188 dX4_remainingPairCount_34 rfl rfl rfl
theorem s188_37 : zX d 188 37 ls st A K = zX d 188 9 ls st A K := zx_goto z188 dX4_remainingPairCount_37 rfl
theorem s188_40 : zX d 188 40 [v0, v1, zI x, v3] st A K = zX d 188 41 [v0, v1, zI x, v3] (zI x :: st) A K := zx_iload_n z188 dX4_remainingPairCount_40 rfl rfl
theorem s188_41 : zX d 188 41 ls [zI x] A K = K (Sum.inl (some (zI x))) A := zx_iret z188 dX4_remainingPairCount_41 zk188 rfl
theorem s189_0 : zX d 189 0 [zO o, v1] st A K = zX d 189 1 [zO o, v1] (zO o :: st) A K := zx_aload_n z189 dX4_remainingComponentCount_0 rfl rfl
theorem s189_1 (h : tg A a = 9)  : zX (d + 1) 189 1 ls (zO (some a) :: []) A K = zX d 187 0 [zO (some a), zU, zU, zU, zU] [] A (zK (d + 1) 189 1 4 ls [] K) := zx_callV (t := 9) z189 zo189 dX4_remainingComponentCount_1 rfl C10_268 rfl rfl zm187 rfl rfl (zwt_le (Nat.le_of_ble_eq_true rfl)) rfl h
theorem s189_4 : zX d 189 4 [v0, v1] (zI x :: st) A K = zX d 189 5 [v0, zI x] st A K := zx_istore_n z189 dX4_remainingComponentCount_4 (Nat.le_of_ble_eq_true rfl) rfl rfl
theorem s189_5 : zX d 189 5 [zO o, v1] st A K = zX d 189 6 [zO o, v1] (zO o :: st) A K := zx_aload_n z189 dX4_remainingComponentCount_5 rfl rfl
theorem s189_6 (h : tg A a = 9) : zX d 189 6 ls (zO (some a) :: st) A K = zX d 189 9 ls (fd A a 24 :: st) A K := zx_getf z189 zo189 dX4_remainingComponentCount_6 F10_220 rfl h
theorem s189_9 : zX d 189 9 ls [zI x] A K = K (Sum.inl (some (zI x))) A := zx_iret z189 dX4_remainingComponentCount_9 zk189 rfl
theorem s190_0 : zX d 190 0 [zO o] st A K = zX d 190 1 [zO o] (zO o :: st) A K := zx_aload_n z190 dX4_terminatesBySubtermCriterion_0 rfl rfl
theorem s190_1 (h : tg A a = 9)  : zX (d + 1) 190 1 ls (zO (some a) :: []) A K = zX d 189 0 [zO (some a), zU] [] A (zK (d + 1) 190 1 4 ls [] K) := zx_callV (t := 9) z190 zo190 dX4_terminatesBySubtermCriterion_1 rfl C10_271 rfl rfl zm189 rfl rfl (zwt_le (Nat.le_of_ble_eq_true rfl)) rfl h
theorem s190_4 : zX d 190 4 ls (zI x :: st) A K = (if x ≠ 0 then zX d 190 11 ls st A K else zX d 190 7 ls st A K) := zx_if_ne z190 dX4_terminatesBySubtermCriterion_4 rfl rfl
theorem s190_7 : zX d 190 7 ls st A K = zX d 190 8 ls (zI 1 :: st) A K := zx_const z190 dX4_terminatesBySubtermCriterion_7 (by decide) rfl
theorem s190_8 : zX d 190 8 ls st A K = zX d 190 12 ls st A K := zx_goto z190 dX4_terminatesBySubtermCriterion_8 rfl
theorem s190_11 : zX d 190 11 ls st A K = zX d 190 12 ls (zI 0 :: st) A K := zx_const z190 dX4_terminatesBySubtermCriterion_11 (by decide) rfl
theorem s190_12 : zX d 190 12 ls [zI x] A K = K (Sum.inl (some (zI x))) A := zx_iret z190 dX4_terminatesBySubtermCriterion_12 zk190 rfl
theorem s191_0 : zX d 191 0 [v0, zI x, v2] st A K = zX d 191 1 [v0, zI x, v2] (zI x :: st) A K := zx_iload_n z191 dX4_parseTerm_0 rfl rfl
theorem s191_1 : zX (d + 1) 191 1 ls (zI i0 :: []) A K = zX d 192 0 [zI i0] [] A (zK (d + 1) 191 1 4 ls [] K) := zx_callS z191 zo191 dX4_parseTerm_1 rfl C10_274 rfl rfl zm192 rfl rfl (zwt_le (Nat.le_of_ble_eq_true rfl)) rfl
theorem s191_4 : zX d 191 4 ls (zI x :: st) A K = (if x ≠ 0 then zX d 191 9 ls st A K else zX d 191 7 ls st A K) := zx_if_ne z191 dX4_parseTerm_4 rfl rfl
theorem s191_7 : zX d 191 7 ls st A K = zX d 191 8 ls (zI (-1) :: st) A K := zx_const z191 dX4_parseTerm_7 (by decide) rfl
theorem s191_8 : zX d 191 8 ls [zI x] A K = K (Sum.inl (some (zI x))) A := zx_iret z191 dX4_parseTerm_8 zk191 rfl
theorem s191_9 : zX d 191 9 [zO o, v1, v2] st A K = zX d 191 10 [zO o, v1, v2] (zO o :: st) A K := zx_aload_n z191 dX4_parseTerm_9 rfl rfl
theorem s191_10 : zX d 191 10 ls st A K = zX d 191 11 ls (zI 0 :: st) A K := zx_const z191 dX4_parseTerm_10 (by decide) rfl
theorem s191_11 (h : tg A a = 9) : zX d 191 11 ls (zI x :: zO (some a) :: st) A K = zX d 191 14 ls st (pF A a 16 (zI x)) K := zx_putf (q := 0) z191 zo191 dX4_parseTerm_11 F10_148 rfl rfl rfl h rfl
theorem s191_14 : zX d 191 14 [zO o, v1, v2] st A K = zX d 191 15 [zO o, v1, v2] (zO o :: st) A K := zx_aload_n z191 dX4_parseTerm_14 rfl rfl
theorem s191_15 (h : tg A a = 9) : zX d 191 15 ls (zO (some a) :: st) A K = zX d 191 18 ls (fd A a 13 :: st) A K := zx_getf z191 zo191 dX4_parseTerm_15 F10_40 rfl h
theorem s191_18 : zX d 191 18 ls st A K = zX d 191 19 ls (zI 0 :: st) A K := zx_const z191 dX4_parseTerm_18 (by decide) rfl
theorem s191_19 : zX d 191 19 ls st A K = zX d 191 20 ls (zI 0 :: st) A K := zx_const z191 dX4_parseTerm_19 (by decide) rfl
theorem s191_20 (h : tg A a = 20) (h0 : 0 ≤ x) (h1 : x.toNat < (ia A a).length) : zX d 191 20 ls (zI y :: zI x :: zO (some a) :: st) A K = zX d 191 21 ls st (pI A a ((ia A a).set x.toNat y)) K := zx_iast z191 dX4_parseTerm_20 rfl h h0 h1
theorem s191_21 : zX d 191 21 [zO o, v1, v2] st A K = zX d 191 22 [zO o, v1, v2] (zO o :: st) A K := zx_aload_n z191 dX4_parseTerm_21 rfl rfl
theorem s191_22 (h : tg A a = 9)  : zX (d + 1) 191 22 ls (zO (some a) :: []) A K = zX d 132 0 [zO (some a), zU, zU, zU] [] A (zK (d + 1) 191 22 25 ls [] K) := zx_callV (t := 9) z191 zo191 dX4_parseTerm_22 rfl C10_161 rfl rfl zm132 rfl rfl (zwt_le (Nat.le_of_ble_eq_true rfl)) rfl h
theorem s191_25 : zX d 191 25 ls (zI x :: st) A K = (if x = 0 then zX d 191 43 ls st A K else zX d 191 28 ls st A K) := zx_if_eq z191 dX4_parseTerm_25 rfl rfl
theorem s191_28 : zX d 191 28 [zO o, v1, v2] st A K = zX d 191 29 [zO o, v1, v2] (zO o :: st) A K := zx_aload_n z191 dX4_parseTerm_28 rfl rfl
theorem s191_29 (h : tg A a = 9) : zX d 191 29 ls (zO (some a) :: st) A K = zX d 191 32 ls (fd A a 16 :: st) A K := zx_getf z191 zo191 dX4_parseTerm_29 F10_148 rfl h
theorem s191_32 : zX d 191 32 [zO o, v1, v2] st A K = zX d 191 33 [zO o, v1, v2] (zO o :: st) A K := zx_aload_n z191 dX4_parseTerm_32 rfl rfl
theorem s191_33 (h : tg A a = 9) : zX d 191 33 ls (zO (some a) :: st) A K = zX d 191 36 ls (fd A a 15 :: st) A K := zx_getf z191 zo191 dX4_parseTerm_33 F10_151 rfl h
theorem s191_36 : zX d 191 36 ls (zI y :: zI x :: st) A K = (if x ≠ y then zX d 191 43 ls st A K else zX d 191 39 ls st A K) := zx_ic_ne z191 dX4_parseTerm_36 rfl rfl
theorem s191_39 : zX d 191 39 ls st A K = zX d 191 40 ls (zI 1 :: st) A K := zx_const z191 dX4_parseTerm_39 (by decide) rfl
theorem s191_40 : zX d 191 40 ls st A K = zX d 191 44 ls st A K := zx_goto z191 dX4_parseTerm_40 rfl
theorem s191_43 : zX d 191 43 ls st A K = zX d 191 44 ls (zI 0 :: st) A K := zx_const z191 dX4_parseTerm_43 (by decide) rfl
theorem s191_44 : zX d 191 44 [v0, v1, v2] (zI x :: st) A K = zX d 191 45 [v0, v1, zI x] st A K := zx_istore_n z191 dX4_parseTerm_44 (Nat.le_of_ble_eq_true rfl) rfl rfl
theorem s191_45 : zX d 191 45 [zO o, v1, v2] st A K = zX d 191 46 [zO o, v1, v2] (zO o :: st) A K := zx_aload_n z191 dX4_parseTerm_45 rfl rfl
theorem s191_46 : zX d 191 46 ls st A K = zX d 191 47 ls (zI 0 :: st) A K := zx_const z191 dX4_parseTerm_46 (by decide) rfl
theorem s191_47 (h : tg A a = 9) : zX d 191 47 ls (zI x :: zO (some a) :: st) A K = zX d 191 50 ls st (pF A a 15 (zI x)) K := zx_putf (q := 0) z191 zo191 dX4_parseTerm_47 F10_151 rfl rfl rfl h rfl
theorem s191_50 : zX d 191 50 [v0, v1, zI x] st A K = zX d 191 51 [v0, v1, zI x] (zI x :: st) A K := zx_iload_n z191 dX4_parseTerm_50 rfl rfl
theorem s191_51 : zX d 191 51 ls (zI x :: st) A K = (if x ≠ 0 then zX d 191 62 ls st A K else zX d 191 54 ls st A K) := zx_if_ne z191 dX4_parseTerm_51 rfl rfl
theorem s191_54 : zX d 191 54 ls st A K = zX d 191 56 ls (zI (-100) :: st) A K := zx_bipush z191 dX4_parseTerm_54 (by decide) rfl
theorem s191_56 : zX d 191 56 [zO o, v1, v2] st A K = zX d 191 57 [zO o, v1, v2] (zO o :: st) A K := zx_aload_n z191 dX4_parseTerm_56 rfl rfl
theorem s191_57 (h : tg A a = 9) : zX d 191 57 ls (zO (some a) :: st) A K = zX d 191 60 ls (fd A a 16 :: st) A K := zx_getf z191 zo191 dX4_parseTerm_57 F10_148 rfl h
theorem s191_60 : zX d 191 60 ls (zI y :: zI x :: st) A K = zX d 191 61 ls (zI (zw (x - y)) :: st) A K := zx_isub z191 dX4_parseTerm_60 rfl
theorem s191_61 : zX d 191 61 ls [zI x] A K = K (Sum.inl (some (zI x))) A := zx_iret z191 dX4_parseTerm_61 zk191 rfl
theorem s191_62 : zX d 191 62 [zO o, v1, v2] st A K = zX d 191 63 [zO o, v1, v2] (zO o :: st) A K := zx_aload_n z191 dX4_parseTerm_62 rfl rfl
theorem s191_63 (h : tg A a = 9) : zX d 191 63 ls (zO (some a) :: st) A K = zX d 191 66 ls (fd A a 13 :: st) A K := zx_getf z191 zo191 dX4_parseTerm_63 F10_40 rfl h
theorem s191_66 : zX d 191 66 ls st A K = zX d 191 67 ls (zI 0 :: st) A K := zx_const z191 dX4_parseTerm_66 (by decide) rfl
theorem s191_67 (h : tg A a = 20) (h0 : 0 ≤ x) (h1 : x.toNat < (ia A a).length) : zX d 191 67 ls (zI x :: zO (some a) :: st) A K = zX d 191 68 ls (zI ((ia A a).getD x.toNat 0) :: st) A K := zx_iald z191 dX4_parseTerm_67 rfl h h0 h1
theorem s191_67s (h : tg A a = 30) (h0 : 0 ≤ x) (h1 : x.toNat < (ia A a).length) : zX d 191 67 ls (zI x :: zO (some a) :: st) A K = zX d 191 68 ls (zI ((ia A a).getD x.toNat 0) :: st) A K := zx_sald z191 dX4_parseTerm_67 rfl h h0 h1
theorem s191_68 : zX d 191 68 ls st A K = zX d 191 70 ls (zI (40) :: st) A K := zx_bipush z191 dX4_parseTerm_68 (by decide) rfl
theorem s191_70 : zX d 191 70 ls (zI y :: zI x :: st) A K = (if x ≤ y then zX d 191 76 ls st A K else zX d 191 73 ls st A K) := zx_ic_le z191 dX4_parseTerm_70 rfl rfl
theorem s191_73 : zX d 191 73 ls st A K = zX d 191 75 ls (zI (-6) :: st) A K := zx_bipush z191 dX4_parseTerm_73 (by decide) rfl
theorem s191_75 : zX d 191 75 ls [zI x] A K = K (Sum.inl (some (zI x))) A := zx_iret z191 dX4_parseTerm_75 zk191 rfl
theorem s191_76 : zX d 191 76 [zO o, v1, v2] st A K = zX d 191 77 [zO o, v1, v2] (zO o :: st) A K := zx_aload_n z191 dX4_parseTerm_76 rfl rfl
theorem s191_77 (h : tg A a = 9) : zX d 191 77 ls (zO (some a) :: st) A K = zX d 191 80 ls (fd A a 13 :: st) A K := zx_getf z191 zo191 dX4_parseTerm_77 F10_40 rfl h
theorem s191_80 : zX d 191 80 ls st A K = zX d 191 81 ls (zI 0 :: st) A K := zx_const z191 dX4_parseTerm_80 (by decide) rfl
theorem s191_81 : zX d 191 81 [zO o, v1, v2] st A K = zX d 191 82 [zO o, v1, v2] (zO o :: st) A K := zx_aload_n z191 dX4_parseTerm_81 rfl rfl
theorem s191_82 (h : tg A a = 9) : zX d 191 82 ls (zO (some a) :: st) A K = zX d 191 85 ls (fd A a 4 :: st) A K := zx_getf z191 zo191 dX4_parseTerm_82 F10_22 rfl h
theorem s191_85 : zX d 191 85 ls st A K = zX d 191 87 ls (zI (96) :: st) A K := zx_bipush z191 dX4_parseTerm_85 (by decide) rfl
theorem s191_87 : zX d 191 87 [v0, zI x, v2] st A K = zX d 191 88 [v0, zI x, v2] (zI x :: st) A K := zx_iload_n z191 dX4_parseTerm_87 rfl rfl
theorem s191_88 : zX d 191 88 ls (zI y :: zI x :: st) A K = zX d 191 89 ls (zI (zw (x * y)) :: st) A K := zx_imul z191 dX4_parseTerm_88 rfl
theorem s191_89 : zX d 191 89 ls st A K = zX d 191 91 ls (zI (96) :: st) A K := zx_bipush z191 dX4_parseTerm_89 (by decide) rfl
theorem s191_91 : zX (d + 1) 191 91 ls (zI i4 :: zI i3 :: zO o2 :: zI i1 :: zO o0 :: []) A K = zX d 138 0 [zO o0, zI i1, zO o2, zI i3, zI i4, zU] [] A (zK (d + 1) 191 91 94 ls [] K) := zx_callS z191 zo191 dX4_parseTerm_91 rfl C10_169 rfl rfl zm138 rfl rfl (zwt_le (Nat.le_of_ble_eq_true rfl)) rfl
theorem s191_94 : zX d 191 94 [zO o, v1, v2] st A K = zX d 191 95 [zO o, v1, v2] (zO o :: st) A K := zx_aload_n z191 dX4_parseTerm_94 rfl rfl
theorem s191_95 (h : tg A a = 9) : zX d 191 95 ls (zO (some a) :: st) A K = zX d 191 98 ls (fd A a 13 :: st) A K := zx_getf z191 zo191 dX4_parseTerm_95 F10_40 rfl h
theorem s191_98 : zX d 191 98 ls st A K = zX d 191 99 ls (zI 0 :: st) A K := zx_const z191 dX4_parseTerm_98 (by decide) rfl
theorem s191_99 (h : tg A a = 20) (h0 : 0 ≤ x) (h1 : x.toNat < (ia A a).length) : zX d 191 99 ls (zI x :: zO (some a) :: st) A K = zX d 191 100 ls (zI ((ia A a).getD x.toNat 0) :: st) A K := zx_iald z191 dX4_parseTerm_99 rfl h h0 h1
theorem s191_99s (h : tg A a = 30) (h0 : 0 ≤ x) (h1 : x.toNat < (ia A a).length) : zX d 191 99 ls (zI x :: zO (some a) :: st) A K = zX d 191 100 ls (zI ((ia A a).getD x.toNat 0) :: st) A K := zx_sald z191 dX4_parseTerm_99 rfl h h0 h1
theorem s191_100 : zX d 191 100 ls [zI x] A K = K (Sum.inl (some (zI x))) A := zx_iret z191 dX4_parseTerm_100 zk191 rfl
theorem s192_0 : zX d 192 0 [zI x] st A K = zX d 192 1 [zI x] (zI x :: st) A K := zx_iload_n z192 dX4_isRegister_0 rfl rfl
theorem s192_1 : zX d 192 1 ls st A K = zX d 192 2 ls (zI 0 :: st) A K := zx_const z192 dX4_isRegister_1 (by decide) rfl
theorem s192_2 : zX d 192 2 ls st A K = zX d 192 3 ls (zI 3 :: st) A K := zx_const z192 dX4_isRegister_2 (by decide) rfl
theorem s192_3 : zX (d + 1) 192 3 ls (zI i2 :: zI i1 :: zI i0 :: []) A K = zX d 129 0 [zI i0, zI i1, zI i2] [] A (zK (d + 1) 192 3 6 ls [] K) := zx_callS z192 zo192 dX4_isRegister_3 rfl C10_105 rfl rfl zm129 rfl rfl (zwt_le (Nat.le_of_ble_eq_true rfl)) rfl
theorem s192_6 (h : x = 0 ∨ x = 1) : zX d 192 6 ls [zI x] A K = K (Sum.inl (some (zI x))) A := zx_iret z192 dX4_isRegister_6 zk192 (by rcases h with q | q <;> subst q <;> rfl)
theorem s193_0 : zX d 193 0 [v0, zI x] st A K = zX d 193 1 [v0, zI x] (zI x :: st) A K := zx_iload_n z193 dX4_termSize_0 rfl rfl
theorem s193_1 : zX (d + 1) 193 1 ls (zI i0 :: []) A K = zX d 192 0 [zI i0] [] A (zK (d + 1) 193 1 4 ls [] K) := zx_callS z193 zo193 dX4_termSize_1 rfl C10_274 rfl rfl zm192 rfl rfl (zwt_le (Nat.le_of_ble_eq_true rfl)) rfl
theorem s193_4 : zX d 193 4 ls (zI x :: st) A K = (if x = 0 then zX d 193 19 ls st A K else zX d 193 7 ls st A K) := zx_if_eq z193 dX4_termSize_4 rfl rfl
theorem s193_7 : zX d 193 7 [zO o, v1] st A K = zX d 193 8 [zO o, v1] (zO o :: st) A K := zx_aload_n z193 dX4_termSize_7 rfl rfl
theorem s193_8 (h : tg A a = 9) : zX d 193 8 ls (zO (some a) :: st) A K = zX d 193 11 ls (fd A a 4 :: st) A K := zx_getf z193 zo193 dX4_termSize_8 F10_22 rfl h
theorem s193_11 : zX d 193 11 ls st A K = zX d 193 13 ls (zI (96) :: st) A K := zx_bipush z193 dX4_termSize_11 (by decide) rfl
theorem s193_13 : zX d 193 13 [v0, zI x] st A K = zX d 193 14 [v0, zI x] (zI x :: st) A K := zx_iload_n z193 dX4_termSize_13 rfl rfl
theorem s193_14 : zX d 193 14 ls (zI y :: zI x :: st) A K = zX d 193 15 ls (zI (zw (x * y)) :: st) A K := zx_imul z193 dX4_termSize_14 rfl
theorem s193_15 (h : tg A a = 20) (h0 : 0 ≤ x) (h1 : x.toNat < (ia A a).length) : zX d 193 15 ls (zI x :: zO (some a) :: st) A K = zX d 193 16 ls (zI ((ia A a).getD x.toNat 0) :: st) A K := zx_iald z193 dX4_termSize_15 rfl h h0 h1
theorem s193_15s (h : tg A a = 30) (h0 : 0 ≤ x) (h1 : x.toNat < (ia A a).length) : zX d 193 15 ls (zI x :: zO (some a) :: st) A K = zX d 193 16 ls (zI ((ia A a).getD x.toNat 0) :: st) A K := zx_sald z193 dX4_termSize_15 rfl h h0 h1
theorem s193_16 : zX d 193 16 ls st A K = zX d 193 20 ls st A K := zx_goto z193 dX4_termSize_16 rfl
theorem s193_19 : zX d 193 19 ls st A K = zX d 193 20 ls (zI (-1) :: st) A K := zx_const z193 dX4_termSize_19 (by decide) rfl
theorem s193_20 : zX d 193 20 ls [zI x] A K = K (Sum.inl (some (zI x))) A := zx_iret z193 dX4_termSize_20 zk193 rfl
theorem s194_0 : zX d 194 0 [v0, zI x, v2] st A K = zX d 194 1 [v0, zI x, v2] (zI x :: st) A K := zx_iload_n z194 dX4_formattedLength_0 rfl rfl
theorem s194_1 : zX (d + 1) 194 1 ls (zI i0 :: []) A K = zX d 192 0 [zI i0] [] A (zK (d + 1) 194 1 4 ls [] K) := zx_callS z194 zo194 dX4_formattedLength_1 rfl C10_274 rfl rfl zm192 rfl rfl (zwt_le (Nat.le_of_ble_eq_true rfl)) rfl
theorem s194_4 : zX d 194 4 ls (zI x :: st) A K = (if x ≠ 0 then zX d 194 9 ls st A K else zX d 194 7 ls st A K) := zx_if_ne z194 dX4_formattedLength_4 rfl rfl
theorem s194_7 : zX d 194 7 ls st A K = zX d 194 8 ls (zI (-1) :: st) A K := zx_const z194 dX4_formattedLength_7 (by decide) rfl
theorem s194_8 : zX d 194 8 ls [zI x] A K = K (Sum.inl (some (zI x))) A := zx_iret z194 dX4_formattedLength_8 zk194 rfl
theorem s194_9 : zX d 194 9 [zO o, v1, v2] st A K = zX d 194 10 [zO o, v1, v2] (zO o :: st) A K := zx_aload_n z194 dX4_formattedLength_9 rfl rfl
theorem s194_10 : zX d 194 10 ls st A K = zX d 194 11 ls (zI 0 :: st) A K := zx_const z194 dX4_formattedLength_10 (by decide) rfl
theorem s194_11 (h : tg A a = 9) : zX d 194 11 ls (zI x :: zO (some a) :: st) A K = zX d 194 14 ls st (pF A a 35 (zI x)) K := zx_putf (q := 0) z194 zo194 dX4_formattedLength_11 F10_277 rfl rfl rfl h rfl
theorem s194_14 : zX d 194 14 [zO o, v1, v2] st A K = zX d 194 15 [zO o, v1, v2] (zO o :: st) A K := zx_aload_n z194 dX4_formattedLength_14 rfl rfl
theorem s194_15 : zX d 194 15 ls st A K = zX d 194 17 ls (zI (96) :: st) A K := zx_bipush z194 dX4_formattedLength_15 (by decide) rfl
theorem s194_17 : zX d 194 17 [v0, zI x, v2] st A K = zX d 194 18 [v0, zI x, v2] (zI x :: st) A K := zx_iload_n z194 dX4_formattedLength_17 rfl rfl
theorem s194_18 : zX d 194 18 ls (zI y :: zI x :: st) A K = zX d 194 19 ls (zI (zw (x * y)) :: st) A K := zx_imul z194 dX4_formattedLength_18 rfl
theorem s194_19 : zX d 194 19 ls st A K = zX d 194 20 ls (zI 1 :: st) A K := zx_const z194 dX4_formattedLength_19 (by decide) rfl
theorem s194_20 : zX d 194 20 ls (zI y :: zI x :: st) A K = zX d 194 21 ls (zI (zw (x + y)) :: st) A K := zx_iadd z194 dX4_formattedLength_20 rfl
theorem s194_21 (h : tg A a = 9)  : zX (d + 1) 194 21 ls (zI i0 :: zO (some a) :: []) A K = zX d 195 0 [zO (some a), zI i0, zU, zU, zU, zU] [] A (zK (d + 1) 194 21 24 ls [] K) := zx_callV (t := 9) z194 zo194 dX4_formattedLength_21 rfl C10_283 rfl rfl zm195 rfl rfl (zwt_le (Nat.le_of_ble_eq_true rfl)) rfl h
theorem s194_24 : zX d 194 24 [v0, v1, v2] (zI x :: st) A K = zX d 194 25 [v0, v1, zI x] st A K := zx_istore_n z194 dX4_formattedLength_24 (Nat.le_of_ble_eq_true rfl) rfl rfl
theorem s194_25 : zX d 194 25 [zO o, v1, v2] st A K = zX d 194 26 [zO o, v1, v2] (zO o :: st) A K := zx_aload_n z194 dX4_formattedLength_25 rfl rfl
theorem s194_26 (h : tg A a = 9) : zX d 194 26 ls (zO (some a) :: st) A K = zX d 194 29 ls (fd A a 35 :: st) A K := zx_getf z194 zo194 dX4_formattedLength_26 F10_277 rfl h
theorem s194_29 : zX d 194 29 ls [zI x] A K = K (Sum.inl (some (zI x))) A := zx_iret z194 dX4_formattedLength_29 zk194 rfl
theorem s195_0 : zX d 195 0 [zO o, v1, v2, v3, v4, v5] st A K = zX d 195 1 [zO o, v1, v2, v3, v4, v5] (zO o :: st) A K := zx_aload_n z195 dX4_format_0 rfl rfl
theorem s195_1 (h : tg A a = 9) : zX d 195 1 ls (zO (some a) :: st) A K = zX d 195 4 ls (fd A a 4 :: st) A K := zx_getf z195 zo195 dX4_format_1 F10_22 rfl h
theorem s195_4 : zX d 195 4 [v0, zI x, v2, v3, v4, v5] st A K = zX d 195 5 [v0, zI x, v2, v3, v4, v5] (zI x :: st) A K := zx_iload_n z195 dX4_format_4 rfl rfl
theorem s195_5 (h : tg A a = 20) (h0 : 0 ≤ x) (h1 : x.toNat < (ia A a).length) : zX d 195 5 ls (zI x :: zO (some a) :: st) A K = zX d 195 6 ls (zI ((ia A a).getD x.toNat 0) :: st) A K := zx_iald z195 dX4_format_5 rfl h h0 h1
theorem s195_5s (h : tg A a = 30) (h0 : 0 ≤ x) (h1 : x.toNat < (ia A a).length) : zX d 195 5 ls (zI x :: zO (some a) :: st) A K = zX d 195 6 ls (zI ((ia A a).getD x.toNat 0) :: st) A K := zx_sald z195 dX4_format_5 rfl h h0 h1
theorem s195_6 : zX d 195 6 [v0, v1, v2, v3, v4, v5] (zI x :: st) A K = zX d 195 7 [v0, v1, zI x, v3, v4, v5] st A K := zx_istore_n z195 dX4_format_6 (Nat.le_of_ble_eq_true rfl) rfl rfl
theorem s195_7 : zX d 195 7 [zO o, v1, v2, v3, v4, v5] st A K = zX d 195 8 [zO o, v1, v2, v3, v4, v5] (zO o :: st) A K := zx_aload_n z195 dX4_format_7 rfl rfl
theorem s195_8 : zX d 195 8 [v0, v1, zI x, v3, v4, v5] st A K = zX d 195 9 [v0, v1, zI x, v3, v4, v5] (zI x :: st) A K := zx_iload_n z195 dX4_format_8 rfl rfl
theorem s195_9 (h : tg A a = 9)  : zX (d + 1) 195 9 ls (zI i0 :: zO (some a) :: []) A K = zX d 196 0 [zO (some a), zI i0] [] A (zK (d + 1) 195 9 12 ls [] K) := zx_callV (t := 9) z195 zo195 dX4_format_9 rfl C10_280 rfl rfl zm196 rfl rfl (zwt_le (Nat.le_of_ble_eq_true rfl)) rfl h
theorem s195_12 : zX d 195 12 [v0, zI x, v2, v3, v4, v5] st A K = zX d 195 13 [v0, zI x, v2, v3, v4, v5] (zI x :: st) A K := zx_iload_n z195 dX4_format_12 rfl rfl
theorem s195_13 : zX d 195 13 ls st A K = zX d 195 14 ls (zI 1 :: st) A K := zx_const z195 dX4_format_13 (by decide) rfl
theorem s195_14 : zX d 195 14 ls (zI y :: zI x :: st) A K = zX d 195 15 ls (zI (zw (x + y)) :: st) A K := zx_iadd z195 dX4_format_14 rfl
theorem s195_15 : zX d 195 15 [v0, v1, v2, v3, v4, v5] (zI x :: st) A K = zX d 195 16 [v0, v1, v2, zI x, v4, v5] st A K := zx_istore_n z195 dX4_format_15 (Nat.le_of_ble_eq_true rfl) rfl rfl
theorem s195_16 : zX d 195 16 [zO o, v1, v2, v3, v4, v5] st A K = zX d 195 17 [zO o, v1, v2, v3, v4, v5] (zO o :: st) A K := zx_aload_n z195 dX4_format_16 rfl rfl
theorem s195_17 : zX d 195 17 [v0, v1, zI x, v3, v4, v5] st A K = zX d 195 18 [v0, v1, zI x, v3, v4, v5] (zI x :: st) A K := zx_iload_n z195 dX4_format_17 rfl rfl
theorem s195_18 (h : tg A a = 9)  : zX (d + 1) 195 18 ls (zI i0 :: zO (some a) :: []) A K = zX d 136 0 [zO (some a), zI i0] [] A (zK (d + 1) 195 18 21 ls [] K) := zx_callV (t := 9) z195 zo195 dX4_format_18 rfl C10_113 rfl rfl zm136 rfl rfl (zwt_le (Nat.le_of_ble_eq_true rfl)) rfl h
theorem s195_21 : zX d 195 21 [v0, v1, v2, v3, v4, v5] (zI x :: st) A K = zX d 195 23 [v0, v1, v2, v3, zI x, v5] st A K := zx_istore z195 dX4_format_21 (Nat.le_of_ble_eq_true rfl) rfl rfl
theorem s195_23 : zX d 195 23 ls st A K = zX d 195 24 ls (zI 0 :: st) A K := zx_const z195 dX4_format_23 (by decide) rfl
theorem s195_24 : zX d 195 24 [v0, v1, v2, v3, v4, v5] (zI x :: st) A K = zX d 195 26 [v0, v1, v2, v3, v4, zI x] st A K := zx_istore z195 dX4_format_24 (Nat.le_of_ble_eq_true rfl) rfl rfl
theorem s195_26 : zX d 195 26 [v0, v1, v2, v3, v4, zI x] st A K = zX d 195 28 [v0, v1, v2, v3, v4, zI x] (zI x :: st) A K := zx_iload z195 dX4_format_26 rfl rfl
theorem s195_28 : zX d 195 28 [v0, v1, v2, v3, zI x, v5] st A K = zX d 195 30 [v0, v1, v2, v3, zI x, v5] (zI x :: st) A K := zx_iload z195 dX4_format_28 rfl rfl
theorem s195_30 : zX d 195 30 ls (zI y :: zI x :: st) A K = (if y ≤ x then zX d 195 61 ls st A K else zX d 195 33 ls st A K) := zx_ic_ge z195 dX4_format_30 rfl rfl
theorem s195_33 : zX d 195 33 [zO o, v1, v2, v3, v4, v5] st A K = zX d 195 34 [zO o, v1, v2, v3, v4, v5] (zO o :: st) A K := zx_aload_n z195 dX4_format_33 rfl rfl
theorem s195_34 : zX d 195 34 [v0, v1, v2, v3, v4, zI x] st A K = zX d 195 36 [v0, v1, v2, v3, v4, zI x] (zI x :: st) A K := zx_iload z195 dX4_format_34 rfl rfl
theorem s195_36 : zX d 195 36 ls (zI x :: st) A K = (if x ≠ 0 then zX d 195 44 ls st A K else zX d 195 39 ls st A K) := zx_if_ne z195 dX4_format_36 rfl rfl
theorem s195_39 : zX d 195 39 ls st A K = zX d 195 41 ls (zI (40) :: st) A K := zx_bipush z195 dX4_format_39 (by decide) rfl
theorem s195_41 : zX d 195 41 ls st A K = zX d 195 46 ls st A K := zx_goto z195 dX4_format_41 rfl
theorem s195_44 : zX d 195 44 ls st A K = zX d 195 46 ls (zI (44) :: st) A K := zx_bipush z195 dX4_format_44 (by decide) rfl
theorem s195_46 (h : tg A a = 9)  : zX (d + 1) 195 46 ls (zI i0 :: zO (some a) :: []) A K = zX d 196 0 [zO (some a), zI i0] [] A (zK (d + 1) 195 46 49 ls [] K) := zx_callV (t := 9) z195 zo195 dX4_format_46 rfl C10_280 rfl rfl zm196 rfl rfl (zwt_le (Nat.le_of_ble_eq_true rfl)) rfl h
theorem s195_49 : zX d 195 49 [zO o, v1, v2, v3, v4, v5] st A K = zX d 195 50 [zO o, v1, v2, v3, v4, v5] (zO o :: st) A K := zx_aload_n z195 dX4_format_49 rfl rfl
theorem s195_50 : zX d 195 50 [v0, v1, v2, zI x, v4, v5] st A K = zX d 195 51 [v0, v1, v2, zI x, v4, v5] (zI x :: st) A K := zx_iload_n z195 dX4_format_50 rfl rfl
theorem s195_51 (h : tg A a = 9)  : zX (d + 1) 195 51 ls (zI i0 :: zO (some a) :: []) A K = zX d 195 0 [zO (some a), zI i0, zU, zU, zU, zU] [] A (zK (d + 1) 195 51 54 ls [] K) := zx_callV (t := 9) z195 zo195 dX4_format_51 rfl C10_283 rfl rfl zm195 rfl rfl (zwt_le (Nat.le_of_ble_eq_true rfl)) rfl h
theorem s195_54 : zX d 195 54 [v0, v1, v2, v3, v4, v5] (zI x :: st) A K = zX d 195 55 [v0, v1, v2, zI x, v4, v5] st A K := zx_istore_n z195 dX4_format_54 (Nat.le_of_ble_eq_true rfl) rfl rfl
theorem s195_55 : zX d 195 55 [v0, v1, v2, v3, v4, zI x] st A K = zX d 195 58 [v0, v1, v2, v3, v4, zI (zw (x + 1))] st A K := zx_iinc z195 dX4_format_55 rfl rfl rfl
theorem s195_58 : zX d 195 58 ls st A K = zX d 195 26 ls st A K := zx_goto z195 dX4_format_58 rfl
theorem s195_61 : zX d 195 61 [v0, v1, v2, v3, zI x, v5] st A K = zX d 195 63 [v0, v1, v2, v3, zI x, v5] (zI x :: st) A K := zx_iload z195 dX4_format_61 rfl rfl
theorem s195_63 : zX d 195 63 ls (zI x :: st) A K = (if x ≤ 0 then zX d 195 72 ls st A K else zX d 195 66 ls st A K) := zx_if_le z195 dX4_format_63 rfl rfl
theorem s195_66 : zX d 195 66 [zO o, v1, v2, v3, v4, v5] st A K = zX d 195 67 [zO o, v1, v2, v3, v4, v5] (zO o :: st) A K := zx_aload_n z195 dX4_format_66 rfl rfl
theorem s195_67 : zX d 195 67 ls st A K = zX d 195 69 ls (zI (41) :: st) A K := zx_bipush z195 dX4_format_67 (by decide) rfl
theorem s195_69 (h : tg A a = 9)  : zX (d + 1) 195 69 ls (zI i0 :: zO (some a) :: []) A K = zX d 196 0 [zO (some a), zI i0] [] A (zK (d + 1) 195 69 72 ls [] K) := zx_callV (t := 9) z195 zo195 dX4_format_69 rfl C10_280 rfl rfl zm196 rfl rfl (zwt_le (Nat.le_of_ble_eq_true rfl)) rfl h
theorem s195_72 : zX d 195 72 [v0, v1, v2, zI x, v4, v5] st A K = zX d 195 73 [v0, v1, v2, zI x, v4, v5] (zI x :: st) A K := zx_iload_n z195 dX4_format_72 rfl rfl
theorem s195_73 : zX d 195 73 ls [zI x] A K = K (Sum.inl (some (zI x))) A := zx_iret z195 dX4_format_73 zk195 rfl
theorem s196_0 : zX d 196 0 [zO o, v1] st A K = zX d 196 1 [zO o, v1] (zO o :: st) A K := zx_aload_n z196 dX4_put_0 rfl rfl
theorem s196_1 (h : tg A a = 9) : zX d 196 1 ls (zO (some a) :: st) A K = zX d 196 4 ls (fd A a 34 :: st) A K := zx_getf z196 zo196 dX4_put_1 F10_91 rfl h
theorem s196_4 : zX d 196 4 [zO o, v1] st A K = zX d 196 5 [zO o, v1] (zO o :: st) A K := zx_aload_n z196 dX4_put_4 rfl rfl
theorem s196_5 (h : tg A a = 9) : zX d 196 5 ls (zO (some a) :: st) A K = zX d 196 8 ls (fd A a 35 :: st) A K := zx_getf z196 zo196 dX4_put_5 F10_277 rfl h
theorem s196_8 : zX d 196 8 [v0, zI x] st A K = zX d 196 9 [v0, zI x] (zI x :: st) A K := zx_iload_n z196 dX4_put_8 rfl rfl
theorem s196_9 (h : tg A a = 20) (h0 : 0 ≤ x) (h1 : x.toNat < (ia A a).length) : zX d 196 9 ls (zI y :: zI x :: zO (some a) :: st) A K = zX d 196 10 ls st (pI A a ((ia A a).set x.toNat y)) K := zx_iast z196 dX4_put_9 rfl h h0 h1
theorem s196_10 : zX d 196 10 [zO o, v1] st A K = zX d 196 11 [zO o, v1] (zO o :: st) A K := zx_aload_n z196 dX4_put_10 rfl rfl
theorem s196_11 (h : zc v = true) : zX d 196 11 ls (v :: st) A K = zX d 196 12 ls (v :: v :: st) A K := zx_dup z196 dX4_put_11 rfl h
theorem s196_12 (h : tg A a = 9) : zX d 196 12 ls (zO (some a) :: st) A K = zX d 196 15 ls (fd A a 35 :: st) A K := zx_getf z196 zo196 dX4_put_12 F10_277 rfl h
theorem s196_15 : zX d 196 15 ls st A K = zX d 196 16 ls (zI 1 :: st) A K := zx_const z196 dX4_put_15 (by decide) rfl
theorem s196_16 : zX d 196 16 ls (zI y :: zI x :: st) A K = zX d 196 17 ls (zI (zw (x + y)) :: st) A K := zx_iadd z196 dX4_put_16 rfl
theorem s196_17 (h : tg A a = 9) : zX d 196 17 ls (zI x :: zO (some a) :: st) A K = zX d 196 20 ls st (pF A a 35 (zI x)) K := zx_putf (q := 0) z196 zo196 dX4_put_17 F10_277 rfl rfl rfl h rfl
theorem s196_20 : zX d 196 20 ls [] A K = K (Sum.inl none) A := zx_vret z196 dX4_put_20 rfl
theorem s197_0 : zX d 197 0 [zO o, v1, v2, v3] st A K = zX d 197 1 [zO o, v1, v2, v3] (zO o :: st) A K := zx_aload_n z197 dX4_formattedCharacter_0 rfl rfl
theorem s197_1 : zX d 197 1 [v0, zI x, v2, v3] st A K = zX d 197 2 [v0, zI x, v2, v3] (zI x :: st) A K := zx_iload_n z197 dX4_formattedCharacter_1 rfl rfl
theorem s197_2 (h : tg A a = 9)  : zX (d + 1) 197 2 ls (zI i0 :: zO (some a) :: []) A K = zX d 194 0 [zO (some a), zI i0, zU] [] A (zK (d + 1) 197 2 5 ls [] K) := zx_callV (t := 9) z197 zo197 dX4_formattedCharacter_2 rfl C10_286 rfl rfl zm194 rfl rfl (zwt_le (Nat.le_of_ble_eq_true rfl)) rfl h
theorem s197_5 : zX d 197 5 [v0, v1, v2, v3] (zI x :: st) A K = zX d 197 6 [v0, v1, v2, zI x] st A K := zx_istore_n z197 dX4_formattedCharacter_5 (Nat.le_of_ble_eq_true rfl) rfl rfl
theorem s197_6 : zX d 197 6 [v0, v1, zI x, v3] st A K = zX d 197 7 [v0, v1, zI x, v3] (zI x :: st) A K := zx_iload_n z197 dX4_formattedCharacter_6 rfl rfl
theorem s197_7 : zX d 197 7 ls st A K = zX d 197 8 ls (zI 0 :: st) A K := zx_const z197 dX4_formattedCharacter_7 (by decide) rfl
theorem s197_8 : zX d 197 8 [v0, v1, v2, zI x] st A K = zX d 197 9 [v0, v1, v2, zI x] (zI x :: st) A K := zx_iload_n z197 dX4_formattedCharacter_8 rfl rfl
theorem s197_9 : zX d 197 9 ls st A K = zX d 197 10 ls (zI 1 :: st) A K := zx_const z197 dX4_formattedCharacter_9 (by decide) rfl
theorem s197_10 : zX d 197 10 ls (zI y :: zI x :: st) A K = zX d 197 11 ls (zI (zw (x - y)) :: st) A K := zx_isub z197 dX4_formattedCharacter_10 rfl
theorem s197_11 : zX (d + 1) 197 11 ls (zI i2 :: zI i1 :: zI i0 :: []) A K = zX d 129 0 [zI i0, zI i1, zI i2] [] A (zK (d + 1) 197 11 14 ls [] K) := zx_callS z197 zo197 dX4_formattedCharacter_11 rfl C10_105 rfl rfl zm129 rfl rfl (zwt_le (Nat.le_of_ble_eq_true rfl)) rfl
theorem s197_14 : zX d 197 14 ls (zI x :: st) A K = (if x = 0 then zX d 197 26 ls st A K else zX d 197 17 ls st A K) := zx_if_eq z197 dX4_formattedCharacter_14 rfl rfl
theorem s197_17 : zX d 197 17 [zO o, v1, v2, v3] st A K = zX d 197 18 [zO o, v1, v2, v3] (zO o :: st) A K := zx_aload_n z197 dX4_formattedCharacter_17 rfl rfl
theorem s197_18 (h : tg A a = 9) : zX d 197 18 ls (zO (some a) :: st) A K = zX d 197 21 ls (fd A a 34 :: st) A K := zx_getf z197 zo197 dX4_formattedCharacter_18 F10_91 rfl h
theorem s197_21 : zX d 197 21 [v0, v1, zI x, v3] st A K = zX d 197 22 [v0, v1, zI x, v3] (zI x :: st) A K := zx_iload_n z197 dX4_formattedCharacter_21 rfl rfl
theorem s197_22 (h : tg A a = 20) (h0 : 0 ≤ x) (h1 : x.toNat < (ia A a).length) : zX d 197 22 ls (zI x :: zO (some a) :: st) A K = zX d 197 23 ls (zI ((ia A a).getD x.toNat 0) :: st) A K := zx_iald z197 dX4_formattedCharacter_22 rfl h h0 h1
theorem s197_22s (h : tg A a = 30) (h0 : 0 ≤ x) (h1 : x.toNat < (ia A a).length) : zX d 197 22 ls (zI x :: zO (some a) :: st) A K = zX d 197 23 ls (zI ((ia A a).getD x.toNat 0) :: st) A K := zx_sald z197 dX4_formattedCharacter_22 rfl h h0 h1
theorem s197_23 : zX d 197 23 ls st A K = zX d 197 27 ls st A K := zx_goto z197 dX4_formattedCharacter_23 rfl
theorem s197_26 : zX d 197 26 ls st A K = zX d 197 27 ls (zI (-1) :: st) A K := zx_const z197 dX4_formattedCharacter_26 (by decide) rfl
theorem s197_27 : zX d 197 27 ls [zI x] A K = K (Sum.inl (some (zI x))) A := zx_iret z197 dX4_formattedCharacter_27 zk197 rfl
theorem s198_0 : zX d 198 0 [v0, zI x, v2, v3] st A K = zX d 198 1 [v0, zI x, v2, v3] (zI x :: st) A K := zx_iload_n z198 dX4_compareTerms_0 rfl rfl
theorem s198_1 : zX (d + 1) 198 1 ls (zI i0 :: []) A K = zX d 192 0 [zI i0] [] A (zK (d + 1) 198 1 4 ls [] K) := zx_callS z198 zo198 dX4_compareTerms_1 rfl C10_274 rfl rfl zm192 rfl rfl (zwt_le (Nat.le_of_ble_eq_true rfl)) rfl
theorem s198_4 : zX d 198 4 ls (zI x :: st) A K = (if x = 0 then zX d 198 14 ls st A K else zX d 198 7 ls st A K) := zx_if_eq z198 dX4_compareTerms_4 rfl rfl
theorem s198_7 : zX d 198 7 [v0, v1, zI x, v3] st A K = zX d 198 8 [v0, v1, zI x, v3] (zI x :: st) A K := zx_iload_n z198 dX4_compareTerms_7 rfl rfl
theorem s198_8 : zX (d + 1) 198 8 ls (zI i0 :: []) A K = zX d 192 0 [zI i0] [] A (zK (d + 1) 198 8 11 ls [] K) := zx_callS z198 zo198 dX4_compareTerms_8 rfl C10_274 rfl rfl zm192 rfl rfl (zwt_le (Nat.le_of_ble_eq_true rfl)) rfl
theorem s198_11 : zX d 198 11 ls (zI x :: st) A K = (if x ≠ 0 then zX d 198 16 ls st A K else zX d 198 14 ls st A K) := zx_if_ne z198 dX4_compareTerms_11 rfl rfl
theorem s198_14 : zX d 198 14 ls st A K = zX d 198 15 ls (zI (-1) :: st) A K := zx_const z198 dX4_compareTerms_14 (by decide) rfl
theorem s198_15 : zX d 198 15 ls [zI x] A K = K (Sum.inl (some (zI x))) A := zx_iret z198 dX4_compareTerms_15 zk198 rfl
theorem s198_16 : zX d 198 16 [zO o, v1, v2, v3] st A K = zX d 198 17 [zO o, v1, v2, v3] (zO o :: st) A K := zx_aload_n z198 dX4_compareTerms_16 rfl rfl
theorem s198_17 (h : tg A a = 9) : zX d 198 17 ls (zO (some a) :: st) A K = zX d 198 20 ls (fd A a 4 :: st) A K := zx_getf z198 zo198 dX4_compareTerms_17 F10_22 rfl h
theorem s198_20 : zX d 198 20 ls st A K = zX d 198 22 ls (zI (96) :: st) A K := zx_bipush z198 dX4_compareTerms_20 (by decide) rfl
theorem s198_22 : zX d 198 22 [v0, zI x, v2, v3] st A K = zX d 198 23 [v0, zI x, v2, v3] (zI x :: st) A K := zx_iload_n z198 dX4_compareTerms_22 rfl rfl
theorem s198_23 : zX d 198 23 ls (zI y :: zI x :: st) A K = zX d 198 24 ls (zI (zw (x * y)) :: st) A K := zx_imul z198 dX4_compareTerms_23 rfl
theorem s198_24 : zX d 198 24 [zO o, v1, v2, v3] st A K = zX d 198 25 [zO o, v1, v2, v3] (zO o :: st) A K := zx_aload_n z198 dX4_compareTerms_24 rfl rfl
theorem s198_25 (h : tg A a = 9) : zX d 198 25 ls (zO (some a) :: st) A K = zX d 198 28 ls (fd A a 4 :: st) A K := zx_getf z198 zo198 dX4_compareTerms_25 F10_22 rfl h
theorem s198_28 : zX d 198 28 ls st A K = zX d 198 30 ls (zI (96) :: st) A K := zx_bipush z198 dX4_compareTerms_28 (by decide) rfl
theorem s198_30 : zX d 198 30 [v0, v1, zI x, v3] st A K = zX d 198 31 [v0, v1, zI x, v3] (zI x :: st) A K := zx_iload_n z198 dX4_compareTerms_30 rfl rfl
theorem s198_31 : zX d 198 31 ls (zI y :: zI x :: st) A K = zX d 198 32 ls (zI (zw (x * y)) :: st) A K := zx_imul z198 dX4_compareTerms_31 rfl
theorem s198_32 : zX (d + 1) 198 32 ls (zI i3 :: zO o2 :: zI i1 :: zO o0 :: []) A K = zX d 199 0 [zO o0, zI i1, zO o2, zI i3, zU] [] A (zK (d + 1) 198 32 35 ls [] K) := zx_callS z198 zo198 dX4_compareTerms_32 rfl C10_288 rfl rfl zm199 rfl rfl (zwt_le (Nat.le_of_ble_eq_true rfl)) rfl
theorem s198_35 : zX d 198 35 [v0, v1, v2, v3] (zI x :: st) A K = zX d 198 36 [v0, v1, v2, zI x] st A K := zx_istore_n z198 dX4_compareTerms_35 (Nat.le_of_ble_eq_true rfl) rfl rfl
theorem s198_36 : zX d 198 36 [v0, v1, v2, zI x] st A K = zX d 198 37 [v0, v1, v2, zI x] (zI x :: st) A K := zx_iload_n z198 dX4_compareTerms_36 rfl rfl
theorem s198_37 : zX d 198 37 ls (zI x :: st) A K = (if 0 ≤ x then zX d 198 44 ls st A K else zX d 198 40 ls st A K) := zx_if_ge z198 dX4_compareTerms_37 rfl rfl
theorem s198_40 : zX d 198 40 ls st A K = zX d 198 41 ls (zI 0 :: st) A K := zx_const z198 dX4_compareTerms_40 (by decide) rfl
theorem s198_41 : zX d 198 41 ls st A K = zX d 198 53 ls st A K := zx_goto z198 dX4_compareTerms_41 rfl
theorem s198_44 : zX d 198 44 [v0, v1, v2, zI x] st A K = zX d 198 45 [v0, v1, v2, zI x] (zI x :: st) A K := zx_iload_n z198 dX4_compareTerms_44 rfl rfl
theorem s198_45 : zX d 198 45 ls (zI x :: st) A K = (if x ≠ 0 then zX d 198 52 ls st A K else zX d 198 48 ls st A K) := zx_if_ne z198 dX4_compareTerms_45 rfl rfl
theorem s198_48 : zX d 198 48 ls st A K = zX d 198 49 ls (zI 1 :: st) A K := zx_const z198 dX4_compareTerms_48 (by decide) rfl
theorem s198_49 : zX d 198 49 ls st A K = zX d 198 53 ls st A K := zx_goto z198 dX4_compareTerms_49 rfl
theorem s198_52 : zX d 198 52 ls st A K = zX d 198 53 ls (zI 2 :: st) A K := zx_const z198 dX4_compareTerms_52 (by decide) rfl
theorem s198_53 : zX d 198 53 ls [zI x] A K = K (Sum.inl (some (zI x))) A := zx_iret z198 dX4_compareTerms_53 zk198 rfl
theorem s199_0 : zX d 199 0 [zO o, v1, v2, v3, v4] st A K = zX d 199 1 [zO o, v1, v2, v3, v4] (zO o :: st) A K := zx_aload_n z199 dX4_compare_0 rfl rfl
theorem s199_1 : zX d 199 1 [v0, zI x, v2, v3, v4] st A K = zX d 199 2 [v0, zI x, v2, v3, v4] (zI x :: st) A K := zx_iload_n z199 dX4_compare_1 rfl rfl
theorem s199_2 (h : tg A a = 20) (h0 : 0 ≤ x) (h1 : x.toNat < (ia A a).length) : zX d 199 2 ls (zI x :: zO (some a) :: st) A K = zX d 199 3 ls (zI ((ia A a).getD x.toNat 0) :: st) A K := zx_iald z199 dX4_compare_2 rfl h h0 h1
theorem s199_2s (h : tg A a = 30) (h0 : 0 ≤ x) (h1 : x.toNat < (ia A a).length) : zX d 199 2 ls (zI x :: zO (some a) :: st) A K = zX d 199 3 ls (zI ((ia A a).getD x.toNat 0) :: st) A K := zx_sald z199 dX4_compare_2 rfl h h0 h1
theorem s199_3 : zX d 199 3 [v0, v1, zO o, v3, v4] st A K = zX d 199 4 [v0, v1, zO o, v3, v4] (zO o :: st) A K := zx_aload_n z199 dX4_compare_3 rfl rfl
theorem s199_4 : zX d 199 4 [v0, v1, v2, zI x, v4] st A K = zX d 199 5 [v0, v1, v2, zI x, v4] (zI x :: st) A K := zx_iload_n z199 dX4_compare_4 rfl rfl
theorem s199_5 (h : tg A a = 20) (h0 : 0 ≤ x) (h1 : x.toNat < (ia A a).length) : zX d 199 5 ls (zI x :: zO (some a) :: st) A K = zX d 199 6 ls (zI ((ia A a).getD x.toNat 0) :: st) A K := zx_iald z199 dX4_compare_5 rfl h h0 h1
theorem s199_5s (h : tg A a = 30) (h0 : 0 ≤ x) (h1 : x.toNat < (ia A a).length) : zX d 199 5 ls (zI x :: zO (some a) :: st) A K = zX d 199 6 ls (zI ((ia A a).getD x.toNat 0) :: st) A K := zx_sald z199 dX4_compare_5 rfl h h0 h1
theorem s199_6 : zX d 199 6 ls (zI y :: zI x :: st) A K = (if x = y then zX d 199 17 ls st A K else zX d 199 9 ls st A K) := zx_ic_eq z199 dX4_compare_6 rfl rfl
theorem s199_9 : zX d 199 9 [zO o, v1, v2, v3, v4] st A K = zX d 199 10 [zO o, v1, v2, v3, v4] (zO o :: st) A K := zx_aload_n z199 dX4_compare_9 rfl rfl
theorem s199_10 : zX d 199 10 [v0, zI x, v2, v3, v4] st A K = zX d 199 11 [v0, zI x, v2, v3, v4] (zI x :: st) A K := zx_iload_n z199 dX4_compare_10 rfl rfl
theorem s199_11 (h : tg A a = 20) (h0 : 0 ≤ x) (h1 : x.toNat < (ia A a).length) : zX d 199 11 ls (zI x :: zO (some a) :: st) A K = zX d 199 12 ls (zI ((ia A a).getD x.toNat 0) :: st) A K := zx_iald z199 dX4_compare_11 rfl h h0 h1
theorem s199_11s (h : tg A a = 30) (h0 : 0 ≤ x) (h1 : x.toNat < (ia A a).length) : zX d 199 11 ls (zI x :: zO (some a) :: st) A K = zX d 199 12 ls (zI ((ia A a).getD x.toNat 0) :: st) A K := zx_sald z199 dX4_compare_11 rfl h h0 h1
theorem s199_12 : zX d 199 12 [v0, v1, zO o, v3, v4] st A K = zX d 199 13 [v0, v1, zO o, v3, v4] (zO o :: st) A K := zx_aload_n z199 dX4_compare_12 rfl rfl
theorem s199_13 : zX d 199 13 [v0, v1, v2, zI x, v4] st A K = zX d 199 14 [v0, v1, v2, zI x, v4] (zI x :: st) A K := zx_iload_n z199 dX4_compare_13 rfl rfl
theorem s199_14 (h : tg A a = 20) (h0 : 0 ≤ x) (h1 : x.toNat < (ia A a).length) : zX d 199 14 ls (zI x :: zO (some a) :: st) A K = zX d 199 15 ls (zI ((ia A a).getD x.toNat 0) :: st) A K := zx_iald z199 dX4_compare_14 rfl h h0 h1
theorem s199_14s (h : tg A a = 30) (h0 : 0 ≤ x) (h1 : x.toNat < (ia A a).length) : zX d 199 14 ls (zI x :: zO (some a) :: st) A K = zX d 199 15 ls (zI ((ia A a).getD x.toNat 0) :: st) A K := zx_sald z199 dX4_compare_14 rfl h h0 h1
theorem s199_15 : zX d 199 15 ls (zI y :: zI x :: st) A K = zX d 199 16 ls (zI (zw (x - y)) :: st) A K := zx_isub z199 dX4_compare_15 rfl
theorem s199_16 : zX d 199 16 ls [zI x] A K = K (Sum.inl (some (zI x))) A := zx_iret z199 dX4_compare_16 zk199 rfl
theorem s199_17 : zX d 199 17 ls st A K = zX d 199 18 ls (zI 1 :: st) A K := zx_const z199 dX4_compare_17 (by decide) rfl
theorem s199_18 : zX d 199 18 [v0, v1, v2, v3, v4] (zI x :: st) A K = zX d 199 20 [v0, v1, v2, v3, zI x] st A K := zx_istore z199 dX4_compare_18 (Nat.le_of_ble_eq_true rfl) rfl rfl
theorem s199_20 : zX d 199 20 [v0, v1, v2, v3, zI x] st A K = zX d 199 22 [v0, v1, v2, v3, zI x] (zI x :: st) A K := zx_iload z199 dX4_compare_20 rfl rfl
theorem s199_22 : zX d 199 22 [zO o, v1, v2, v3, v4] st A K = zX d 199 23 [zO o, v1, v2, v3, v4] (zO o :: st) A K := zx_aload_n z199 dX4_compare_22 rfl rfl
theorem s199_23 : zX d 199 23 [v0, zI x, v2, v3, v4] st A K = zX d 199 24 [v0, zI x, v2, v3, v4] (zI x :: st) A K := zx_iload_n z199 dX4_compare_23 rfl rfl
theorem s199_24 (h : tg A a = 20) (h0 : 0 ≤ x) (h1 : x.toNat < (ia A a).length) : zX d 199 24 ls (zI x :: zO (some a) :: st) A K = zX d 199 25 ls (zI ((ia A a).getD x.toNat 0) :: st) A K := zx_iald z199 dX4_compare_24 rfl h h0 h1
theorem s199_24s (h : tg A a = 30) (h0 : 0 ≤ x) (h1 : x.toNat < (ia A a).length) : zX d 199 24 ls (zI x :: zO (some a) :: st) A K = zX d 199 25 ls (zI ((ia A a).getD x.toNat 0) :: st) A K := zx_sald z199 dX4_compare_24 rfl h h0 h1
theorem s199_25 : zX d 199 25 ls (zI y :: zI x :: st) A K = (if y < x then zX d 199 63 ls st A K else zX d 199 28 ls st A K) := zx_ic_gt z199 dX4_compare_25 rfl rfl
theorem s199_28 : zX d 199 28 [zO o, v1, v2, v3, v4] st A K = zX d 199 29 [zO o, v1, v2, v3, v4] (zO o :: st) A K := zx_aload_n z199 dX4_compare_28 rfl rfl
theorem s199_29 : zX d 199 29 [v0, zI x, v2, v3, v4] st A K = zX d 199 30 [v0, zI x, v2, v3, v4] (zI x :: st) A K := zx_iload_n z199 dX4_compare_29 rfl rfl
theorem s199_30 : zX d 199 30 [v0, v1, v2, v3, zI x] st A K = zX d 199 32 [v0, v1, v2, v3, zI x] (zI x :: st) A K := zx_iload z199 dX4_compare_30 rfl rfl
theorem s199_32 : zX d 199 32 ls (zI y :: zI x :: st) A K = zX d 199 33 ls (zI (zw (x + y)) :: st) A K := zx_iadd z199 dX4_compare_32 rfl
theorem s199_33 (h : tg A a = 20) (h0 : 0 ≤ x) (h1 : x.toNat < (ia A a).length) : zX d 199 33 ls (zI x :: zO (some a) :: st) A K = zX d 199 34 ls (zI ((ia A a).getD x.toNat 0) :: st) A K := zx_iald z199 dX4_compare_33 rfl h h0 h1
theorem s199_33s (h : tg A a = 30) (h0 : 0 ≤ x) (h1 : x.toNat < (ia A a).length) : zX d 199 33 ls (zI x :: zO (some a) :: st) A K = zX d 199 34 ls (zI ((ia A a).getD x.toNat 0) :: st) A K := zx_sald z199 dX4_compare_33 rfl h h0 h1
theorem s199_34 : zX d 199 34 [v0, v1, zO o, v3, v4] st A K = zX d 199 35 [v0, v1, zO o, v3, v4] (zO o :: st) A K := zx_aload_n z199 dX4_compare_34 rfl rfl
theorem s199_35 : zX d 199 35 [v0, v1, v2, zI x, v4] st A K = zX d 199 36 [v0, v1, v2, zI x, v4] (zI x :: st) A K := zx_iload_n z199 dX4_compare_35 rfl rfl
theorem s199_36 : zX d 199 36 [v0, v1, v2, v3, zI x] st A K = zX d 199 38 [v0, v1, v2, v3, zI x] (zI x :: st) A K := zx_iload z199 dX4_compare_36 rfl rfl
theorem s199_38 : zX d 199 38 ls (zI y :: zI x :: st) A K = zX d 199 39 ls (zI (zw (x + y)) :: st) A K := zx_iadd z199 dX4_compare_38 rfl
theorem s199_39 (h : tg A a = 20) (h0 : 0 ≤ x) (h1 : x.toNat < (ia A a).length) : zX d 199 39 ls (zI x :: zO (some a) :: st) A K = zX d 199 40 ls (zI ((ia A a).getD x.toNat 0) :: st) A K := zx_iald z199 dX4_compare_39 rfl h h0 h1
theorem s199_39s (h : tg A a = 30) (h0 : 0 ≤ x) (h1 : x.toNat < (ia A a).length) : zX d 199 39 ls (zI x :: zO (some a) :: st) A K = zX d 199 40 ls (zI ((ia A a).getD x.toNat 0) :: st) A K := zx_sald z199 dX4_compare_39 rfl h h0 h1
theorem s199_40 : zX d 199 40 ls (zI y :: zI x :: st) A K = (if x = y then zX d 199 57 ls st A K else zX d 199 43 ls st A K) := zx_ic_eq z199 dX4_compare_40 rfl rfl
theorem s199_43 : zX d 199 43 [zO o, v1, v2, v3, v4] st A K = zX d 199 44 [zO o, v1, v2, v3, v4] (zO o :: st) A K := zx_aload_n z199 dX4_compare_43 rfl rfl
theorem s199_44 : zX d 199 44 [v0, zI x, v2, v3, v4] st A K = zX d 199 45 [v0, zI x, v2, v3, v4] (zI x :: st) A K := zx_iload_n z199 dX4_compare_44 rfl rfl
theorem s199_45 : zX d 199 45 [v0, v1, v2, v3, zI x] st A K = zX d 199 47 [v0, v1, v2, v3, zI x] (zI x :: st) A K := zx_iload z199 dX4_compare_45 rfl rfl
theorem s199_47 : zX d 199 47 ls (zI y :: zI x :: st) A K = zX d 199 48 ls (zI (zw (x + y)) :: st) A K := zx_iadd z199 dX4_compare_47 rfl
theorem s199_48 (h : tg A a = 20) (h0 : 0 ≤ x) (h1 : x.toNat < (ia A a).length) : zX d 199 48 ls (zI x :: zO (some a) :: st) A K = zX d 199 49 ls (zI ((ia A a).getD x.toNat 0) :: st) A K := zx_iald z199 dX4_compare_48 rfl h h0 h1
theorem s199_48s (h : tg A a = 30) (h0 : 0 ≤ x) (h1 : x.toNat < (ia A a).length) : zX d 199 48 ls (zI x :: zO (some a) :: st) A K = zX d 199 49 ls (zI ((ia A a).getD x.toNat 0) :: st) A K := zx_sald z199 dX4_compare_48 rfl h h0 h1
theorem s199_49 : zX d 199 49 [v0, v1, zO o, v3, v4] st A K = zX d 199 50 [v0, v1, zO o, v3, v4] (zO o :: st) A K := zx_aload_n z199 dX4_compare_49 rfl rfl
theorem s199_50 : zX d 199 50 [v0, v1, v2, zI x, v4] st A K = zX d 199 51 [v0, v1, v2, zI x, v4] (zI x :: st) A K := zx_iload_n z199 dX4_compare_50 rfl rfl
theorem s199_51 : zX d 199 51 [v0, v1, v2, v3, zI x] st A K = zX d 199 53 [v0, v1, v2, v3, zI x] (zI x :: st) A K := zx_iload z199 dX4_compare_51 rfl rfl
theorem s199_53 : zX d 199 53 ls (zI y :: zI x :: st) A K = zX d 199 54 ls (zI (zw (x + y)) :: st) A K := zx_iadd z199 dX4_compare_53 rfl
theorem s199_54 (h : tg A a = 20) (h0 : 0 ≤ x) (h1 : x.toNat < (ia A a).length) : zX d 199 54 ls (zI x :: zO (some a) :: st) A K = zX d 199 55 ls (zI ((ia A a).getD x.toNat 0) :: st) A K := zx_iald z199 dX4_compare_54 rfl h h0 h1
theorem s199_54s (h : tg A a = 30) (h0 : 0 ≤ x) (h1 : x.toNat < (ia A a).length) : zX d 199 54 ls (zI x :: zO (some a) :: st) A K = zX d 199 55 ls (zI ((ia A a).getD x.toNat 0) :: st) A K := zx_sald z199 dX4_compare_54 rfl h h0 h1
theorem s199_55 : zX d 199 55 ls (zI y :: zI x :: st) A K = zX d 199 56 ls (zI (zw (x - y)) :: st) A K := zx_isub z199 dX4_compare_55 rfl
theorem s199_56 : zX d 199 56 ls [zI x] A K = K (Sum.inl (some (zI x))) A := zx_iret z199 dX4_compare_56 zk199 rfl
theorem s199_57 : zX d 199 57 [v0, v1, v2, v3, zI x] st A K = zX d 199 60 [v0, v1, v2, v3, zI (zw (x + 1))] st A K := zx_iinc z199 dX4_compare_57 rfl rfl rfl
theorem s199_60 : zX d 199 60 ls st A K = zX d 199 20 ls st A K := zx_goto z199 dX4_compare_60 rfl
theorem s199_63 : zX d 199 63 ls st A K = zX d 199 64 ls (zI 0 :: st) A K := zx_const z199 dX4_compare_63 (by decide) rfl
theorem s199_64 : zX d 199 64 ls [zI x] A K = K (Sum.inl (some (zI x))) A := zx_iret z199 dX4_compare_64 zk199 rfl
theorem s200_0 : zX d 200 0 [v0, zI x, v2] st A K = zX d 200 1 [v0, zI x, v2] (zI x :: st) A K := zx_iload_n z200 dX4_copyTerm_0 rfl rfl
theorem s200_1 : zX (d + 1) 200 1 ls (zI i0 :: []) A K = zX d 192 0 [zI i0] [] A (zK (d + 1) 200 1 4 ls [] K) := zx_callS z200 zo200 dX4_copyTerm_1 rfl C10_274 rfl rfl zm192 rfl rfl (zwt_le (Nat.le_of_ble_eq_true rfl)) rfl
theorem s200_4 : zX d 200 4 ls (zI x :: st) A K = (if x = 0 then zX d 200 14 ls st A K else zX d 200 7 ls st A K) := zx_if_eq z200 dX4_copyTerm_4 rfl rfl
theorem s200_7 : zX d 200 7 [v0, v1, zI x] st A K = zX d 200 8 [v0, v1, zI x] (zI x :: st) A K := zx_iload_n z200 dX4_copyTerm_7 rfl rfl
theorem s200_8 : zX (d + 1) 200 8 ls (zI i0 :: []) A K = zX d 192 0 [zI i0] [] A (zK (d + 1) 200 8 11 ls [] K) := zx_callS z200 zo200 dX4_copyTerm_8 rfl C10_274 rfl rfl zm192 rfl rfl (zwt_le (Nat.le_of_ble_eq_true rfl)) rfl
theorem s200_11 : zX d 200 11 ls (zI x :: st) A K = (if x ≠ 0 then zX d 200 16 ls st A K else zX d 200 14 ls st A K) := zx_if_ne z200 dX4_copyTerm_11 rfl rfl
theorem s200_14 : zX d 200 14 ls st A K = zX d 200 15 ls (zI (-1) :: st) A K := zx_const z200 dX4_copyTerm_14 (by decide) rfl
theorem s200_15 : zX d 200 15 ls [zI x] A K = K (Sum.inl (some (zI x))) A := zx_iret z200 dX4_copyTerm_15 zk200 rfl
theorem s200_16 : zX d 200 16 [zO o, v1, v2] st A K = zX d 200 17 [zO o, v1, v2] (zO o :: st) A K := zx_aload_n z200 dX4_copyTerm_16 rfl rfl
theorem s200_17 (h : tg A a = 9) : zX d 200 17 ls (zO (some a) :: st) A K = zX d 200 20 ls (fd A a 4 :: st) A K := zx_getf z200 zo200 dX4_copyTerm_17 F10_22 rfl h
theorem s200_20 : zX d 200 20 ls st A K = zX d 200 22 ls (zI (96) :: st) A K := zx_bipush z200 dX4_copyTerm_20 (by decide) rfl
theorem s200_22 : zX d 200 22 [v0, zI x, v2] st A K = zX d 200 23 [v0, zI x, v2] (zI x :: st) A K := zx_iload_n z200 dX4_copyTerm_22 rfl rfl
theorem s200_23 : zX d 200 23 ls (zI y :: zI x :: st) A K = zX d 200 24 ls (zI (zw (x * y)) :: st) A K := zx_imul z200 dX4_copyTerm_23 rfl
theorem s200_24 : zX d 200 24 [zO o, v1, v2] st A K = zX d 200 25 [zO o, v1, v2] (zO o :: st) A K := zx_aload_n z200 dX4_copyTerm_24 rfl rfl
theorem s200_25 (h : tg A a = 9) : zX d 200 25 ls (zO (some a) :: st) A K = zX d 200 28 ls (fd A a 4 :: st) A K := zx_getf z200 zo200 dX4_copyTerm_25 F10_22 rfl h
theorem s200_28 : zX d 200 28 ls st A K = zX d 200 30 ls (zI (96) :: st) A K := zx_bipush z200 dX4_copyTerm_28 (by decide) rfl
theorem s200_30 : zX d 200 30 [v0, v1, zI x] st A K = zX d 200 31 [v0, v1, zI x] (zI x :: st) A K := zx_iload_n z200 dX4_copyTerm_30 rfl rfl
theorem s200_31 : zX d 200 31 ls (zI y :: zI x :: st) A K = zX d 200 32 ls (zI (zw (x * y)) :: st) A K := zx_imul z200 dX4_copyTerm_31 rfl
theorem s200_32 : zX d 200 32 ls st A K = zX d 200 34 ls (zI (96) :: st) A K := zx_bipush z200 dX4_copyTerm_32 (by decide) rfl
theorem s200_34 : zX (d + 1) 200 34 ls (zI i4 :: zI i3 :: zO o2 :: zI i1 :: zO o0 :: []) A K = zX d 138 0 [zO o0, zI i1, zO o2, zI i3, zI i4, zU] [] A (zK (d + 1) 200 34 37 ls [] K) := zx_callS z200 zo200 dX4_copyTerm_34 rfl C10_169 rfl rfl zm138 rfl rfl (zwt_le (Nat.le_of_ble_eq_true rfl)) rfl
theorem s200_37 : zX d 200 37 [zO o, v1, v2] st A K = zX d 200 38 [zO o, v1, v2] (zO o :: st) A K := zx_aload_n z200 dX4_copyTerm_37 rfl rfl
theorem s200_38 (h : tg A a = 9) : zX d 200 38 ls (zO (some a) :: st) A K = zX d 200 41 ls (fd A a 4 :: st) A K := zx_getf z200 zo200 dX4_copyTerm_38 F10_22 rfl h
theorem s200_41 : zX d 200 41 ls st A K = zX d 200 43 ls (zI (96) :: st) A K := zx_bipush z200 dX4_copyTerm_41 (by decide) rfl
theorem s200_43 : zX d 200 43 [v0, v1, zI x] st A K = zX d 200 44 [v0, v1, zI x] (zI x :: st) A K := zx_iload_n z200 dX4_copyTerm_43 rfl rfl
theorem s200_44 : zX d 200 44 ls (zI y :: zI x :: st) A K = zX d 200 45 ls (zI (zw (x * y)) :: st) A K := zx_imul z200 dX4_copyTerm_44 rfl
theorem s200_45 (h : tg A a = 20) (h0 : 0 ≤ x) (h1 : x.toNat < (ia A a).length) : zX d 200 45 ls (zI x :: zO (some a) :: st) A K = zX d 200 46 ls (zI ((ia A a).getD x.toNat 0) :: st) A K := zx_iald z200 dX4_copyTerm_45 rfl h h0 h1
theorem s200_45s (h : tg A a = 30) (h0 : 0 ≤ x) (h1 : x.toNat < (ia A a).length) : zX d 200 45 ls (zI x :: zO (some a) :: st) A K = zX d 200 46 ls (zI ((ia A a).getD x.toNat 0) :: st) A K := zx_sald z200 dX4_copyTerm_45 rfl h h0 h1
theorem s200_46 : zX d 200 46 ls [zI x] A K = K (Sum.inl (some (zI x))) A := zx_iret z200 dX4_copyTerm_46 zk200 rfl
theorem s201_0 : zX d 201 0 [zO o, v1, v2] st A K = zX d 201 1 [zO o, v1, v2] (zO o :: st) A K := zx_aload_n z201 dX4_loadLeft_0 rfl rfl
theorem s201_1 : zX d 201 1 [v0, zI x, v2] st A K = zX d 201 2 [v0, zI x, v2] (zI x :: st) A K := zx_iload_n z201 dX4_loadLeft_1 rfl rfl
theorem s201_2 (h : tg A a = 9)  : zX (d + 1) 201 2 ls (zI i0 :: zO (some a) :: []) A K = zX d 144 0 [zO (some a), zI i0] [] A (zK (d + 1) 201 2 5 ls [] K) := zx_callV (t := 9) z201 zo201 dX4_loadLeft_2 rfl C10_176 rfl rfl zm144 rfl rfl (zwt_le (Nat.le_of_ble_eq_true rfl)) rfl h
theorem s201_5 : zX d 201 5 ls (zI x :: st) A K = (if x = 0 then zX d 201 27 ls st A K else zX d 201 8 ls st A K) := zx_if_eq z201 dX4_loadLeft_5 rfl rfl
theorem s201_8 : zX d 201 8 [v0, v1, zI x] st A K = zX d 201 9 [v0, v1, zI x] (zI x :: st) A K := zx_iload_n z201 dX4_loadLeft_8 rfl rfl
theorem s201_9 : zX (d + 1) 201 9 ls (zI i0 :: []) A K = zX d 192 0 [zI i0] [] A (zK (d + 1) 201 9 12 ls [] K) := zx_callS z201 zo201 dX4_loadLeft_9 rfl C10_274 rfl rfl zm192 rfl rfl (zwt_le (Nat.le_of_ble_eq_true rfl)) rfl
theorem s201_12 : zX d 201 12 ls (zI x :: st) A K = (if x = 0 then zX d 201 27 ls st A K else zX d 201 15 ls st A K) := zx_if_eq z201 dX4_loadLeft_12 rfl rfl
theorem s201_15 : zX d 201 15 [zO o, v1, v2] st A K = zX d 201 16 [zO o, v1, v2] (zO o :: st) A K := zx_aload_n z201 dX4_loadLeft_15 rfl rfl
theorem s201_16 : zX d 201 16 [v0, zI x, v2] st A K = zX d 201 17 [v0, zI x, v2] (zI x :: st) A K := zx_iload_n z201 dX4_loadLeft_16 rfl rfl
theorem s201_17 : zX (d + 1) 201 17 ls (zI i0 :: [w0]) A K = zX d 141 0 [zI i0] [] A (zK (d + 1) 201 17 20 ls [w0] K) := zx_callS z201 zo201 dX4_loadLeft_17 rfl C10_125 rfl rfl zm141 rfl rfl (zwt_le (Nat.le_of_ble_eq_true rfl)) rfl
theorem s201_20 : zX d 201 20 [v0, v1, zI x] st A K = zX d 201 21 [v0, v1, zI x] (zI x :: st) A K := zx_iload_n z201 dX4_loadLeft_20 rfl rfl
theorem s201_21 (h : tg A a = 9)  : zX (d + 1) 201 21 ls (zI i1 :: zI i0 :: zO (some a) :: []) A K = zX d 202 0 [zO (some a), zI i0, zI i1] [] A (zK (d + 1) 201 21 24 ls [] K) := zx_callV (t := 9) z201 zo201 dX4_loadLeft_21 rfl C10_292 rfl rfl zm202 rfl rfl (zwt_le (Nat.le_of_ble_eq_true rfl)) rfl h
theorem s201_24 : zX d 201 24 ls st A K = zX d 201 28 ls st A K := zx_goto z201 dX4_loadLeft_24 rfl
theorem s201_27 : zX d 201 27 ls st A K = zX d 201 28 ls (zI (-1) :: st) A K := zx_const z201 dX4_loadLeft_27 (by decide) rfl
theorem s201_28 : zX d 201 28 ls [zI x] A K = K (Sum.inl (some (zI x))) A := zx_iret z201 dX4_loadLeft_28 zk201 rfl
theorem s202_0 : zX d 202 0 [zO o, v1, v2] st A K = zX d 202 1 [zO o, v1, v2] (zO o :: st) A K := zx_aload_n z202 dX4_load_0 rfl rfl
theorem s202_1 (h : tg A a = 9) : zX d 202 1 ls (zO (some a) :: st) A K = zX d 202 4 ls (fd A a 2 :: st) A K := zx_getf z202 zo202 dX4_load_1 F10_16 rfl h
theorem s202_4 : zX d 202 4 [v0, zI x, v2] st A K = zX d 202 5 [v0, zI x, v2] (zI x :: st) A K := zx_iload_n z202 dX4_load_4 rfl rfl
theorem s202_5 : zX d 202 5 [zO o, v1, v2] st A K = zX d 202 6 [zO o, v1, v2] (zO o :: st) A K := zx_aload_n z202 dX4_load_5 rfl rfl
theorem s202_6 (h : tg A a = 9) : zX d 202 6 ls (zO (some a) :: st) A K = zX d 202 9 ls (fd A a 4 :: st) A K := zx_getf z202 zo202 dX4_load_6 F10_22 rfl h
theorem s202_9 : zX d 202 9 ls st A K = zX d 202 11 ls (zI (96) :: st) A K := zx_bipush z202 dX4_load_9 (by decide) rfl
theorem s202_11 : zX d 202 11 [v0, v1, zI x] st A K = zX d 202 12 [v0, v1, zI x] (zI x :: st) A K := zx_iload_n z202 dX4_load_11 rfl rfl
theorem s202_12 : zX d 202 12 ls (zI y :: zI x :: st) A K = zX d 202 13 ls (zI (zw (x * y)) :: st) A K := zx_imul z202 dX4_load_12 rfl
theorem s202_13 : zX d 202 13 ls st A K = zX d 202 15 ls (zI (96) :: st) A K := zx_bipush z202 dX4_load_13 (by decide) rfl
theorem s202_15 : zX (d + 1) 202 15 ls (zI i4 :: zI i3 :: zO o2 :: zI i1 :: zO o0 :: []) A K = zX d 138 0 [zO o0, zI i1, zO o2, zI i3, zI i4, zU] [] A (zK (d + 1) 202 15 18 ls [] K) := zx_callS z202 zo202 dX4_load_15 rfl C10_169 rfl rfl zm138 rfl rfl (zwt_le (Nat.le_of_ble_eq_true rfl)) rfl
theorem s202_18 : zX d 202 18 [zO o, v1, v2] st A K = zX d 202 19 [zO o, v1, v2] (zO o :: st) A K := zx_aload_n z202 dX4_load_18 rfl rfl
theorem s202_19 (h : tg A a = 9) : zX d 202 19 ls (zO (some a) :: st) A K = zX d 202 22 ls (fd A a 2 :: st) A K := zx_getf z202 zo202 dX4_load_19 F10_16 rfl h
theorem s202_22 : zX d 202 22 [v0, zI x, v2] st A K = zX d 202 23 [v0, zI x, v2] (zI x :: st) A K := zx_iload_n z202 dX4_load_22 rfl rfl
theorem s202_23 (h : tg A a = 20) (h0 : 0 ≤ x) (h1 : x.toNat < (ia A a).length) : zX d 202 23 ls (zI x :: zO (some a) :: st) A K = zX d 202 24 ls (zI ((ia A a).getD x.toNat 0) :: st) A K := zx_iald z202 dX4_load_23 rfl h h0 h1
theorem s202_23s (h : tg A a = 30) (h0 : 0 ≤ x) (h1 : x.toNat < (ia A a).length) : zX d 202 23 ls (zI x :: zO (some a) :: st) A K = zX d 202 24 ls (zI ((ia A a).getD x.toNat 0) :: st) A K := zx_sald z202 dX4_load_23 rfl h h0 h1
theorem s202_24 : zX d 202 24 ls [zI x] A K = K (Sum.inl (some (zI x))) A := zx_iret z202 dX4_load_24 zk202 rfl
theorem s203_0 : zX d 203 0 [zO o, v1, v2] st A K = zX d 203 1 [zO o, v1, v2] (zO o :: st) A K := zx_aload_n z203 dX4_loadRight_0 rfl rfl
theorem s203_1 : zX d 203 1 [v0, zI x, v2] st A K = zX d 203 2 [v0, zI x, v2] (zI x :: st) A K := zx_iload_n z203 dX4_loadRight_1 rfl rfl
theorem s203_2 (h : tg A a = 9)  : zX (d + 1) 203 2 ls (zI i0 :: zO (some a) :: []) A K = zX d 144 0 [zO (some a), zI i0] [] A (zK (d + 1) 203 2 5 ls [] K) := zx_callV (t := 9) z203 zo203 dX4_loadRight_2 rfl C10_176 rfl rfl zm144 rfl rfl (zwt_le (Nat.le_of_ble_eq_true rfl)) rfl h
theorem s203_5 : zX d 203 5 ls (zI x :: st) A K = (if x = 0 then zX d 203 27 ls st A K else zX d 203 8 ls st A K) := zx_if_eq z203 dX4_loadRight_5 rfl rfl
theorem s203_8 : zX d 203 8 [v0, v1, zI x] st A K = zX d 203 9 [v0, v1, zI x] (zI x :: st) A K := zx_iload_n z203 dX4_loadRight_8 rfl rfl
theorem s203_9 : zX (d + 1) 203 9 ls (zI i0 :: []) A K = zX d 192 0 [zI i0] [] A (zK (d + 1) 203 9 12 ls [] K) := zx_callS z203 zo203 dX4_loadRight_9 rfl C10_274 rfl rfl zm192 rfl rfl (zwt_le (Nat.le_of_ble_eq_true rfl)) rfl
theorem s203_12 : zX d 203 12 ls (zI x :: st) A K = (if x = 0 then zX d 203 27 ls st A K else zX d 203 15 ls st A K) := zx_if_eq z203 dX4_loadRight_12 rfl rfl
theorem s203_15 : zX d 203 15 [zO o, v1, v2] st A K = zX d 203 16 [zO o, v1, v2] (zO o :: st) A K := zx_aload_n z203 dX4_loadRight_15 rfl rfl
theorem s203_16 : zX d 203 16 [v0, zI x, v2] st A K = zX d 203 17 [v0, zI x, v2] (zI x :: st) A K := zx_iload_n z203 dX4_loadRight_16 rfl rfl
theorem s203_17 : zX (d + 1) 203 17 ls (zI i0 :: [w0]) A K = zX d 142 0 [zI i0] [] A (zK (d + 1) 203 17 20 ls [w0] K) := zx_callS z203 zo203 dX4_loadRight_17 rfl C10_145 rfl rfl zm142 rfl rfl (zwt_le (Nat.le_of_ble_eq_true rfl)) rfl
theorem s203_20 : zX d 203 20 [v0, v1, zI x] st A K = zX d 203 21 [v0, v1, zI x] (zI x :: st) A K := zx_iload_n z203 dX4_loadRight_20 rfl rfl
theorem s203_21 (h : tg A a = 9)  : zX (d + 1) 203 21 ls (zI i1 :: zI i0 :: zO (some a) :: []) A K = zX d 202 0 [zO (some a), zI i0, zI i1] [] A (zK (d + 1) 203 21 24 ls [] K) := zx_callV (t := 9) z203 zo203 dX4_loadRight_21 rfl C10_292 rfl rfl zm202 rfl rfl (zwt_le (Nat.le_of_ble_eq_true rfl)) rfl h
theorem s203_24 : zX d 203 24 ls st A K = zX d 203 28 ls st A K := zx_goto z203 dX4_loadRight_24 rfl
theorem s203_27 : zX d 203 27 ls st A K = zX d 203 28 ls (zI (-1) :: st) A K := zx_const z203 dX4_loadRight_27 (by decide) rfl
theorem s203_28 : zX d 203 28 ls [zI x] A K = K (Sum.inl (some (zI x))) A := zx_iret z203 dX4_loadRight_28 zk203 rfl
theorem s204_0 : zX d 204 0 [zO o, v1, v2, v3] st A K = zX d 204 1 [zO o, v1, v2, v3] (zO o :: st) A K := zx_aload_n z204 dX4_matches_0 rfl rfl
theorem s204_1 : zX d 204 1 [v0, zI x, v2, v3] st A K = zX d 204 2 [v0, zI x, v2, v3] (zI x :: st) A K := zx_iload_n z204 dX4_matches_1 rfl rfl
theorem s204_2 (h : tg A a = 9)  : zX (d + 1) 204 2 ls (zI i0 :: zO (some a) :: []) A K = zX d 144 0 [zO (some a), zI i0] [] A (zK (d + 1) 204 2 5 ls [] K) := zx_callV (t := 9) z204 zo204 dX4_matches_2 rfl C10_176 rfl rfl zm144 rfl rfl (zwt_le (Nat.le_of_ble_eq_true rfl)) rfl h
theorem s204_5 : zX d 204 5 ls (zI x :: st) A K = (if x = 0 then zX d 204 17 ls st A K else zX d 204 8 ls st A K) := zx_if_eq z204 dX4_matches_5 rfl rfl
theorem s204_8 : zX d 204 8 [zO o, v1, v2, v3] st A K = zX d 204 9 [zO o, v1, v2, v3] (zO o :: st) A K := zx_aload_n z204 dX4_matches_8 rfl rfl
theorem s204_9 : zX d 204 9 [v0, v1, zI x, v3] st A K = zX d 204 10 [v0, v1, zI x, v3] (zI x :: st) A K := zx_iload_n z204 dX4_matches_9 rfl rfl
theorem s204_10 : zX d 204 10 [v0, v1, v2, zI x] st A K = zX d 204 11 [v0, v1, v2, zI x] (zI x :: st) A K := zx_iload_n z204 dX4_matches_10 rfl rfl
theorem s204_11 (h : tg A a = 9)  : zX (d + 1) 204 11 ls (zI i1 :: zI i0 :: zO (some a) :: []) A K = zX d 205 0 [zO (some a), zI i0, zI i1] [] A (zK (d + 1) 204 11 14 ls [] K) := zx_callV (t := 9) z204 zo204 dX4_matches_11 rfl C10_295 rfl rfl zm205 rfl rfl (zwt_le (Nat.le_of_ble_eq_true rfl)) rfl h
theorem s204_14 : zX d 204 14 ls (zI x :: st) A K = (if x ≠ 0 then zX d 204 19 ls st A K else zX d 204 17 ls st A K) := zx_if_ne z204 dX4_matches_14 rfl rfl
theorem s204_17 : zX d 204 17 ls st A K = zX d 204 18 ls (zI (-1) :: st) A K := zx_const z204 dX4_matches_17 (by decide) rfl
theorem s204_18 : zX d 204 18 ls [zI x] A K = K (Sum.inl (some (zI x))) A := zx_iret z204 dX4_matches_18 zk204 rfl
theorem s204_19 : zX d 204 19 [zO o, v1, v2, v3] st A K = zX d 204 20 [zO o, v1, v2, v3] (zO o :: st) A K := zx_aload_n z204 dX4_matches_19 rfl rfl
theorem s204_20 : zX d 204 20 [v0, zI x, v2, v3] st A K = zX d 204 21 [v0, zI x, v2, v3] (zI x :: st) A K := zx_iload_n z204 dX4_matches_20 rfl rfl
theorem s204_21 : zX d 204 21 [zO o, v1, v2, v3] st A K = zX d 204 22 [zO o, v1, v2, v3] (zO o :: st) A K := zx_aload_n z204 dX4_matches_21 rfl rfl
theorem s204_22 (h : tg A a = 9) : zX d 204 22 ls (zO (some a) :: st) A K = zX d 204 25 ls (fd A a 4 :: st) A K := zx_getf z204 zo204 dX4_matches_22 F10_22 rfl h
theorem s204_25 : zX d 204 25 ls st A K = zX d 204 27 ls (zI (96) :: st) A K := zx_bipush z204 dX4_matches_25 (by decide) rfl
theorem s204_27 : zX d 204 27 [v0, v1, zI x, v3] st A K = zX d 204 28 [v0, v1, zI x, v3] (zI x :: st) A K := zx_iload_n z204 dX4_matches_27 rfl rfl
theorem s204_28 : zX d 204 28 ls (zI y :: zI x :: st) A K = zX d 204 29 ls (zI (zw (x * y)) :: st) A K := zx_imul z204 dX4_matches_28 rfl
theorem s204_29 : zX d 204 29 ls st A K = zX d 204 30 ls (zI 1 :: st) A K := zx_const z204 dX4_matches_29 (by decide) rfl
theorem s204_30 : zX d 204 30 ls (zI y :: zI x :: st) A K = zX d 204 31 ls (zI (zw (x + y)) :: st) A K := zx_iadd z204 dX4_matches_30 rfl
theorem s204_31 : zX d 204 31 [v0, v1, v2, zI x] st A K = zX d 204 32 [v0, v1, v2, zI x] (zI x :: st) A K := zx_iload_n z204 dX4_matches_31 rfl rfl
theorem s204_32 : zX d 204 32 ls (zI y :: zI x :: st) A K = zX d 204 33 ls (zI (zw (x + y)) :: st) A K := zx_iadd z204 dX4_matches_32 rfl
theorem s204_33 (h : tg A a = 9)  : zX (d + 1) 204 33 ls (zI i2 :: zO o1 :: zI i0 :: zO (some a) :: []) A K = zX d 206 0 [zO (some a), zI i0, zO o1, zI i2, zU, zU, zU, zU, zU] [] A (zK (d + 1) 204 33 36 ls [] K) := zx_callV (t := 9) z204 zo204 dX4_matches_33 rfl C10_138 rfl rfl zm206 rfl rfl (zwt_le (Nat.le_of_ble_eq_true rfl)) rfl h
theorem s204_36 : zX d 204 36 ls (zI x :: st) A K = (if x = 0 then zX d 204 43 ls st A K else zX d 204 39 ls st A K) := zx_if_eq z204 dX4_matches_36 rfl rfl
theorem s204_39 : zX d 204 39 ls st A K = zX d 204 40 ls (zI 1 :: st) A K := zx_const z204 dX4_matches_39 (by decide) rfl
theorem s204_40 : zX d 204 40 ls st A K = zX d 204 44 ls st A K := zx_goto z204 dX4_matches_40 rfl
theorem s204_43 : zX d 204 43 ls st A K = zX d 204 44 ls (zI 0 :: st) A K := zx_const z204 dX4_matches_43 (by decide) rfl
theorem s204_44 : zX d 204 44 ls [zI x] A K = K (Sum.inl (some (zI x))) A := zx_iret z204 dX4_matches_44 zk204 rfl
theorem s205_0 : zX d 205 0 [v0, zI x, v2] st A K = zX d 205 1 [v0, zI x, v2] (zI x :: st) A K := zx_iload_n z205 dX4_isPosition_0 rfl rfl
theorem s205_1 : zX (d + 1) 205 1 ls (zI i0 :: []) A K = zX d 192 0 [zI i0] [] A (zK (d + 1) 205 1 4 ls [] K) := zx_callS z205 zo205 dX4_isPosition_1 rfl C10_274 rfl rfl zm192 rfl rfl (zwt_le (Nat.le_of_ble_eq_true rfl)) rfl
theorem s205_4 : zX d 205 4 ls (zI x :: st) A K = (if x = 0 then zX d 205 30 ls st A K else zX d 205 7 ls st A K) := zx_if_eq z205 dX4_isPosition_4 rfl rfl
theorem s205_7 : zX d 205 7 [v0, v1, zI x] st A K = zX d 205 8 [v0, v1, zI x] (zI x :: st) A K := zx_iload_n z205 dX4_isPosition_7 rfl rfl
theorem s205_8 : zX d 205 8 ls st A K = zX d 205 9 ls (zI 0 :: st) A K := zx_const z205 dX4_isPosition_8 (by decide) rfl
theorem s205_9 : zX d 205 9 [zO o, v1, v2] st A K = zX d 205 10 [zO o, v1, v2] (zO o :: st) A K := zx_aload_n z205 dX4_isPosition_9 rfl rfl
theorem s205_10 (h : tg A a = 9) : zX d 205 10 ls (zO (some a) :: st) A K = zX d 205 13 ls (fd A a 4 :: st) A K := zx_getf z205 zo205 dX4_isPosition_10 F10_22 rfl h
theorem s205_13 : zX d 205 13 ls st A K = zX d 205 15 ls (zI (96) :: st) A K := zx_bipush z205 dX4_isPosition_13 (by decide) rfl
theorem s205_15 : zX d 205 15 [v0, zI x, v2] st A K = zX d 205 16 [v0, zI x, v2] (zI x :: st) A K := zx_iload_n z205 dX4_isPosition_15 rfl rfl
theorem s205_16 : zX d 205 16 ls (zI y :: zI x :: st) A K = zX d 205 17 ls (zI (zw (x * y)) :: st) A K := zx_imul z205 dX4_isPosition_16 rfl
theorem s205_17 (h : tg A a = 20) (h0 : 0 ≤ x) (h1 : x.toNat < (ia A a).length) : zX d 205 17 ls (zI x :: zO (some a) :: st) A K = zX d 205 18 ls (zI ((ia A a).getD x.toNat 0) :: st) A K := zx_iald z205 dX4_isPosition_17 rfl h h0 h1
theorem s205_17s (h : tg A a = 30) (h0 : 0 ≤ x) (h1 : x.toNat < (ia A a).length) : zX d 205 17 ls (zI x :: zO (some a) :: st) A K = zX d 205 18 ls (zI ((ia A a).getD x.toNat 0) :: st) A K := zx_sald z205 dX4_isPosition_17 rfl h h0 h1
theorem s205_18 : zX d 205 18 ls st A K = zX d 205 19 ls (zI 1 :: st) A K := zx_const z205 dX4_isPosition_18 (by decide) rfl
theorem s205_19 : zX d 205 19 ls (zI y :: zI x :: st) A K = zX d 205 20 ls (zI (zw (x - y)) :: st) A K := zx_isub z205 dX4_isPosition_19 rfl
theorem s205_20 : zX (d + 1) 205 20 ls (zI i2 :: zI i1 :: zI i0 :: []) A K = zX d 129 0 [zI i0, zI i1, zI i2] [] A (zK (d + 1) 205 20 23 ls [] K) := zx_callS z205 zo205 dX4_isPosition_20 rfl C10_105 rfl rfl zm129 rfl rfl (zwt_le (Nat.le_of_ble_eq_true rfl)) rfl
theorem s205_23 : zX d 205 23 ls (zI x :: st) A K = (if x = 0 then zX d 205 30 ls st A K else zX d 205 26 ls st A K) := zx_if_eq z205 dX4_isPosition_23 rfl rfl
theorem s205_26 : zX d 205 26 ls st A K = zX d 205 27 ls (zI 1 :: st) A K := zx_const z205 dX4_isPosition_26 (by decide) rfl
theorem s205_27 : zX d 205 27 ls st A K = zX d 205 31 ls st A K := zx_goto z205 dX4_isPosition_27 rfl
theorem s205_30 : zX d 205 30 ls st A K = zX d 205 31 ls (zI 0 :: st) A K := zx_const z205 dX4_isPosition_30 (by decide) rfl
theorem s205_31 (h : x = 0 ∨ x = 1) : zX d 205 31 ls [zI x] A K = K (Sum.inl (some (zI x))) A := zx_iret z205 dX4_isPosition_31 zk205 (by rcases h with q | q <;> subst q <;> rfl)
theorem s206_0 : zX d 206 0 ls st A K = zX d 206 1 ls (zI 0 :: st) A K := zx_const z206 dX4_isMatch_0 (by decide) rfl
theorem s206_1 : zX d 206 1 [v0, v1, v2, v3, v4, v5, v6, v7, v8] (zI x :: st) A K = zX d 206 3 [v0, v1, v2, v3, zI x, v5, v6, v7, v8] st A K := zx_istore z206 dX4_isMatch_1 (Nat.le_of_ble_eq_true rfl) rfl rfl
theorem s206_3 : zX d 206 3 [v0, v1, v2, v3, zI x, v5, v6, v7, v8] st A K = zX d 206 5 [v0, v1, v2, v3, zI x, v5, v6, v7, v8] (zI x :: st) A K := zx_iload z206 dX4_isMatch_3 rfl rfl
theorem s206_5 : zX d 206 5 ls st A K = zX d 206 6 ls (zI 3 :: st) A K := zx_const z206 dX4_isMatch_5 (by decide) rfl
theorem s206_6 : zX d 206 6 ls (zI y :: zI x :: st) A K = (if y ≤ x then zX d 206 23 ls st A K else zX d 206 9 ls st A K) := zx_ic_ge z206 dX4_isMatch_6 rfl rfl
theorem s206_9 : zX d 206 9 [zO o, v1, v2, v3, v4, v5, v6, v7, v8] st A K = zX d 206 10 [zO o, v1, v2, v3, v4, v5, v6, v7, v8] (zO o :: st) A K := zx_aload_n z206 dX4_isMatch_9 rfl rfl
theorem s206_10 (h : tg A a = 9) : zX d 206 10 ls (zO (some a) :: st) A K = zX d 206 13 ls (fd A a 10 :: st) A K := zx_getf z206 zo206 dX4_isMatch_10 F10_31 rfl h
theorem s206_13 : zX d 206 13 [v0, v1, v2, v3, zI x, v5, v6, v7, v8] st A K = zX d 206 15 [v0, v1, v2, v3, zI x, v5, v6, v7, v8] (zI x :: st) A K := zx_iload z206 dX4_isMatch_13 rfl rfl
theorem s206_15 : zX d 206 15 ls st A K = zX d 206 16 ls (zI 0 :: st) A K := zx_const z206 dX4_isMatch_15 (by decide) rfl
theorem s206_16 (h : tg A a = 20) (h0 : 0 ≤ x) (h1 : x.toNat < (ia A a).length) : zX d 206 16 ls (zI y :: zI x :: zO (some a) :: st) A K = zX d 206 17 ls st (pI A a ((ia A a).set x.toNat y)) K := zx_iast z206 dX4_isMatch_16 rfl h h0 h1
theorem s206_17 : zX d 206 17 [v0, v1, v2, v3, zI x, v5, v6, v7, v8] st A K = zX d 206 20 [v0, v1, v2, v3, zI (zw (x + 1)), v5, v6, v7, v8] st A K := zx_iinc z206 dX4_isMatch_17 rfl rfl rfl
theorem s206_20 : zX d 206 20 ls st A K = zX d 206 3 ls st A K := zx_goto z206 dX4_isMatch_20 rfl
theorem s206_23 : zX d 206 23 [v0, v1, v2, zI x, v4, v5, v6, v7, v8] st A K = zX d 206 24 [v0, v1, v2, zI x, v4, v5, v6, v7, v8] (zI x :: st) A K := zx_iload_n z206 dX4_isMatch_23 rfl rfl
theorem s206_24 : zX d 206 24 [v0, v1, v2, v3, v4, v5, v6, v7, v8] (zI x :: st) A K = zX d 206 26 [v0, v1, v2, v3, zI x, v5, v6, v7, v8] st A K := zx_istore z206 dX4_isMatch_24 (Nat.le_of_ble_eq_true rfl) rfl rfl
theorem s206_26 : zX d 206 26 ls st A K = zX d 206 27 ls (zI 1 :: st) A K := zx_const z206 dX4_isMatch_26 (by decide) rfl
theorem s206_27 : zX d 206 27 [v0, v1, v2, v3, v4, v5, v6, v7, v8] (zI x :: st) A K = zX d 206 29 [v0, v1, v2, v3, v4, zI x, v6, v7, v8] st A K := zx_istore z206 dX4_isMatch_27 (Nat.le_of_ble_eq_true rfl) rfl rfl
theorem s206_29 : zX d 206 29 [v0, v1, v2, v3, v4, zI x, v6, v7, v8] st A K = zX d 206 31 [v0, v1, v2, v3, v4, zI x, v6, v7, v8] (zI x :: st) A K := zx_iload z206 dX4_isMatch_29 rfl rfl
theorem s206_31 : zX d 206 31 [zO o, v1, v2, v3, v4, v5, v6, v7, v8] st A K = zX d 206 32 [zO o, v1, v2, v3, v4, v5, v6, v7, v8] (zO o :: st) A K := zx_aload_n z206 dX4_isMatch_31 rfl rfl
theorem s206_32 (h : tg A a = 9) : zX d 206 32 ls (zO (some a) :: st) A K = zX d 206 35 ls (fd A a 2 :: st) A K := zx_getf z206 zo206 dX4_isMatch_32 F10_16 rfl h
theorem s206_35 : zX d 206 35 [v0, zI x, v2, v3, v4, v5, v6, v7, v8] st A K = zX d 206 36 [v0, zI x, v2, v3, v4, v5, v6, v7, v8] (zI x :: st) A K := zx_iload_n z206 dX4_isMatch_35 rfl rfl
theorem s206_36 : zX (d + 1) 206 36 ls (zI i0 :: [w0, w1]) A K = zX d 141 0 [zI i0] [] A (zK (d + 1) 206 36 39 ls [w0, w1] K) := zx_callS z206 zo206 dX4_isMatch_36 rfl C10_125 rfl rfl zm141 rfl rfl (zwt_le (Nat.le_of_ble_eq_true rfl)) rfl
theorem s206_39 (h : tg A a = 20) (h0 : 0 ≤ x) (h1 : x.toNat < (ia A a).length) : zX d 206 39 ls (zI x :: zO (some a) :: st) A K = zX d 206 40 ls (zI ((ia A a).getD x.toNat 0) :: st) A K := zx_iald z206 dX4_isMatch_39 rfl h h0 h1
theorem s206_39s (h : tg A a = 30) (h0 : 0 ≤ x) (h1 : x.toNat < (ia A a).length) : zX d 206 39 ls (zI x :: zO (some a) :: st) A K = zX d 206 40 ls (zI ((ia A a).getD x.toNat 0) :: st) A K := zx_sald z206 dX4_isMatch_39 rfl h h0 h1
theorem s206_40 : zX d 206 40 ls (zI y :: zI x :: st) A K = (if y < x then zX d 206 181 ls st A K else zX d 206 43 ls st A K) := zx_ic_gt z206 dX4_isMatch_40 rfl rfl
theorem s206_43 : zX d 206 43 [zO o, v1, v2, v3, v4, v5, v6, v7, v8] st A K = zX d 206 44 [zO o, v1, v2, v3, v4, v5, v6, v7, v8] (zO o :: st) A K := zx_aload_n z206 dX4_isMatch_43 rfl rfl
theorem s206_44 (h : tg A a = 9) : zX d 206 44 ls (zO (some a) :: st) A K = zX d 206 47 ls (fd A a 2 :: st) A K := zx_getf z206 zo206 dX4_isMatch_44 F10_16 rfl h
theorem s206_47 : zX d 206 47 [v0, zI x, v2, v3, v4, v5, v6, v7, v8] st A K = zX d 206 48 [v0, zI x, v2, v3, v4, v5, v6, v7, v8] (zI x :: st) A K := zx_iload_n z206 dX4_isMatch_47 rfl rfl
theorem s206_48 : zX (d + 1) 206 48 ls (zI i0 :: [w0]) A K = zX d 141 0 [zI i0] [] A (zK (d + 1) 206 48 51 ls [w0] K) := zx_callS z206 zo206 dX4_isMatch_48 rfl C10_125 rfl rfl zm141 rfl rfl (zwt_le (Nat.le_of_ble_eq_true rfl)) rfl
theorem s206_51 : zX d 206 51 [v0, v1, v2, v3, v4, zI x, v6, v7, v8] st A K = zX d 206 53 [v0, v1, v2, v3, v4, zI x, v6, v7, v8] (zI x :: st) A K := zx_iload z206 dX4_isMatch_51 rfl rfl
theorem s206_53 : zX d 206 53 ls (zI y :: zI x :: st) A K = zX d 206 54 ls (zI (zw (x + y)) :: st) A K := zx_iadd z206 dX4_isMatch_53 rfl
theorem s206_54 (h : tg A a = 20) (h0 : 0 ≤ x) (h1 : x.toNat < (ia A a).length) : zX d 206 54 ls (zI x :: zO (some a) :: st) A K = zX d 206 55 ls (zI ((ia A a).getD x.toNat 0) :: st) A K := zx_iald z206 dX4_isMatch_54 rfl h h0 h1
theorem s206_54s (h : tg A a = 30) (h0 : 0 ≤ x) (h1 : x.toNat < (ia A a).length) : zX d 206 54 ls (zI x :: zO (some a) :: st) A K = zX d 206 55 ls (zI ((ia A a).getD x.toNat 0) :: st) A K := zx_sald z206 dX4_isMatch_54 rfl h h0 h1
theorem s206_55 : zX d 206 55 [v0, v1, v2, v3, v4, v5, v6, v7, v8] (zI x :: st) A K = zX d 206 57 [v0, v1, v2, v3, v4, v5, zI x, v7, v8] st A K := zx_istore z206 dX4_isMatch_55 (Nat.le_of_ble_eq_true rfl) rfl rfl
theorem s206_57 : zX d 206 57 [v0, v1, v2, v3, v4, v5, zI x, v7, v8] st A K = zX d 206 59 [v0, v1, v2, v3, v4, v5, zI x, v7, v8] (zI x :: st) A K := zx_iload z206 dX4_isMatch_57 rfl rfl
theorem s206_59 : zX (d + 1) 206 59 ls (zI i0 :: []) A K = zX d 135 0 [zI i0] [] A (zK (d + 1) 206 59 62 ls [] K) := zx_callS z206 zo206 dX4_isMatch_59 rfl C10_128 rfl rfl zm135 rfl rfl (zwt_le (Nat.le_of_ble_eq_true rfl)) rfl
theorem s206_62 : zX d 206 62 ls (zI x :: st) A K = (if x ≠ 0 then zX d 206 82 ls st A K else zX d 206 65 ls st A K) := zx_if_ne z206 dX4_isMatch_62 rfl rfl
theorem s206_65 : zX d 206 65 [v0, v1, zO o, v3, v4, v5, v6, v7, v8] st A K = zX d 206 66 [v0, v1, zO o, v3, v4, v5, v6, v7, v8] (zO o :: st) A K := zx_aload_n z206 dX4_isMatch_65 rfl rfl
theorem s206_66 : zX d 206 66 [v0, v1, v2, v3, zI x, v5, v6, v7, v8] st A K = zX d 206 68 [v0, v1, v2, v3, zI x, v5, v6, v7, v8] (zI x :: st) A K := zx_iload z206 dX4_isMatch_66 rfl rfl
theorem s206_68 (h : tg A a = 20) (h0 : 0 ≤ x) (h1 : x.toNat < (ia A a).length) : zX d 206 68 ls (zI x :: zO (some a) :: st) A K = zX d 206 69 ls (zI ((ia A a).getD x.toNat 0) :: st) A K := zx_iald z206 dX4_isMatch_68 rfl h h0 h1
theorem s206_68s (h : tg A a = 30) (h0 : 0 ≤ x) (h1 : x.toNat < (ia A a).length) : zX d 206 68 ls (zI x :: zO (some a) :: st) A K = zX d 206 69 ls (zI ((ia A a).getD x.toNat 0) :: st) A K := zx_sald z206 dX4_isMatch_68 rfl h h0 h1
theorem s206_69 : zX d 206 69 [v0, v1, v2, v3, v4, v5, zI x, v7, v8] st A K = zX d 206 71 [v0, v1, v2, v3, v4, v5, zI x, v7, v8] (zI x :: st) A K := zx_iload z206 dX4_isMatch_69 rfl rfl
theorem s206_71 : zX d 206 71 ls (zI y :: zI x :: st) A K = (if x = y then zX d 206 76 ls st A K else zX d 206 74 ls st A K) := zx_ic_eq z206 dX4_isMatch_71 rfl rfl
theorem s206_74 : zX d 206 74 ls st A K = zX d 206 75 ls (zI 0 :: st) A K := zx_const z206 dX4_isMatch_74 (by decide) rfl
theorem s206_75 (h : x = 0 ∨ x = 1) : zX d 206 75 ls [zI x] A K = K (Sum.inl (some (zI x))) A := zx_iret z206 dX4_isMatch_75 zk206 (by rcases h with q | q <;> subst q <;> rfl)
theorem s206_76 : zX d 206 76 [v0, v1, v2, v3, zI x, v5, v6, v7, v8] st A K = zX d 206 79 [v0, v1, v2, v3, zI (zw (x + 1)), v5, v6, v7, v8] st A K := zx_iinc z206 dX4_isMatch_76 rfl rfl rfl
theorem s206_79 : zX d 206 79 ls st A K = zX d 206 175 ls st A K := zx_goto z206 dX4_isMatch_79 rfl
theorem s206_82 : zX d 206 82 [v0, v1, v2, v3, v4, v5, zI x, v7, v8] st A K = zX d 206 84 [v0, v1, v2, v3, v4, v5, zI x, v7, v8] (zI x :: st) A K := zx_iload z206 dX4_isMatch_82 rfl rfl
theorem s206_84 : zX (d + 1) 206 84 ls (zI i0 :: []) A K = zX d 207 0 [zI i0] [] A (zK (d + 1) 206 84 87 ls [] K) := zx_callS z206 zo206 dX4_isMatch_84 rfl C10_131 rfl rfl zm207 rfl rfl (zwt_le (Nat.le_of_ble_eq_true rfl)) rfl
theorem s206_87 : zX d 206 87 [v0, v1, v2, v3, v4, v5, v6, v7, v8] (zI x :: st) A K = zX d 206 89 [v0, v1, v2, v3, v4, v5, v6, zI x, v8] st A K := zx_istore z206 dX4_isMatch_87 (Nat.le_of_ble_eq_true rfl) rfl rfl
theorem s206_89 : zX d 206 89 [zO o, v1, v2, v3, v4, v5, v6, v7, v8] st A K = zX d 206 90 [zO o, v1, v2, v3, v4, v5, v6, v7, v8] (zO o :: st) A K := zx_aload_n z206 dX4_isMatch_89 rfl rfl
theorem s206_90 : zX d 206 90 [v0, v1, zO o, v3, v4, v5, v6, v7, v8] st A K = zX d 206 91 [v0, v1, zO o, v3, v4, v5, v6, v7, v8] (zO o :: st) A K := zx_aload_n z206 dX4_isMatch_90 rfl rfl
theorem s206_91 : zX d 206 91 [v0, v1, v2, v3, zI x, v5, v6, v7, v8] st A K = zX d 206 93 [v0, v1, v2, v3, zI x, v5, v6, v7, v8] (zI x :: st) A K := zx_iload z206 dX4_isMatch_91 rfl rfl
theorem s206_93 (h : tg A a = 9)  : zX (d + 1) 206 93 ls (zI i1 :: zO o0 :: zO (some a) :: []) A K = zX d 163 0 [zO (some a), zO o0, zI i1, zU, zU] [] A (zK (d + 1) 206 93 96 ls [] K) := zx_callV (t := 9) z206 zo206 dX4_isMatch_93 rfl C10_117 rfl rfl zm163 rfl rfl (zwt_le (Nat.le_of_ble_eq_true rfl)) rfl h
theorem s206_96 : zX d 206 96 [v0, v1, v2, v3, v4, v5, v6, v7, v8] (zI x :: st) A K = zX d 206 98 [v0, v1, v2, v3, v4, v5, v6, v7, zI x] st A K := zx_istore z206 dX4_isMatch_96 (Nat.le_of_ble_eq_true rfl) rfl rfl
theorem s206_98 : zX d 206 98 [zO o, v1, v2, v3, v4, v5, v6, v7, v8] st A K = zX d 206 99 [zO o, v1, v2, v3, v4, v5, v6, v7, v8] (zO o :: st) A K := zx_aload_n z206 dX4_isMatch_98 rfl rfl
theorem s206_99 (h : tg A a = 9) : zX d 206 99 ls (zO (some a) :: st) A K = zX d 206 102 ls (fd A a 10 :: st) A K := zx_getf z206 zo206 dX4_isMatch_99 F10_31 rfl h
theorem s206_102 : zX d 206 102 [v0, v1, v2, v3, v4, v5, v6, zI x, v8] st A K = zX d 206 104 [v0, v1, v2, v3, v4, v5, v6, zI x, v8] (zI x :: st) A K := zx_iload z206 dX4_isMatch_102 rfl rfl
theorem s206_104 (h : tg A a = 20) (h0 : 0 ≤ x) (h1 : x.toNat < (ia A a).length) : zX d 206 104 ls (zI x :: zO (some a) :: st) A K = zX d 206 105 ls (zI ((ia A a).getD x.toNat 0) :: st) A K := zx_iald z206 dX4_isMatch_104 rfl h h0 h1
theorem s206_104s (h : tg A a = 30) (h0 : 0 ≤ x) (h1 : x.toNat < (ia A a).length) : zX d 206 104 ls (zI x :: zO (some a) :: st) A K = zX d 206 105 ls (zI ((ia A a).getD x.toNat 0) :: st) A K := zx_sald z206 dX4_isMatch_104 rfl h h0 h1
theorem s206_105 : zX d 206 105 ls (zI x :: st) A K = (if x ≠ 0 then zX d 206 132 ls st A K else zX d 206 108 ls st A K) := zx_if_ne z206 dX4_isMatch_105 rfl rfl
theorem s206_108 : zX d 206 108 [zO o, v1, v2, v3, v4, v5, v6, v7, v8] st A K = zX d 206 109 [zO o, v1, v2, v3, v4, v5, v6, v7, v8] (zO o :: st) A K := zx_aload_n z206 dX4_isMatch_108 rfl rfl
theorem s206_109 (h : tg A a = 9) : zX d 206 109 ls (zO (some a) :: st) A K = zX d 206 112 ls (fd A a 9 :: st) A K := zx_getf z206 zo206 dX4_isMatch_109 F10_28 rfl h
theorem s206_112 : zX d 206 112 [v0, v1, v2, v3, v4, v5, v6, zI x, v8] st A K = zX d 206 114 [v0, v1, v2, v3, v4, v5, v6, zI x, v8] (zI x :: st) A K := zx_iload z206 dX4_isMatch_112 rfl rfl
theorem s206_114 : zX d 206 114 [v0, v1, v2, v3, zI x, v5, v6, v7, v8] st A K = zX d 206 116 [v0, v1, v2, v3, zI x, v5, v6, v7, v8] (zI x :: st) A K := zx_iload z206 dX4_isMatch_114 rfl rfl
theorem s206_116 (h : tg A a = 20) (h0 : 0 ≤ x) (h1 : x.toNat < (ia A a).length) : zX d 206 116 ls (zI y :: zI x :: zO (some a) :: st) A K = zX d 206 117 ls st (pI A a ((ia A a).set x.toNat y)) K := zx_iast z206 dX4_isMatch_116 rfl h h0 h1
theorem s206_117 : zX d 206 117 [zO o, v1, v2, v3, v4, v5, v6, v7, v8] st A K = zX d 206 118 [zO o, v1, v2, v3, v4, v5, v6, v7, v8] (zO o :: st) A K := zx_aload_n z206 dX4_isMatch_117 rfl rfl
theorem s206_118 (h : tg A a = 9) : zX d 206 118 ls (zO (some a) :: st) A K = zX d 206 121 ls (fd A a 10 :: st) A K := zx_getf z206 zo206 dX4_isMatch_118 F10_31 rfl h
theorem s206_121 : zX d 206 121 [v0, v1, v2, v3, v4, v5, v6, zI x, v8] st A K = zX d 206 123 [v0, v1, v2, v3, v4, v5, v6, zI x, v8] (zI x :: st) A K := zx_iload z206 dX4_isMatch_121 rfl rfl
theorem s206_123 : zX d 206 123 [v0, v1, v2, v3, v4, v5, v6, v7, zI x] st A K = zX d 206 125 [v0, v1, v2, v3, v4, v5, v6, v7, zI x] (zI x :: st) A K := zx_iload z206 dX4_isMatch_123 rfl rfl
theorem s206_125 : zX d 206 125 [v0, v1, v2, v3, zI x, v5, v6, v7, v8] st A K = zX d 206 127 [v0, v1, v2, v3, zI x, v5, v6, v7, v8] (zI x :: st) A K := zx_iload z206 dX4_isMatch_125 rfl rfl
theorem s206_127 : zX d 206 127 ls (zI y :: zI x :: st) A K = zX d 206 128 ls (zI (zw (x - y)) :: st) A K := zx_isub z206 dX4_isMatch_127 rfl
theorem s206_128 (h : tg A a = 20) (h0 : 0 ≤ x) (h1 : x.toNat < (ia A a).length) : zX d 206 128 ls (zI y :: zI x :: zO (some a) :: st) A K = zX d 206 129 ls st (pI A a ((ia A a).set x.toNat y)) K := zx_iast z206 dX4_isMatch_128 rfl h h0 h1
theorem s206_129 : zX d 206 129 ls st A K = zX d 206 171 ls st A K := zx_goto z206 dX4_isMatch_129 rfl
theorem s206_132 : zX d 206 132 [zO o, v1, v2, v3, v4, v5, v6, v7, v8] st A K = zX d 206 133 [zO o, v1, v2, v3, v4, v5, v6, v7, v8] (zO o :: st) A K := zx_aload_n z206 dX4_isMatch_132 rfl rfl
theorem s206_133 (h : tg A a = 9) : zX d 206 133 ls (zO (some a) :: st) A K = zX d 206 136 ls (fd A a 10 :: st) A K := zx_getf z206 zo206 dX4_isMatch_133 F10_31 rfl h
theorem s206_136 : zX d 206 136 [v0, v1, v2, v3, v4, v5, v6, zI x, v8] st A K = zX d 206 138 [v0, v1, v2, v3, v4, v5, v6, zI x, v8] (zI x :: st) A K := zx_iload z206 dX4_isMatch_136 rfl rfl
theorem s206_138 (h : tg A a = 20) (h0 : 0 ≤ x) (h1 : x.toNat < (ia A a).length) : zX d 206 138 ls (zI x :: zO (some a) :: st) A K = zX d 206 139 ls (zI ((ia A a).getD x.toNat 0) :: st) A K := zx_iald z206 dX4_isMatch_138 rfl h h0 h1
theorem s206_138s (h : tg A a = 30) (h0 : 0 ≤ x) (h1 : x.toNat < (ia A a).length) : zX d 206 138 ls (zI x :: zO (some a) :: st) A K = zX d 206 139 ls (zI ((ia A a).getD x.toNat 0) :: st) A K := zx_sald z206 dX4_isMatch_138 rfl h h0 h1
theorem s206_139 : zX d 206 139 [v0, v1, v2, v3, v4, v5, v6, v7, zI x] st A K = zX d 206 141 [v0, v1, v2, v3, v4, v5, v6, v7, zI x] (zI x :: st) A K := zx_iload z206 dX4_isMatch_139 rfl rfl
theorem s206_141 : zX d 206 141 [v0, v1, v2, v3, zI x, v5, v6, v7, v8] st A K = zX d 206 143 [v0, v1, v2, v3, zI x, v5, v6, v7, v8] (zI x :: st) A K := zx_iload z206 dX4_isMatch_141 rfl rfl
theorem s206_143 : zX d 206 143 ls (zI y :: zI x :: st) A K = zX d 206 144 ls (zI (zw (x - y)) :: st) A K := zx_isub z206 dX4_isMatch_143 rfl
theorem s206_144 : zX d 206 144 ls (zI y :: zI x :: st) A K = (if x ≠ y then zX d 206 169 ls st A K else zX d 206 147 ls st A K) := zx_ic_ne z206 dX4_isMatch_144 rfl rfl
theorem s206_147 : zX d 206 147 [v0, v1, zO o, v3, v4, v5, v6, v7, v8] st A K = zX d 206 148 [v0, v1, zO o, v3, v4, v5, v6, v7, v8] (zO o :: st) A K := zx_aload_n z206 dX4_isMatch_147 rfl rfl
theorem s206_148 : zX d 206 148 [zO o, v1, v2, v3, v4, v5, v6, v7, v8] st A K = zX d 206 149 [zO o, v1, v2, v3, v4, v5, v6, v7, v8] (zO o :: st) A K := zx_aload_n z206 dX4_isMatch_148 rfl rfl
theorem s206_149 (h : tg A a = 9) : zX d 206 149 ls (zO (some a) :: st) A K = zX d 206 152 ls (fd A a 9 :: st) A K := zx_getf z206 zo206 dX4_isMatch_149 F10_28 rfl h
theorem s206_152 : zX d 206 152 [v0, v1, v2, v3, v4, v5, v6, zI x, v8] st A K = zX d 206 154 [v0, v1, v2, v3, v4, v5, v6, zI x, v8] (zI x :: st) A K := zx_iload z206 dX4_isMatch_152 rfl rfl
theorem s206_154 (h : tg A a = 20) (h0 : 0 ≤ x) (h1 : x.toNat < (ia A a).length) : zX d 206 154 ls (zI x :: zO (some a) :: st) A K = zX d 206 155 ls (zI ((ia A a).getD x.toNat 0) :: st) A K := zx_iald z206 dX4_isMatch_154 rfl h h0 h1
theorem s206_154s (h : tg A a = 30) (h0 : 0 ≤ x) (h1 : x.toNat < (ia A a).length) : zX d 206 154 ls (zI x :: zO (some a) :: st) A K = zX d 206 155 ls (zI ((ia A a).getD x.toNat 0) :: st) A K := zx_sald z206 dX4_isMatch_154 rfl h h0 h1
theorem s206_155 : zX d 206 155 [v0, v1, zO o, v3, v4, v5, v6, v7, v8] st A K = zX d 206 156 [v0, v1, zO o, v3, v4, v5, v6, v7, v8] (zO o :: st) A K := zx_aload_n z206 dX4_isMatch_155 rfl rfl
theorem s206_156 : zX d 206 156 [v0, v1, v2, v3, zI x, v5, v6, v7, v8] st A K = zX d 206 158 [v0, v1, v2, v3, zI x, v5, v6, v7, v8] (zI x :: st) A K := zx_iload z206 dX4_isMatch_156 rfl rfl
theorem s206_158 : zX d 206 158 [v0, v1, v2, v3, v4, v5, v6, v7, zI x] st A K = zX d 206 160 [v0, v1, v2, v3, v4, v5, v6, v7, zI x] (zI x :: st) A K := zx_iload z206 dX4_isMatch_158 rfl rfl
theorem s206_160 : zX d 206 160 [v0, v1, v2, v3, zI x, v5, v6, v7, v8] st A K = zX d 206 162 [v0, v1, v2, v3, zI x, v5, v6, v7, v8] (zI x :: st) A K := zx_iload z206 dX4_isMatch_160 rfl rfl
theorem s206_162 : zX d 206 162 ls (zI y :: zI x :: st) A K = zX d 206 163 ls (zI (zw (x - y)) :: st) A K := zx_isub z206 dX4_isMatch_162 rfl
theorem s206_163 : zX (d + 1) 206 163 ls (zI i4 :: zI i3 :: zO o2 :: zI i1 :: zO o0 :: []) A K = zX d 173 0 [zO o0, zI i1, zO o2, zI i3, zI i4, zU, zU] [] A (zK (d + 1) 206 163 166 ls [] K) := zx_callS z206 zo206 dX4_isMatch_163 rfl C10_134 rfl rfl zm173 rfl rfl (zwt_le (Nat.le_of_ble_eq_true rfl)) rfl
theorem s206_166 : zX d 206 166 ls (zI x :: st) A K = (if x ≠ 0 then zX d 206 171 ls st A K else zX d 206 169 ls st A K) := zx_if_ne z206 dX4_isMatch_166 rfl rfl
theorem s206_169 : zX d 206 169 ls st A K = zX d 206 170 ls (zI 0 :: st) A K := zx_const z206 dX4_isMatch_169 (by decide) rfl
theorem s206_170 (h : x = 0 ∨ x = 1) : zX d 206 170 ls [zI x] A K = K (Sum.inl (some (zI x))) A := zx_iret z206 dX4_isMatch_170 zk206 (by rcases h with q | q <;> subst q <;> rfl)
theorem s206_171 : zX d 206 171 [v0, v1, v2, v3, v4, v5, v6, v7, zI x] st A K = zX d 206 173 [v0, v1, v2, v3, v4, v5, v6, v7, zI x] (zI x :: st) A K := zx_iload z206 dX4_isMatch_171 rfl rfl
theorem s206_173 : zX d 206 173 [v0, v1, v2, v3, v4, v5, v6, v7, v8] (zI x :: st) A K = zX d 206 175 [v0, v1, v2, v3, zI x, v5, v6, v7, v8] st A K := zx_istore z206 dX4_isMatch_173 (Nat.le_of_ble_eq_true rfl) rfl rfl
theorem s206_175 : zX d 206 175 [v0, v1, v2, v3, v4, zI x, v6, v7, v8] st A K = zX d 206 178 [v0, v1, v2, v3, v4, zI (zw (x + 1)), v6, v7, v8] st A K := zx_iinc z206 dX4_isMatch_175 rfl rfl rfl
theorem s206_178 : zX d 206 178 ls st A K = zX d 206 29 ls st A K := zx_goto z206 dX4_isMatch_178 rfl
theorem s206_181 : zX d 206 181 ls st A K = zX d 206 182 ls (zI 1 :: st) A K := zx_const z206 dX4_isMatch_181 (by decide) rfl
theorem s206_182 (h : x = 0 ∨ x = 1) : zX d 206 182 ls [zI x] A K = K (Sum.inl (some (zI x))) A := zx_iret z206 dX4_isMatch_182 zk206 (by rcases h with q | q <;> subst q <;> rfl)
theorem s207_0 : zX d 207 0 [zI x] st A K = zX d 207 1 [zI x] (zI x :: st) A K := zx_iload_n z207 dX4_variable_0 rfl rfl
theorem s207_1 : zX d 207 1 ls st A K = zX d 207 3 ls (zI (120) :: st) A K := zx_bipush z207 dX4_variable_1 (by decide) rfl
theorem s207_3 : zX d 207 3 ls (zI y :: zI x :: st) A K = (if x ≠ y then zX d 207 10 ls st A K else zX d 207 6 ls st A K) := zx_ic_ne z207 dX4_variable_3 rfl rfl
theorem s207_6 : zX d 207 6 ls st A K = zX d 207 7 ls (zI 0 :: st) A K := zx_const z207 dX4_variable_6 (by decide) rfl
theorem s207_7 : zX d 207 7 ls st A K = zX d 207 21 ls st A K := zx_goto z207 dX4_variable_7 rfl
theorem s207_10 : zX d 207 10 [zI x] st A K = zX d 207 11 [zI x] (zI x :: st) A K := zx_iload_n z207 dX4_variable_10 rfl rfl
theorem s207_11 : zX d 207 11 ls st A K = zX d 207 13 ls (zI (121) :: st) A K := zx_bipush z207 dX4_variable_11 (by decide) rfl
theorem s207_13 : zX d 207 13 ls (zI y :: zI x :: st) A K = (if x ≠ y then zX d 207 20 ls st A K else zX d 207 16 ls st A K) := zx_ic_ne z207 dX4_variable_13 rfl rfl
theorem s207_16 : zX d 207 16 ls st A K = zX d 207 17 ls (zI 1 :: st) A K := zx_const z207 dX4_variable_16 (by decide) rfl
theorem s207_17 : zX d 207 17 ls st A K = zX d 207 21 ls st A K := zx_goto z207 dX4_variable_17 rfl
theorem s207_20 : zX d 207 20 ls st A K = zX d 207 21 ls (zI 2 :: st) A K := zx_const z207 dX4_variable_20 (by decide) rfl
theorem s207_21 : zX d 207 21 ls [zI x] A K = K (Sum.inl (some (zI x))) A := zx_iret z207 dX4_variable_21 zk207 rfl
theorem s208_0 : zX d 208 0 [v0, zI x] st A K = zX d 208 1 [v0, zI x] (zI x :: st) A K := zx_iload_n z208 dX4_redexCount_0 rfl rfl
theorem s208_1 : zX (d + 1) 208 1 ls (zI i0 :: []) A K = zX d 192 0 [zI i0] [] A (zK (d + 1) 208 1 4 ls [] K) := zx_callS z208 zo208 dX4_redexCount_1 rfl C10_274 rfl rfl zm192 rfl rfl (zwt_le (Nat.le_of_ble_eq_true rfl)) rfl
theorem s208_4 : zX d 208 4 ls (zI x :: st) A K = (if x = 0 then zX d 208 23 ls st A K else zX d 208 7 ls st A K) := zx_if_eq z208 dX4_redexCount_4 rfl rfl
theorem s208_7 : zX d 208 7 [zO o, v1] st A K = zX d 208 8 [zO o, v1] (zO o :: st) A K := zx_aload_n z208 dX4_redexCount_7 rfl rfl
theorem s208_8 : zX d 208 8 [zO o, v1] st A K = zX d 208 9 [zO o, v1] (zO o :: st) A K := zx_aload_n z208 dX4_redexCount_8 rfl rfl
theorem s208_9 (h : tg A a = 9) : zX d 208 9 ls (zO (some a) :: st) A K = zX d 208 12 ls (fd A a 4 :: st) A K := zx_getf z208 zo208 dX4_redexCount_9 F10_22 rfl h
theorem s208_12 : zX d 208 12 ls st A K = zX d 208 14 ls (zI (96) :: st) A K := zx_bipush z208 dX4_redexCount_12 (by decide) rfl
theorem s208_14 : zX d 208 14 [v0, zI x] st A K = zX d 208 15 [v0, zI x] (zI x :: st) A K := zx_iload_n z208 dX4_redexCount_14 rfl rfl
theorem s208_15 : zX d 208 15 ls (zI y :: zI x :: st) A K = zX d 208 16 ls (zI (zw (x * y)) :: st) A K := zx_imul z208 dX4_redexCount_15 rfl
theorem s208_16 : zX d 208 16 ls st A K = zX d 208 17 ls (zI (-1) :: st) A K := zx_const z208 dX4_redexCount_16 (by decide) rfl
theorem s208_17 (h : tg A a = 9)  : zX (d + 1) 208 17 ls (zI i2 :: zI i1 :: zO o0 :: zO (some a) :: []) A K = zX d 209 0 [zO (some a), zO o0, zI i1, zI i2, zU, zU] [] A (zK (d + 1) 208 17 20 ls [] K) := zx_callV (t := 9) z208 zo208 dX4_redexCount_17 rfl C10_298 rfl rfl zm209 rfl rfl (zwt_le (Nat.le_of_ble_eq_true rfl)) rfl h
theorem s208_20 : zX d 208 20 ls st A K = zX d 208 24 ls st A K := zx_goto z208 dX4_redexCount_20 rfl
theorem s208_23 : zX d 208 23 ls st A K = zX d 208 24 ls (zI (-1) :: st) A K := zx_const z208 dX4_redexCount_23 (by decide) rfl
theorem s208_24 : zX d 208 24 ls [zI x] A K = K (Sum.inl (some (zI x))) A := zx_iret z208 dX4_redexCount_24 zk208 rfl
theorem s209_0 : zX d 209 0 ls st A K = zX d 209 1 ls (zI 0 :: st) A K := zx_const z209 dX4_redex_0 (by decide) rfl
theorem s209_1 : zX d 209 1 [v0, v1, v2, v3, v4, v5] (zI x :: st) A K = zX d 209 3 [v0, v1, v2, v3, zI x, v5] st A K := zx_istore z209 dX4_redex_1 (Nat.le_of_ble_eq_true rfl) rfl rfl
theorem s209_3 : zX d 209 3 ls st A K = zX d 209 4 ls (zI 0 :: st) A K := zx_const z209 dX4_redex_3 (by decide) rfl
theorem s209_4 : zX d 209 4 [v0, v1, v2, v3, v4, v5] (zI x :: st) A K = zX d 209 6 [v0, v1, v2, v3, v4, zI x] st A K := zx_istore z209 dX4_redex_4 (Nat.le_of_ble_eq_true rfl) rfl rfl
theorem s209_6 : zX d 209 6 [v0, v1, v2, v3, v4, zI x] st A K = zX d 209 8 [v0, v1, v2, v3, v4, zI x] (zI x :: st) A K := zx_iload z209 dX4_redex_6 rfl rfl
theorem s209_8 : zX d 209 8 [v0, zO o, v2, v3, v4, v5] st A K = zX d 209 9 [v0, zO o, v2, v3, v4, v5] (zO o :: st) A K := zx_aload_n z209 dX4_redex_8 rfl rfl
theorem s209_9 : zX d 209 9 [v0, v1, zI x, v3, v4, v5] st A K = zX d 209 10 [v0, v1, zI x, v3, v4, v5] (zI x :: st) A K := zx_iload_n z209 dX4_redex_9 rfl rfl
theorem s209_10 (h : tg A a = 20) (h0 : 0 ≤ x) (h1 : x.toNat < (ia A a).length) : zX d 209 10 ls (zI x :: zO (some a) :: st) A K = zX d 209 11 ls (zI ((ia A a).getD x.toNat 0) :: st) A K := zx_iald z209 dX4_redex_10 rfl h h0 h1
theorem s209_10s (h : tg A a = 30) (h0 : 0 ≤ x) (h1 : x.toNat < (ia A a).length) : zX d 209 10 ls (zI x :: zO (some a) :: st) A K = zX d 209 11 ls (zI ((ia A a).getD x.toNat 0) :: st) A K := zx_sald z209 dX4_redex_10 rfl h h0 h1
theorem s209_11 : zX d 209 11 ls (zI y :: zI x :: st) A K = (if y ≤ x then zX d 209 46 ls st A K else zX d 209 14 ls st A K) := zx_ic_ge z209 dX4_redex_11 rfl rfl
theorem s209_14 : zX d 209 14 [zO o, v1, v2, v3, v4, v5] st A K = zX d 209 15 [zO o, v1, v2, v3, v4, v5] (zO o :: st) A K := zx_aload_n z209 dX4_redex_14 rfl rfl
theorem s209_15 : zX d 209 15 [v0, zO o, v2, v3, v4, v5] st A K = zX d 209 16 [v0, zO o, v2, v3, v4, v5] (zO o :: st) A K := zx_aload_n z209 dX4_redex_15 rfl rfl
theorem s209_16 : zX d 209 16 [v0, v1, zI x, v3, v4, v5] st A K = zX d 209 17 [v0, v1, zI x, v3, v4, v5] (zI x :: st) A K := zx_iload_n z209 dX4_redex_16 rfl rfl
theorem s209_17 : zX d 209 17 ls st A K = zX d 209 18 ls (zI 1 :: st) A K := zx_const z209 dX4_redex_17 (by decide) rfl
theorem s209_18 : zX d 209 18 ls (zI y :: zI x :: st) A K = zX d 209 19 ls (zI (zw (x + y)) :: st) A K := zx_iadd z209 dX4_redex_18 rfl
theorem s209_19 : zX d 209 19 [v0, v1, v2, v3, v4, zI x] st A K = zX d 209 21 [v0, v1, v2, v3, v4, zI x] (zI x :: st) A K := zx_iload z209 dX4_redex_19 rfl rfl
theorem s209_21 : zX d 209 21 ls (zI y :: zI x :: st) A K = zX d 209 22 ls (zI (zw (x + y)) :: st) A K := zx_iadd z209 dX4_redex_21 rfl
theorem s209_22 (h : tg A a = 9)  : zX (d + 1) 209 22 ls (zI i1 :: zO o0 :: zO (some a) :: []) A K = zX d 210 0 [zO (some a), zO o0, zI i1, zU] [] A (zK (d + 1) 209 22 25 ls [] K) := zx_callV (t := 9) z209 zo209 dX4_redex_22 rfl C10_142 rfl rfl zm210 rfl rfl (zwt_le (Nat.le_of_ble_eq_true rfl)) rfl h
theorem s209_25 : zX d 209 25 ls (zI x :: st) A K = (if x < 0 then zX d 209 40 ls st A K else zX d 209 28 ls st A K) := zx_if_lt z209 dX4_redex_25 rfl rfl
theorem s209_28 : zX d 209 28 [v0, v1, v2, v3, zI x, v5] st A K = zX d 209 30 [v0, v1, v2, v3, zI x, v5] (zI x :: st) A K := zx_iload z209 dX4_redex_28 rfl rfl
theorem s209_30 : zX d 209 30 [v0, v1, v2, zI x, v4, v5] st A K = zX d 209 31 [v0, v1, v2, zI x, v4, v5] (zI x :: st) A K := zx_iload_n z209 dX4_redex_30 rfl rfl
theorem s209_31 : zX d 209 31 ls (zI y :: zI x :: st) A K = (if x ≠ y then zX d 209 37 ls st A K else zX d 209 34 ls st A K) := zx_ic_ne z209 dX4_redex_31 rfl rfl
theorem s209_34 : zX d 209 34 [v0, v1, v2, v3, v4, zI x] st A K = zX d 209 36 [v0, v1, v2, v3, v4, zI x] (zI x :: st) A K := zx_iload z209 dX4_redex_34 rfl rfl
theorem s209_36 : zX d 209 36 ls [zI x] A K = K (Sum.inl (some (zI x))) A := zx_iret z209 dX4_redex_36 zk209 rfl
theorem s209_37 : zX d 209 37 [v0, v1, v2, v3, zI x, v5] st A K = zX d 209 40 [v0, v1, v2, v3, zI (zw (x + 1)), v5] st A K := zx_iinc z209 dX4_redex_37 rfl rfl rfl
theorem s209_40 : zX d 209 40 [v0, v1, v2, v3, v4, zI x] st A K = zX d 209 43 [v0, v1, v2, v3, v4, zI (zw (x + 1))] st A K := zx_iinc z209 dX4_redex_40 rfl rfl rfl
theorem s209_43 : zX d 209 43 ls st A K = zX d 209 6 ls st A K := zx_goto z209 dX4_redex_43 rfl
theorem s209_46 : zX d 209 46 [v0, v1, v2, zI x, v4, v5] st A K = zX d 209 47 [v0, v1, v2, zI x, v4, v5] (zI x :: st) A K := zx_iload_n z209 dX4_redex_46 rfl rfl
theorem s209_47 : zX d 209 47 ls (zI x :: st) A K = (if 0 ≤ x then zX d 209 55 ls st A K else zX d 209 50 ls st A K) := zx_if_ge z209 dX4_redex_47 rfl rfl
theorem s209_50 : zX d 209 50 [v0, v1, v2, v3, zI x, v5] st A K = zX d 209 52 [v0, v1, v2, v3, zI x, v5] (zI x :: st) A K := zx_iload z209 dX4_redex_50 rfl rfl
theorem s209_52 : zX d 209 52 ls st A K = zX d 209 57 ls st A K := zx_goto z209 dX4_redex_52 rfl
theorem s209_55 : zX d 209 55 ls st A K = zX d 209 57 ls (zI (-5) :: st) A K := zx_bipush z209 dX4_redex_55 (by decide) rfl
theorem s209_57 : zX d 209 57 ls [zI x] A K = K (Sum.inl (some (zI x))) A := zx_iret z209 dX4_redex_57 zk209 rfl
theorem s210_0 : zX d 210 0 ls st A K = zX d 210 1 ls (zI 0 :: st) A K := zx_const z210 dX4_matching_0 (by decide) rfl
theorem s210_1 : zX d 210 1 [v0, v1, v2, v3] (zI x :: st) A K = zX d 210 2 [v0, v1, v2, zI x] st A K := zx_istore_n z210 dX4_matching_1 (Nat.le_of_ble_eq_true rfl) rfl rfl
theorem s210_2 : zX d 210 2 [v0, v1, v2, zI x] st A K = zX d 210 3 [v0, v1, v2, zI x] (zI x :: st) A K := zx_iload_n z210 dX4_matching_2 rfl rfl
theorem s210_3 : zX d 210 3 [zO o, v1, v2, v3] st A K = zX d 210 4 [zO o, v1, v2, v3] (zO o :: st) A K := zx_aload_n z210 dX4_matching_3 rfl rfl
theorem s210_4 (h : tg A a = 9) : zX d 210 4 ls (zO (some a) :: st) A K = zX d 210 7 ls (fd A a 6 :: st) A K := zx_getf z210 zo210 dX4_matching_4 F10_121 rfl h
theorem s210_7 : zX d 210 7 ls (zI y :: zI x :: st) A K = (if y ≤ x then zX d 210 28 ls st A K else zX d 210 10 ls st A K) := zx_ic_ge z210 dX4_matching_7 rfl rfl
theorem s210_10 : zX d 210 10 [zO o, v1, v2, v3] st A K = zX d 210 11 [zO o, v1, v2, v3] (zO o :: st) A K := zx_aload_n z210 dX4_matching_10 rfl rfl
theorem s210_11 : zX d 210 11 [v0, v1, v2, zI x] st A K = zX d 210 12 [v0, v1, v2, zI x] (zI x :: st) A K := zx_iload_n z210 dX4_matching_11 rfl rfl
theorem s210_12 : zX d 210 12 [v0, zO o, v2, v3] st A K = zX d 210 13 [v0, zO o, v2, v3] (zO o :: st) A K := zx_aload_n z210 dX4_matching_12 rfl rfl
theorem s210_13 : zX d 210 13 [v0, v1, zI x, v3] st A K = zX d 210 14 [v0, v1, zI x, v3] (zI x :: st) A K := zx_iload_n z210 dX4_matching_13 rfl rfl
theorem s210_14 (h : tg A a = 9)  : zX (d + 1) 210 14 ls (zI i2 :: zO o1 :: zI i0 :: zO (some a) :: []) A K = zX d 206 0 [zO (some a), zI i0, zO o1, zI i2, zU, zU, zU, zU, zU] [] A (zK (d + 1) 210 14 17 ls [] K) := zx_callV (t := 9) z210 zo210 dX4_matching_14 rfl C10_138 rfl rfl zm206 rfl rfl (zwt_le (Nat.le_of_ble_eq_true rfl)) rfl h
theorem s210_17 : zX d 210 17 ls (zI x :: st) A K = (if x = 0 then zX d 210 22 ls st A K else zX d 210 20 ls st A K) := zx_if_eq z210 dX4_matching_17 rfl rfl
theorem s210_20 : zX d 210 20 [v0, v1, v2, zI x] st A K = zX d 210 21 [v0, v1, v2, zI x] (zI x :: st) A K := zx_iload_n z210 dX4_matching_20 rfl rfl
theorem s210_21 : zX d 210 21 ls [zI x] A K = K (Sum.inl (some (zI x))) A := zx_iret z210 dX4_matching_21 zk210 rfl
theorem s210_22 : zX d 210 22 [v0, v1, v2, zI x] st A K = zX d 210 25 [v0, v1, v2, zI (zw (x + 1))] st A K := zx_iinc z210 dX4_matching_22 rfl rfl rfl
theorem s210_25 : zX d 210 25 ls st A K = zX d 210 2 ls st A K := zx_goto z210 dX4_matching_25 rfl
theorem s210_28 : zX d 210 28 ls st A K = zX d 210 30 ls (zI (-5) :: st) A K := zx_bipush z210 dX4_matching_28 (by decide) rfl
theorem s210_30 : zX d 210 30 ls [zI x] A K = K (Sum.inl (some (zI x))) A := zx_iret z210 dX4_matching_30 zk210 rfl
theorem s211_0 : zX d 211 0 [v0, zI x, v2] st A K = zX d 211 1 [v0, zI x, v2] (zI x :: st) A K := zx_iload_n z211 dX4_redexAt_0 rfl rfl
theorem s211_1 : zX (d + 1) 211 1 ls (zI i0 :: []) A K = zX d 192 0 [zI i0] [] A (zK (d + 1) 211 1 4 ls [] K) := zx_callS z211 zo211 dX4_redexAt_1 rfl C10_274 rfl rfl zm192 rfl rfl (zwt_le (Nat.le_of_ble_eq_true rfl)) rfl
theorem s211_4 : zX d 211 4 ls (zI x :: st) A K = (if x = 0 then zX d 211 27 ls st A K else zX d 211 7 ls st A K) := zx_if_eq z211 dX4_redexAt_4 rfl rfl
theorem s211_7 : zX d 211 7 [v0, v1, zI x] st A K = zX d 211 8 [v0, v1, zI x] (zI x :: st) A K := zx_iload_n z211 dX4_redexAt_7 rfl rfl
theorem s211_8 : zX d 211 8 ls (zI x :: st) A K = (if x < 0 then zX d 211 27 ls st A K else zX d 211 11 ls st A K) := zx_if_lt z211 dX4_redexAt_8 rfl rfl
theorem s211_11 : zX d 211 11 [zO o, v1, v2] st A K = zX d 211 12 [zO o, v1, v2] (zO o :: st) A K := zx_aload_n z211 dX4_redexAt_11 rfl rfl
theorem s211_12 : zX d 211 12 [zO o, v1, v2] st A K = zX d 211 13 [zO o, v1, v2] (zO o :: st) A K := zx_aload_n z211 dX4_redexAt_12 rfl rfl
theorem s211_13 (h : tg A a = 9) : zX d 211 13 ls (zO (some a) :: st) A K = zX d 211 16 ls (fd A a 4 :: st) A K := zx_getf z211 zo211 dX4_redexAt_13 F10_22 rfl h
theorem s211_16 : zX d 211 16 ls st A K = zX d 211 18 ls (zI (96) :: st) A K := zx_bipush z211 dX4_redexAt_16 (by decide) rfl
theorem s211_18 : zX d 211 18 [v0, zI x, v2] st A K = zX d 211 19 [v0, zI x, v2] (zI x :: st) A K := zx_iload_n z211 dX4_redexAt_18 rfl rfl
theorem s211_19 : zX d 211 19 ls (zI y :: zI x :: st) A K = zX d 211 20 ls (zI (zw (x * y)) :: st) A K := zx_imul z211 dX4_redexAt_19 rfl
theorem s211_20 : zX d 211 20 [v0, v1, zI x] st A K = zX d 211 21 [v0, v1, zI x] (zI x :: st) A K := zx_iload_n z211 dX4_redexAt_20 rfl rfl
theorem s211_21 (h : tg A a = 9)  : zX (d + 1) 211 21 ls (zI i2 :: zI i1 :: zO o0 :: zO (some a) :: []) A K = zX d 209 0 [zO (some a), zO o0, zI i1, zI i2, zU, zU] [] A (zK (d + 1) 211 21 24 ls [] K) := zx_callV (t := 9) z211 zo211 dX4_redexAt_21 rfl C10_298 rfl rfl zm209 rfl rfl (zwt_le (Nat.le_of_ble_eq_true rfl)) rfl h
theorem s211_24 : zX d 211 24 ls st A K = zX d 211 28 ls st A K := zx_goto z211 dX4_redexAt_24 rfl
theorem s211_27 : zX d 211 27 ls st A K = zX d 211 28 ls (zI (-1) :: st) A K := zx_const z211 dX4_redexAt_27 (by decide) rfl
theorem s211_28 : zX d 211 28 ls [zI x] A K = K (Sum.inl (some (zI x))) A := zx_iret z211 dX4_redexAt_28 zk211 rfl
theorem s212_0 : zX d 212 0 [zO o, v1, v2, v3] st A K = zX d 212 1 [zO o, v1, v2, v3] (zO o :: st) A K := zx_aload_n z212 dX4_rewriteAt_0 rfl rfl
theorem s212_1 : zX d 212 1 [v0, zI x, v2, v3] st A K = zX d 212 2 [v0, zI x, v2, v3] (zI x :: st) A K := zx_iload_n z212 dX4_rewriteAt_1 rfl rfl
theorem s212_2 : zX d 212 2 [v0, v1, zI x, v3] st A K = zX d 212 3 [v0, v1, zI x, v3] (zI x :: st) A K := zx_iload_n z212 dX4_rewriteAt_2 rfl rfl
theorem s212_3 (h : tg A a = 9)  : zX (d + 1) 212 3 ls (zI i1 :: zI i0 :: zO (some a) :: []) A K = zX d 205 0 [zO (some a), zI i0, zI i1] [] A (zK (d + 1) 212 3 6 ls [] K) := zx_callV (t := 9) z212 zo212 dX4_rewriteAt_3 rfl C10_295 rfl rfl zm205 rfl rfl (zwt_le (Nat.le_of_ble_eq_true rfl)) rfl h
theorem s212_6 : zX d 212 6 ls (zI x :: st) A K = (if x ≠ 0 then zX d 212 11 ls st A K else zX d 212 9 ls st A K) := zx_if_ne z212 dX4_rewriteAt_6 rfl rfl
theorem s212_9 : zX d 212 9 ls st A K = zX d 212 10 ls (zI (-1) :: st) A K := zx_const z212 dX4_rewriteAt_9 (by decide) rfl
theorem s212_10 : zX d 212 10 ls [zI x] A K = K (Sum.inl (some (zI x))) A := zx_iret z212 dX4_rewriteAt_10 zk212 rfl
theorem s212_11 : zX d 212 11 [zO o, v1, v2, v3] st A K = zX d 212 12 [zO o, v1, v2, v3] (zO o :: st) A K := zx_aload_n z212 dX4_rewriteAt_11 rfl rfl
theorem s212_12 : zX d 212 12 [zO o, v1, v2, v3] st A K = zX d 212 13 [zO o, v1, v2, v3] (zO o :: st) A K := zx_aload_n z212 dX4_rewriteAt_12 rfl rfl
theorem s212_13 (h : tg A a = 9) : zX d 212 13 ls (zO (some a) :: st) A K = zX d 212 16 ls (fd A a 4 :: st) A K := zx_getf z212 zo212 dX4_rewriteAt_13 F10_22 rfl h
theorem s212_16 : zX d 212 16 ls st A K = zX d 212 18 ls (zI (96) :: st) A K := zx_bipush z212 dX4_rewriteAt_16 (by decide) rfl
theorem s212_18 : zX d 212 18 [v0, zI x, v2, v3] st A K = zX d 212 19 [v0, zI x, v2, v3] (zI x :: st) A K := zx_iload_n z212 dX4_rewriteAt_18 rfl rfl
theorem s212_19 : zX d 212 19 ls (zI y :: zI x :: st) A K = zX d 212 20 ls (zI (zw (x * y)) :: st) A K := zx_imul z212 dX4_rewriteAt_19 rfl
theorem s212_20 : zX d 212 20 [v0, v1, zI x, v3] st A K = zX d 212 21 [v0, v1, zI x, v3] (zI x :: st) A K := zx_iload_n z212 dX4_rewriteAt_20 rfl rfl
theorem s212_21 (h : tg A a = 9)  : zX (d + 1) 212 21 ls (zI i2 :: zI i1 :: zO o0 :: zO (some a) :: []) A K = zX d 213 0 [zO (some a), zO o0, zI i1, zI i2, zU, zU, zU, zU, zU, zU, zU, zU, zU, zU] [] A (zK (d + 1) 212 21 24 ls [] K) := zx_callV (t := 9) z212 zo212 dX4_rewriteAt_21 rfl C10_301 rfl rfl zm213 rfl rfl (zwt_le (Nat.le_of_ble_eq_true rfl)) rfl h
theorem s212_24 : zX d 212 24 [v0, v1, v2, v3] (zI x :: st) A K = zX d 212 25 [v0, v1, v2, zI x] st A K := zx_istore_n z212 dX4_rewriteAt_24 (Nat.le_of_ble_eq_true rfl) rfl rfl
theorem s212_25 : zX d 212 25 [v0, v1, v2, zI x] st A K = zX d 212 26 [v0, v1, v2, zI x] (zI x :: st) A K := zx_iload_n z212 dX4_rewriteAt_25 rfl rfl
theorem s212_26 : zX d 212 26 ls (zI x :: st) A K = (if x ≤ 0 then zX d 212 47 ls st A K else zX d 212 29 ls st A K) := zx_if_le z212 dX4_rewriteAt_26 rfl rfl
theorem s212_29 : zX d 212 29 [zO o, v1, v2, v3] st A K = zX d 212 30 [zO o, v1, v2, v3] (zO o :: st) A K := zx_aload_n z212 dX4_rewriteAt_29 rfl rfl
theorem s212_30 (h : tg A a = 9) : zX d 212 30 ls (zO (some a) :: st) A K = zX d 212 33 ls (fd A a 11 :: st) A K := zx_getf z212 zo212 dX4_rewriteAt_30 F10_34 rfl h
theorem s212_33 : zX d 212 33 ls st A K = zX d 212 34 ls (zI 0 :: st) A K := zx_const z212 dX4_rewriteAt_33 (by decide) rfl
theorem s212_34 : zX d 212 34 [zO o, v1, v2, v3] st A K = zX d 212 35 [zO o, v1, v2, v3] (zO o :: st) A K := zx_aload_n z212 dX4_rewriteAt_34 rfl rfl
theorem s212_35 (h : tg A a = 9) : zX d 212 35 ls (zO (some a) :: st) A K = zX d 212 38 ls (fd A a 4 :: st) A K := zx_getf z212 zo212 dX4_rewriteAt_35 F10_22 rfl h
theorem s212_38 : zX d 212 38 ls st A K = zX d 212 40 ls (zI (96) :: st) A K := zx_bipush z212 dX4_rewriteAt_38 (by decide) rfl
theorem s212_40 : zX d 212 40 [v0, zI x, v2, v3] st A K = zX d 212 41 [v0, zI x, v2, v3] (zI x :: st) A K := zx_iload_n z212 dX4_rewriteAt_40 rfl rfl
theorem s212_41 : zX d 212 41 ls (zI y :: zI x :: st) A K = zX d 212 42 ls (zI (zw (x * y)) :: st) A K := zx_imul z212 dX4_rewriteAt_41 rfl
theorem s212_42 : zX d 212 42 ls st A K = zX d 212 44 ls (zI (96) :: st) A K := zx_bipush z212 dX4_rewriteAt_42 (by decide) rfl
theorem s212_44 : zX (d + 1) 212 44 ls (zI i4 :: zI i3 :: zO o2 :: zI i1 :: zO o0 :: []) A K = zX d 138 0 [zO o0, zI i1, zO o2, zI i3, zI i4, zU] [] A (zK (d + 1) 212 44 47 ls [] K) := zx_callS z212 zo212 dX4_rewriteAt_44 rfl C10_169 rfl rfl zm138 rfl rfl (zwt_le (Nat.le_of_ble_eq_true rfl)) rfl
theorem s212_47 : zX d 212 47 [v0, v1, v2, zI x] st A K = zX d 212 48 [v0, v1, v2, zI x] (zI x :: st) A K := zx_iload_n z212 dX4_rewriteAt_47 rfl rfl
theorem s212_48 : zX d 212 48 ls [zI x] A K = K (Sum.inl (some (zI x))) A := zx_iret z212 dX4_rewriteAt_48 zk212 rfl
theorem s213_0 : zX d 213 0 [v0, v1, zI x, v3, v4, v5, v6, v7, v8, v9, v10, v11, v12, v13] st A K = zX d 213 1 [v0, v1, zI x, v3, v4, v5, v6, v7, v8, v9, v10, v11, v12, v13] (zI x :: st) A K := zx_iload_n z213 dX4_rewrite_0 rfl rfl
theorem s213_1 : zX d 213 1 ls st A K = zX d 213 2 ls (zI 1 :: st) A K := zx_const z213 dX4_rewrite_1 (by decide) rfl
theorem s213_2 : zX d 213 2 ls (zI y :: zI x :: st) A K = zX d 213 3 ls (zI (zw (x + y)) :: st) A K := zx_iadd z213 dX4_rewrite_2 rfl
theorem s213_3 : zX d 213 3 [v0, v1, v2, zI x, v4, v5, v6, v7, v8, v9, v10, v11, v12, v13] st A K = zX d 213 4 [v0, v1, v2, zI x, v4, v5, v6, v7, v8, v9, v10, v11, v12, v13] (zI x :: st) A K := zx_iload_n z213 dX4_rewrite_3 rfl rfl
theorem s213_4 : zX d 213 4 ls (zI y :: zI x :: st) A K = zX d 213 5 ls (zI (zw (x + y)) :: st) A K := zx_iadd z213 dX4_rewrite_4 rfl
theorem s213_5 : zX d 213 5 [v0, v1, v2, v3, v4, v5, v6, v7, v8, v9, v10, v11, v12, v13] (zI x :: st) A K = zX d 213 7 [v0, v1, v2, v3, zI x, v5, v6, v7, v8, v9, v10, v11, v12, v13] st A K := zx_istore z213 dX4_rewrite_5 (Nat.le_of_ble_eq_true rfl) rfl rfl
theorem s213_7 : zX d 213 7 [zO o, v1, v2, v3, v4, v5, v6, v7, v8, v9, v10, v11, v12, v13] st A K = zX d 213 8 [zO o, v1, v2, v3, v4, v5, v6, v7, v8, v9, v10, v11, v12, v13] (zO o :: st) A K := zx_aload_n z213 dX4_rewrite_7 rfl rfl
theorem s213_8 : zX d 213 8 [v0, zO o, v2, v3, v4, v5, v6, v7, v8, v9, v10, v11, v12, v13] st A K = zX d 213 9 [v0, zO o, v2, v3, v4, v5, v6, v7, v8, v9, v10, v11, v12, v13] (zO o :: st) A K := zx_aload_n z213 dX4_rewrite_8 rfl rfl
theorem s213_9 : zX d 213 9 [v0, v1, v2, v3, zI x, v5, v6, v7, v8, v9, v10, v11, v12, v13] st A K = zX d 213 11 [v0, v1, v2, v3, zI x, v5, v6, v7, v8, v9, v10, v11, v12, v13] (zI x :: st) A K := zx_iload z213 dX4_rewrite_9 rfl rfl
theorem s213_11 (h : tg A a = 9)  : zX (d + 1) 213 11 ls (zI i1 :: zO o0 :: zO (some a) :: []) A K = zX d 210 0 [zO (some a), zO o0, zI i1, zU] [] A (zK (d + 1) 213 11 14 ls [] K) := zx_callV (t := 9) z213 zo213 dX4_rewrite_11 rfl C10_142 rfl rfl zm210 rfl rfl (zwt_le (Nat.le_of_ble_eq_true rfl)) rfl h
theorem s213_14 : zX d 213 14 [v0, v1, v2, v3, v4, v5, v6, v7, v8, v9, v10, v11, v12, v13] (zI x :: st) A K = zX d 213 16 [v0, v1, v2, v3, v4, zI x, v6, v7, v8, v9, v10, v11, v12, v13] st A K := zx_istore z213 dX4_rewrite_14 (Nat.le_of_ble_eq_true rfl) rfl rfl
theorem s213_16 : zX d 213 16 [v0, v1, v2, v3, v4, zI x, v6, v7, v8, v9, v10, v11, v12, v13] st A K = zX d 213 18 [v0, v1, v2, v3, v4, zI x, v6, v7, v8, v9, v10, v11, v12, v13] (zI x :: st) A K := zx_iload z213 dX4_rewrite_16 rfl rfl
theorem s213_18 : zX d 213 18 ls (zI x :: st) A K = (if 0 ≤ x then zX d 213 24 ls st A K else zX d 213 21 ls st A K) := zx_if_ge z213 dX4_rewrite_18 rfl rfl
theorem s213_21 : zX d 213 21 ls st A K = zX d 213 23 ls (zI (-5) :: st) A K := zx_bipush z213 dX4_rewrite_21 (by decide) rfl
theorem s213_23 : zX d 213 23 ls [zI x] A K = K (Sum.inl (some (zI x))) A := zx_iret z213 dX4_rewrite_23 zk213 rfl
theorem s213_24 : zX d 213 24 [zO o, v1, v2, v3, v4, v5, v6, v7, v8, v9, v10, v11, v12, v13] st A K = zX d 213 25 [zO o, v1, v2, v3, v4, v5, v6, v7, v8, v9, v10, v11, v12, v13] (zO o :: st) A K := zx_aload_n z213 dX4_rewrite_24 rfl rfl
theorem s213_25 : zX d 213 25 [v0, zO o, v2, v3, v4, v5, v6, v7, v8, v9, v10, v11, v12, v13] st A K = zX d 213 26 [v0, zO o, v2, v3, v4, v5, v6, v7, v8, v9, v10, v11, v12, v13] (zO o :: st) A K := zx_aload_n z213 dX4_rewrite_25 rfl rfl
theorem s213_26 : zX d 213 26 [v0, v1, v2, v3, zI x, v5, v6, v7, v8, v9, v10, v11, v12, v13] st A K = zX d 213 28 [v0, v1, v2, v3, zI x, v5, v6, v7, v8, v9, v10, v11, v12, v13] (zI x :: st) A K := zx_iload z213 dX4_rewrite_26 rfl rfl
theorem s213_28 (h : tg A a = 9)  : zX (d + 1) 213 28 ls (zI i1 :: zO o0 :: zO (some a) :: []) A K = zX d 163 0 [zO (some a), zO o0, zI i1, zU, zU] [] A (zK (d + 1) 213 28 31 ls [] K) := zx_callV (t := 9) z213 zo213 dX4_rewrite_28 rfl C10_117 rfl rfl zm163 rfl rfl (zwt_le (Nat.le_of_ble_eq_true rfl)) rfl h
theorem s213_31 : zX d 213 31 [v0, v1, v2, v3, v4, v5, v6, v7, v8, v9, v10, v11, v12, v13] (zI x :: st) A K = zX d 213 33 [v0, v1, v2, v3, v4, v5, zI x, v7, v8, v9, v10, v11, v12, v13] st A K := zx_istore z213 dX4_rewrite_31 (Nat.le_of_ble_eq_true rfl) rfl rfl
theorem s213_33 : zX d 213 33 [v0, zO o, v2, v3, v4, v5, v6, v7, v8, v9, v10, v11, v12, v13] st A K = zX d 213 34 [v0, zO o, v2, v3, v4, v5, v6, v7, v8, v9, v10, v11, v12, v13] (zO o :: st) A K := zx_aload_n z213 dX4_rewrite_33 rfl rfl
theorem s213_34 : zX d 213 34 [v0, v1, zI x, v3, v4, v5, v6, v7, v8, v9, v10, v11, v12, v13] st A K = zX d 213 35 [v0, v1, zI x, v3, v4, v5, v6, v7, v8, v9, v10, v11, v12, v13] (zI x :: st) A K := zx_iload_n z213 dX4_rewrite_34 rfl rfl
theorem s213_35 (h : tg A a = 20) (h0 : 0 ≤ x) (h1 : x.toNat < (ia A a).length) : zX d 213 35 ls (zI x :: zO (some a) :: st) A K = zX d 213 36 ls (zI ((ia A a).getD x.toNat 0) :: st) A K := zx_iald z213 dX4_rewrite_35 rfl h h0 h1
theorem s213_35s (h : tg A a = 30) (h0 : 0 ≤ x) (h1 : x.toNat < (ia A a).length) : zX d 213 35 ls (zI x :: zO (some a) :: st) A K = zX d 213 36 ls (zI ((ia A a).getD x.toNat 0) :: st) A K := zx_sald z213 dX4_rewrite_35 rfl h h0 h1
theorem s213_36 : zX d 213 36 [v0, v1, v2, v3, v4, v5, zI x, v7, v8, v9, v10, v11, v12, v13] st A K = zX d 213 38 [v0, v1, v2, v3, v4, v5, zI x, v7, v8, v9, v10, v11, v12, v13] (zI x :: st) A K := zx_iload z213 dX4_rewrite_36 rfl rfl
theorem s213_38 : zX d 213 38 [v0, v1, v2, v3, zI x, v5, v6, v7, v8, v9, v10, v11, v12, v13] st A K = zX d 213 40 [v0, v1, v2, v3, zI x, v5, v6, v7, v8, v9, v10, v11, v12, v13] (zI x :: st) A K := zx_iload z213 dX4_rewrite_38 rfl rfl
theorem s213_40 : zX d 213 40 ls (zI y :: zI x :: st) A K = zX d 213 41 ls (zI (zw (x - y)) :: st) A K := zx_isub z213 dX4_rewrite_40 rfl
theorem s213_41 : zX d 213 41 ls (zI y :: zI x :: st) A K = zX d 213 42 ls (zI (zw (x - y)) :: st) A K := zx_isub z213 dX4_rewrite_41 rfl
theorem s213_42 : zX d 213 42 [v0, v1, v2, v3, v4, v5, v6, v7, v8, v9, v10, v11, v12, v13] (zI x :: st) A K = zX d 213 44 [v0, v1, v2, v3, v4, v5, v6, zI x, v8, v9, v10, v11, v12, v13] st A K := zx_istore z213 dX4_rewrite_42 (Nat.le_of_ble_eq_true rfl) rfl rfl
theorem s213_44 : zX d 213 44 ls st A K = zX d 213 45 ls (zI 1 :: st) A K := zx_const z213 dX4_rewrite_44 (by decide) rfl
theorem s213_45 : zX d 213 45 [v0, v1, v2, v3, v4, v5, v6, v7, v8, v9, v10, v11, v12, v13] (zI x :: st) A K = zX d 213 47 [v0, v1, v2, v3, v4, v5, v6, v7, zI x, v9, v10, v11, v12, v13] st A K := zx_istore z213 dX4_rewrite_45 (Nat.le_of_ble_eq_true rfl) rfl rfl
theorem s213_47 : zX d 213 47 [v0, v1, v2, v3, v4, v5, v6, v7, zI x, v9, v10, v11, v12, v13] st A K = zX d 213 49 [v0, v1, v2, v3, v4, v5, v6, v7, zI x, v9, v10, v11, v12, v13] (zI x :: st) A K := zx_iload z213 dX4_rewrite_47 rfl rfl
theorem s213_49 : zX d 213 49 [zO o, v1, v2, v3, v4, v5, v6, v7, v8, v9, v10, v11, v12, v13] st A K = zX d 213 50 [zO o, v1, v2, v3, v4, v5, v6, v7, v8, v9, v10, v11, v12, v13] (zO o :: st) A K := zx_aload_n z213 dX4_rewrite_49 rfl rfl
theorem s213_50 (h : tg A a = 9) : zX d 213 50 ls (zO (some a) :: st) A K = zX d 213 53 ls (fd A a 2 :: st) A K := zx_getf z213 zo213 dX4_rewrite_50 F10_16 rfl h
theorem s213_53 : zX d 213 53 [v0, v1, v2, v3, v4, zI x, v6, v7, v8, v9, v10, v11, v12, v13] st A K = zX d 213 55 [v0, v1, v2, v3, v4, zI x, v6, v7, v8, v9, v10, v11, v12, v13] (zI x :: st) A K := zx_iload z213 dX4_rewrite_53 rfl rfl
theorem s213_55 : zX (d + 1) 213 55 ls (zI i0 :: [w0, w1]) A K = zX d 142 0 [zI i0] [] A (zK (d + 1) 213 55 58 ls [w0, w1] K) := zx_callS z213 zo213 dX4_rewrite_55 rfl C10_145 rfl rfl zm142 rfl rfl (zwt_le (Nat.le_of_ble_eq_true rfl)) rfl
theorem s213_58 (h : tg A a = 20) (h0 : 0 ≤ x) (h1 : x.toNat < (ia A a).length) : zX d 213 58 ls (zI x :: zO (some a) :: st) A K = zX d 213 59 ls (zI ((ia A a).getD x.toNat 0) :: st) A K := zx_iald z213 dX4_rewrite_58 rfl h h0 h1
theorem s213_58s (h : tg A a = 30) (h0 : 0 ≤ x) (h1 : x.toNat < (ia A a).length) : zX d 213 58 ls (zI x :: zO (some a) :: st) A K = zX d 213 59 ls (zI ((ia A a).getD x.toNat 0) :: st) A K := zx_sald z213 dX4_rewrite_58 rfl h h0 h1
theorem s213_59 : zX d 213 59 ls (zI y :: zI x :: st) A K = (if y < x then zX d 213 110 ls st A K else zX d 213 62 ls st A K) := zx_ic_gt z213 dX4_rewrite_59 rfl rfl
theorem s213_62 : zX d 213 62 [zO o, v1, v2, v3, v4, v5, v6, v7, v8, v9, v10, v11, v12, v13] st A K = zX d 213 63 [zO o, v1, v2, v3, v4, v5, v6, v7, v8, v9, v10, v11, v12, v13] (zO o :: st) A K := zx_aload_n z213 dX4_rewrite_62 rfl rfl
theorem s213_63 (h : tg A a = 9) : zX d 213 63 ls (zO (some a) :: st) A K = zX d 213 66 ls (fd A a 2 :: st) A K := zx_getf z213 zo213 dX4_rewrite_63 F10_16 rfl h
theorem s213_66 : zX d 213 66 [v0, v1, v2, v3, v4, zI x, v6, v7, v8, v9, v10, v11, v12, v13] st A K = zX d 213 68 [v0, v1, v2, v3, v4, zI x, v6, v7, v8, v9, v10, v11, v12, v13] (zI x :: st) A K := zx_iload z213 dX4_rewrite_66 rfl rfl
theorem s213_68 : zX (d + 1) 213 68 ls (zI i0 :: [w0]) A K = zX d 142 0 [zI i0] [] A (zK (d + 1) 213 68 71 ls [w0] K) := zx_callS z213 zo213 dX4_rewrite_68 rfl C10_145 rfl rfl zm142 rfl rfl (zwt_le (Nat.le_of_ble_eq_true rfl)) rfl
theorem s213_71 : zX d 213 71 [v0, v1, v2, v3, v4, v5, v6, v7, zI x, v9, v10, v11, v12, v13] st A K = zX d 213 73 [v0, v1, v2, v3, v4, v5, v6, v7, zI x, v9, v10, v11, v12, v13] (zI x :: st) A K := zx_iload z213 dX4_rewrite_71 rfl rfl
theorem s213_73 : zX d 213 73 ls (zI y :: zI x :: st) A K = zX d 213 74 ls (zI (zw (x + y)) :: st) A K := zx_iadd z213 dX4_rewrite_73 rfl
theorem s213_74 (h : tg A a = 20) (h0 : 0 ≤ x) (h1 : x.toNat < (ia A a).length) : zX d 213 74 ls (zI x :: zO (some a) :: st) A K = zX d 213 75 ls (zI ((ia A a).getD x.toNat 0) :: st) A K := zx_iald z213 dX4_rewrite_74 rfl h h0 h1
theorem s213_74s (h : tg A a = 30) (h0 : 0 ≤ x) (h1 : x.toNat < (ia A a).length) : zX d 213 74 ls (zI x :: zO (some a) :: st) A K = zX d 213 75 ls (zI ((ia A a).getD x.toNat 0) :: st) A K := zx_sald z213 dX4_rewrite_74 rfl h h0 h1
theorem s213_75 : zX d 213 75 [v0, v1, v2, v3, v4, v5, v6, v7, v8, v9, v10, v11, v12, v13] (zI x :: st) A K = zX d 213 77 [v0, v1, v2, v3, v4, v5, v6, v7, v8, zI x, v10, v11, v12, v13] st A K := zx_istore z213 dX4_rewrite_75 (Nat.le_of_ble_eq_true rfl) rfl rfl
theorem s213_77 : zX d 213 77 [v0, v1, v2, v3, v4, v5, v6, zI x, v8, v9, v10, v11, v12, v13] st A K = zX d 213 79 [v0, v1, v2, v3, v4, v5, v6, zI x, v8, v9, v10, v11, v12, v13] (zI x :: st) A K := zx_iload z213 dX4_rewrite_77 rfl rfl
theorem s213_79 : zX d 213 79 [v0, v1, v2, v3, v4, v5, v6, v7, v8, zI x, v10, v11, v12, v13] st A K = zX d 213 81 [v0, v1, v2, v3, v4, v5, v6, v7, v8, zI x, v10, v11, v12, v13] (zI x :: st) A K := zx_iload z213 dX4_rewrite_79 rfl rfl
theorem s213_81 : zX (d + 1) 213 81 ls (zI i0 :: [w0]) A K = zX d 135 0 [zI i0] [] A (zK (d + 1) 213 81 84 ls [w0] K) := zx_callS z213 zo213 dX4_rewrite_81 rfl C10_128 rfl rfl zm135 rfl rfl (zwt_le (Nat.le_of_ble_eq_true rfl)) rfl
theorem s213_84 : zX d 213 84 ls (zI x :: st) A K = (if x = 0 then zX d 213 100 ls st A K else zX d 213 87 ls st A K) := zx_if_eq z213 dX4_rewrite_84 rfl rfl
theorem s213_87 : zX d 213 87 [zO o, v1, v2, v3, v4, v5, v6, v7, v8, v9, v10, v11, v12, v13] st A K = zX d 213 88 [zO o, v1, v2, v3, v4, v5, v6, v7, v8, v9, v10, v11, v12, v13] (zO o :: st) A K := zx_aload_n z213 dX4_rewrite_87 rfl rfl
theorem s213_88 (h : tg A a = 9) : zX d 213 88 ls (zO (some a) :: st) A K = zX d 213 91 ls (fd A a 10 :: st) A K := zx_getf z213 zo213 dX4_rewrite_88 F10_31 rfl h
theorem s213_91 : zX d 213 91 [v0, v1, v2, v3, v4, v5, v6, v7, v8, zI x, v10, v11, v12, v13] st A K = zX d 213 93 [v0, v1, v2, v3, v4, v5, v6, v7, v8, zI x, v10, v11, v12, v13] (zI x :: st) A K := zx_iload z213 dX4_rewrite_91 rfl rfl
theorem s213_93 : zX (d + 1) 213 93 ls (zI i0 :: [w0, w1]) A K = zX d 207 0 [zI i0] [] A (zK (d + 1) 213 93 96 ls [w0, w1] K) := zx_callS z213 zo213 dX4_rewrite_93 rfl C10_131 rfl rfl zm207 rfl rfl (zwt_le (Nat.le_of_ble_eq_true rfl)) rfl
theorem s213_96 (h : tg A a = 20) (h0 : 0 ≤ x) (h1 : x.toNat < (ia A a).length) : zX d 213 96 ls (zI x :: zO (some a) :: st) A K = zX d 213 97 ls (zI ((ia A a).getD x.toNat 0) :: st) A K := zx_iald z213 dX4_rewrite_96 rfl h h0 h1
theorem s213_96s (h : tg A a = 30) (h0 : 0 ≤ x) (h1 : x.toNat < (ia A a).length) : zX d 213 96 ls (zI x :: zO (some a) :: st) A K = zX d 213 97 ls (zI ((ia A a).getD x.toNat 0) :: st) A K := zx_sald z213 dX4_rewrite_96 rfl h h0 h1
theorem s213_97 : zX d 213 97 ls st A K = zX d 213 101 ls st A K := zx_goto z213 dX4_rewrite_97 rfl
theorem s213_100 : zX d 213 100 ls st A K = zX d 213 101 ls (zI 1 :: st) A K := zx_const z213 dX4_rewrite_100 (by decide) rfl
theorem s213_101 : zX d 213 101 ls (zI y :: zI x :: st) A K = zX d 213 102 ls (zI (zw (x + y)) :: st) A K := zx_iadd z213 dX4_rewrite_101 rfl
theorem s213_102 : zX d 213 102 [v0, v1, v2, v3, v4, v5, v6, v7, v8, v9, v10, v11, v12, v13] (zI x :: st) A K = zX d 213 104 [v0, v1, v2, v3, v4, v5, v6, zI x, v8, v9, v10, v11, v12, v13] st A K := zx_istore z213 dX4_rewrite_102 (Nat.le_of_ble_eq_true rfl) rfl rfl
theorem s213_104 : zX d 213 104 [v0, v1, v2, v3, v4, v5, v6, v7, zI x, v9, v10, v11, v12, v13] st A K = zX d 213 107 [v0, v1, v2, v3, v4, v5, v6, v7, zI (zw (x + 1)), v9, v10, v11, v12, v13] st A K := zx_iinc z213 dX4_rewrite_104 rfl rfl rfl
theorem s213_107 : zX d 213 107 ls st A K = zX d 213 47 ls st A K := zx_goto z213 dX4_rewrite_107 rfl
theorem s213_110 : zX d 213 110 [v0, v1, v2, v3, v4, v5, v6, zI x, v8, v9, v10, v11, v12, v13] st A K = zX d 213 112 [v0, v1, v2, v3, v4, v5, v6, zI x, v8, v9, v10, v11, v12, v13] (zI x :: st) A K := zx_iload z213 dX4_rewrite_110 rfl rfl
theorem s213_112 : zX d 213 112 ls st A K = zX d 213 114 ls (zI (40) :: st) A K := zx_bipush z213 dX4_rewrite_112 (by decide) rfl
theorem s213_114 : zX d 213 114 ls (zI y :: zI x :: st) A K = (if x ≤ y then zX d 213 120 ls st A K else zX d 213 117 ls st A K) := zx_ic_le z213 dX4_rewrite_114 rfl rfl
theorem s213_117 : zX d 213 117 ls st A K = zX d 213 119 ls (zI (-8) :: st) A K := zx_bipush z213 dX4_rewrite_117 (by decide) rfl
theorem s213_119 : zX d 213 119 ls [zI x] A K = K (Sum.inl (some (zI x))) A := zx_iret z213 dX4_rewrite_119 zk213 rfl
theorem s213_120 : zX d 213 120 ls st A K = zX d 213 121 ls (zI 1 :: st) A K := zx_const z213 dX4_rewrite_120 (by decide) rfl
theorem s213_121 : zX d 213 121 [v0, v1, v2, v3, v4, v5, v6, v7, v8, v9, v10, v11, v12, v13] (zI x :: st) A K = zX d 213 123 [v0, v1, v2, v3, v4, v5, v6, v7, zI x, v9, v10, v11, v12, v13] st A K := zx_istore z213 dX4_rewrite_121 (Nat.le_of_ble_eq_true rfl) rfl rfl
theorem s213_123 : zX d 213 123 [v0, v1, zI x, v3, v4, v5, v6, v7, v8, v9, v10, v11, v12, v13] st A K = zX d 213 124 [v0, v1, zI x, v3, v4, v5, v6, v7, v8, v9, v10, v11, v12, v13] (zI x :: st) A K := zx_iload_n z213 dX4_rewrite_123 rfl rfl
theorem s213_124 : zX d 213 124 ls st A K = zX d 213 125 ls (zI 1 :: st) A K := zx_const z213 dX4_rewrite_124 (by decide) rfl
theorem s213_125 : zX d 213 125 ls (zI y :: zI x :: st) A K = zX d 213 126 ls (zI (zw (x + y)) :: st) A K := zx_iadd z213 dX4_rewrite_125 rfl
theorem s213_126 : zX d 213 126 [v0, v1, v2, v3, v4, v5, v6, v7, v8, v9, v10, v11, v12, v13] (zI x :: st) A K = zX d 213 128 [v0, v1, v2, v3, v4, v5, v6, v7, v8, zI x, v10, v11, v12, v13] st A K := zx_istore z213 dX4_rewrite_126 (Nat.le_of_ble_eq_true rfl) rfl rfl
theorem s213_128 : zX d 213 128 [v0, v1, v2, v3, v4, v5, v6, v7, v8, zI x, v10, v11, v12, v13] st A K = zX d 213 130 [v0, v1, v2, v3, v4, v5, v6, v7, v8, zI x, v10, v11, v12, v13] (zI x :: st) A K := zx_iload z213 dX4_rewrite_128 rfl rfl
theorem s213_130 : zX d 213 130 [v0, v1, v2, v3, zI x, v5, v6, v7, v8, v9, v10, v11, v12, v13] st A K = zX d 213 132 [v0, v1, v2, v3, zI x, v5, v6, v7, v8, v9, v10, v11, v12, v13] (zI x :: st) A K := zx_iload z213 dX4_rewrite_130 rfl rfl
theorem s213_132 : zX d 213 132 ls (zI y :: zI x :: st) A K = (if y ≤ x then zX d 213 155 ls st A K else zX d 213 135 ls st A K) := zx_ic_ge z213 dX4_rewrite_132 rfl rfl
theorem s213_135 : zX d 213 135 [zO o, v1, v2, v3, v4, v5, v6, v7, v8, v9, v10, v11, v12, v13] st A K = zX d 213 136 [zO o, v1, v2, v3, v4, v5, v6, v7, v8, v9, v10, v11, v12, v13] (zO o :: st) A K := zx_aload_n z213 dX4_rewrite_135 rfl rfl
theorem s213_136 (h : tg A a = 9) : zX d 213 136 ls (zO (some a) :: st) A K = zX d 213 139 ls (fd A a 11 :: st) A K := zx_getf z213 zo213 dX4_rewrite_136 F10_34 rfl h
theorem s213_139 : zX d 213 139 [v0, v1, v2, v3, v4, v5, v6, v7, zI x, v9, v10, v11, v12, v13] st A K = zX d 213 141 [v0, v1, v2, v3, v4, v5, v6, v7, zI x, v9, v10, v11, v12, v13] (zI x :: st) A K := zx_iload z213 dX4_rewrite_139 rfl rfl
theorem s213_141 : zX d 213 141 [v0, zO o, v2, v3, v4, v5, v6, v7, v8, v9, v10, v11, v12, v13] st A K = zX d 213 142 [v0, zO o, v2, v3, v4, v5, v6, v7, v8, v9, v10, v11, v12, v13] (zO o :: st) A K := zx_aload_n z213 dX4_rewrite_141 rfl rfl
theorem s213_142 : zX d 213 142 [v0, v1, v2, v3, v4, v5, v6, v7, v8, zI x, v10, v11, v12, v13] st A K = zX d 213 144 [v0, v1, v2, v3, v4, v5, v6, v7, v8, zI x, v10, v11, v12, v13] (zI x :: st) A K := zx_iload z213 dX4_rewrite_142 rfl rfl
theorem s213_144 (h : tg A a = 20) (h0 : 0 ≤ x) (h1 : x.toNat < (ia A a).length) : zX d 213 144 ls (zI x :: zO (some a) :: st) A K = zX d 213 145 ls (zI ((ia A a).getD x.toNat 0) :: st) A K := zx_iald z213 dX4_rewrite_144 rfl h h0 h1
theorem s213_144s (h : tg A a = 30) (h0 : 0 ≤ x) (h1 : x.toNat < (ia A a).length) : zX d 213 144 ls (zI x :: zO (some a) :: st) A K = zX d 213 145 ls (zI ((ia A a).getD x.toNat 0) :: st) A K := zx_sald z213 dX4_rewrite_144 rfl h h0 h1
theorem s213_145 (h : tg A a = 20) (h0 : 0 ≤ x) (h1 : x.toNat < (ia A a).length) : zX d 213 145 ls (zI y :: zI x :: zO (some a) :: st) A K = zX d 213 146 ls st (pI A a ((ia A a).set x.toNat y)) K := zx_iast z213 dX4_rewrite_145 rfl h h0 h1
theorem s213_146 : zX d 213 146 [v0, v1, v2, v3, v4, v5, v6, v7, zI x, v9, v10, v11, v12, v13] st A K = zX d 213 149 [v0, v1, v2, v3, v4, v5, v6, v7, zI (zw (x + 1)), v9, v10, v11, v12, v13] st A K := zx_iinc z213 dX4_rewrite_146 rfl rfl rfl
theorem s213_149 : zX d 213 149 [v0, v1, v2, v3, v4, v5, v6, v7, v8, zI x, v10, v11, v12, v13] st A K = zX d 213 152 [v0, v1, v2, v3, v4, v5, v6, v7, v8, zI (zw (x + 1)), v10, v11, v12, v13] st A K := zx_iinc z213 dX4_rewrite_149 rfl rfl rfl
theorem s213_152 : zX d 213 152 ls st A K = zX d 213 128 ls st A K := zx_goto z213 dX4_rewrite_152 rfl
theorem s213_155 : zX d 213 155 ls st A K = zX d 213 156 ls (zI 1 :: st) A K := zx_const z213 dX4_rewrite_155 (by decide) rfl
theorem s213_156 : zX d 213 156 [v0, v1, v2, v3, v4, v5, v6, v7, v8, v9, v10, v11, v12, v13] (zI x :: st) A K = zX d 213 158 [v0, v1, v2, v3, v4, v5, v6, v7, v8, zI x, v10, v11, v12, v13] st A K := zx_istore z213 dX4_rewrite_156 (Nat.le_of_ble_eq_true rfl) rfl rfl
theorem s213_158 : zX d 213 158 [v0, v1, v2, v3, v4, v5, v6, v7, v8, zI x, v10, v11, v12, v13] st A K = zX d 213 160 [v0, v1, v2, v3, v4, v5, v6, v7, v8, zI x, v10, v11, v12, v13] (zI x :: st) A K := zx_iload z213 dX4_rewrite_158 rfl rfl
theorem s213_160 : zX d 213 160 [zO o, v1, v2, v3, v4, v5, v6, v7, v8, v9, v10, v11, v12, v13] st A K = zX d 213 161 [zO o, v1, v2, v3, v4, v5, v6, v7, v8, v9, v10, v11, v12, v13] (zO o :: st) A K := zx_aload_n z213 dX4_rewrite_160 rfl rfl
theorem s213_161 (h : tg A a = 9) : zX d 213 161 ls (zO (some a) :: st) A K = zX d 213 164 ls (fd A a 2 :: st) A K := zx_getf z213 zo213 dX4_rewrite_161 F10_16 rfl h
theorem s213_164 : zX d 213 164 [v0, v1, v2, v3, v4, zI x, v6, v7, v8, v9, v10, v11, v12, v13] st A K = zX d 213 166 [v0, v1, v2, v3, v4, zI x, v6, v7, v8, v9, v10, v11, v12, v13] (zI x :: st) A K := zx_iload z213 dX4_rewrite_164 rfl rfl
theorem s213_166 : zX (d + 1) 213 166 ls (zI i0 :: [w0, w1]) A K = zX d 142 0 [zI i0] [] A (zK (d + 1) 213 166 169 ls [w0, w1] K) := zx_callS z213 zo213 dX4_rewrite_166 rfl C10_145 rfl rfl zm142 rfl rfl (zwt_le (Nat.le_of_ble_eq_true rfl)) rfl
theorem s213_169 (h : tg A a = 20) (h0 : 0 ≤ x) (h1 : x.toNat < (ia A a).length) : zX d 213 169 ls (zI x :: zO (some a) :: st) A K = zX d 213 170 ls (zI ((ia A a).getD x.toNat 0) :: st) A K := zx_iald z213 dX4_rewrite_169 rfl h h0 h1
theorem s213_169s (h : tg A a = 30) (h0 : 0 ≤ x) (h1 : x.toNat < (ia A a).length) : zX d 213 169 ls (zI x :: zO (some a) :: st) A K = zX d 213 170 ls (zI ((ia A a).getD x.toNat 0) :: st) A K := zx_sald z213 dX4_rewrite_169 rfl h h0 h1
theorem s213_170 : zX d 213 170 ls (zI y :: zI x :: st) A K = (if y < x then zX d 213 280 ls st A K else zX d 213 173 ls st A K) := zx_ic_gt z213 dX4_rewrite_170 rfl rfl
theorem s213_173 : zX d 213 173 [zO o, v1, v2, v3, v4, v5, v6, v7, v8, v9, v10, v11, v12, v13] st A K = zX d 213 174 [zO o, v1, v2, v3, v4, v5, v6, v7, v8, v9, v10, v11, v12, v13] (zO o :: st) A K := zx_aload_n z213 dX4_rewrite_173 rfl rfl
theorem s213_174 (h : tg A a = 9) : zX d 213 174 ls (zO (some a) :: st) A K = zX d 213 177 ls (fd A a 2 :: st) A K := zx_getf z213 zo213 dX4_rewrite_174 F10_16 rfl h
theorem s213_177 : zX d 213 177 [v0, v1, v2, v3, v4, zI x, v6, v7, v8, v9, v10, v11, v12, v13] st A K = zX d 213 179 [v0, v1, v2, v3, v4, zI x, v6, v7, v8, v9, v10, v11, v12, v13] (zI x :: st) A K := zx_iload z213 dX4_rewrite_177 rfl rfl
theorem s213_179 : zX (d + 1) 213 179 ls (zI i0 :: [w0]) A K = zX d 142 0 [zI i0] [] A (zK (d + 1) 213 179 182 ls [w0] K) := zx_callS z213 zo213 dX4_rewrite_179 rfl C10_145 rfl rfl zm142 rfl rfl (zwt_le (Nat.le_of_ble_eq_true rfl)) rfl
theorem s213_182 : zX d 213 182 [v0, v1, v2, v3, v4, v5, v6, v7, v8, zI x, v10, v11, v12, v13] st A K = zX d 213 184 [v0, v1, v2, v3, v4, v5, v6, v7, v8, zI x, v10, v11, v12, v13] (zI x :: st) A K := zx_iload z213 dX4_rewrite_182 rfl rfl
theorem s213_184 : zX d 213 184 ls (zI y :: zI x :: st) A K = zX d 213 185 ls (zI (zw (x + y)) :: st) A K := zx_iadd z213 dX4_rewrite_184 rfl
theorem s213_185 (h : tg A a = 20) (h0 : 0 ≤ x) (h1 : x.toNat < (ia A a).length) : zX d 213 185 ls (zI x :: zO (some a) :: st) A K = zX d 213 186 ls (zI ((ia A a).getD x.toNat 0) :: st) A K := zx_iald z213 dX4_rewrite_185 rfl h h0 h1
theorem s213_185s (h : tg A a = 30) (h0 : 0 ≤ x) (h1 : x.toNat < (ia A a).length) : zX d 213 185 ls (zI x :: zO (some a) :: st) A K = zX d 213 186 ls (zI ((ia A a).getD x.toNat 0) :: st) A K := zx_sald z213 dX4_rewrite_185 rfl h h0 h1
theorem s213_186 : zX d 213 186 [v0, v1, v2, v3, v4, v5, v6, v7, v8, v9, v10, v11, v12, v13] (zI x :: st) A K = zX d 213 188 [v0, v1, v2, v3, v4, v5, v6, v7, v8, v9, zI x, v11, v12, v13] st A K := zx_istore z213 dX4_rewrite_186 (Nat.le_of_ble_eq_true rfl) rfl rfl
theorem s213_188 : zX d 213 188 [v0, v1, v2, v3, v4, v5, v6, v7, v8, v9, zI x, v11, v12, v13] st A K = zX d 213 190 [v0, v1, v2, v3, v4, v5, v6, v7, v8, v9, zI x, v11, v12, v13] (zI x :: st) A K := zx_iload z213 dX4_rewrite_188 rfl rfl
theorem s213_190 : zX (d + 1) 213 190 ls (zI i0 :: []) A K = zX d 135 0 [zI i0] [] A (zK (d + 1) 213 190 193 ls [] K) := zx_callS z213 zo213 dX4_rewrite_190 rfl C10_128 rfl rfl zm135 rfl rfl (zwt_le (Nat.le_of_ble_eq_true rfl)) rfl
theorem s213_193 : zX d 213 193 ls (zI x :: st) A K = (if x = 0 then zX d 213 204 ls st A K else zX d 213 196 ls st A K) := zx_if_eq z213 dX4_rewrite_193 rfl rfl
theorem s213_196 : zX d 213 196 [v0, v1, v2, v3, v4, v5, v6, v7, v8, v9, zI x, v11, v12, v13] st A K = zX d 213 198 [v0, v1, v2, v3, v4, v5, v6, v7, v8, v9, zI x, v11, v12, v13] (zI x :: st) A K := zx_iload z213 dX4_rewrite_196 rfl rfl
theorem s213_198 : zX (d + 1) 213 198 ls (zI i0 :: []) A K = zX d 207 0 [zI i0] [] A (zK (d + 1) 213 198 201 ls [] K) := zx_callS z213 zo213 dX4_rewrite_198 rfl C10_131 rfl rfl zm207 rfl rfl (zwt_le (Nat.le_of_ble_eq_true rfl)) rfl
theorem s213_201 : zX d 213 201 ls st A K = zX d 213 206 ls st A K := zx_goto z213 dX4_rewrite_201 rfl
theorem s213_204 : zX d 213 204 ls st A K = zX d 213 206 ls (zI (-5) :: st) A K := zx_bipush z213 dX4_rewrite_204 (by decide) rfl
theorem s213_206 : zX d 213 206 [v0, v1, v2, v3, v4, v5, v6, v7, v8, v9, v10, v11, v12, v13] (zI x :: st) A K = zX d 213 208 [v0, v1, v2, v3, v4, v5, v6, v7, v8, v9, v10, zI x, v12, v13] st A K := zx_istore z213 dX4_rewrite_206 (Nat.le_of_ble_eq_true rfl) rfl rfl
theorem s213_208 : zX d 213 208 [v0, v1, v2, v3, v4, v5, v6, v7, v8, v9, v10, zI x, v12, v13] st A K = zX d 213 210 [v0, v1, v2, v3, v4, v5, v6, v7, v8, v9, v10, zI x, v12, v13] (zI x :: st) A K := zx_iload z213 dX4_rewrite_208 rfl rfl
theorem s213_210 : zX d 213 210 ls (zI x :: st) A K = (if 0 ≤ x then zX d 213 217 ls st A K else zX d 213 213 ls st A K) := zx_if_ge z213 dX4_rewrite_210 rfl rfl
theorem s213_213 : zX d 213 213 ls st A K = zX d 213 214 ls (zI 1 :: st) A K := zx_const z213 dX4_rewrite_213 (by decide) rfl
theorem s213_214 : zX d 213 214 ls st A K = zX d 213 224 ls st A K := zx_goto z213 dX4_rewrite_214 rfl
theorem s213_217 : zX d 213 217 [zO o, v1, v2, v3, v4, v5, v6, v7, v8, v9, v10, v11, v12, v13] st A K = zX d 213 218 [zO o, v1, v2, v3, v4, v5, v6, v7, v8, v9, v10, v11, v12, v13] (zO o :: st) A K := zx_aload_n z213 dX4_rewrite_217 rfl rfl
theorem s213_218 (h : tg A a = 9) : zX d 213 218 ls (zO (some a) :: st) A K = zX d 213 221 ls (fd A a 10 :: st) A K := zx_getf z213 zo213 dX4_rewrite_218 F10_31 rfl h
theorem s213_221 : zX d 213 221 [v0, v1, v2, v3, v4, v5, v6, v7, v8, v9, v10, zI x, v12, v13] st A K = zX d 213 223 [v0, v1, v2, v3, v4, v5, v6, v7, v8, v9, v10, zI x, v12, v13] (zI x :: st) A K := zx_iload z213 dX4_rewrite_221 rfl rfl
theorem s213_223 (h : tg A a = 20) (h0 : 0 ≤ x) (h1 : x.toNat < (ia A a).length) : zX d 213 223 ls (zI x :: zO (some a) :: st) A K = zX d 213 224 ls (zI ((ia A a).getD x.toNat 0) :: st) A K := zx_iald z213 dX4_rewrite_223 rfl h h0 h1
theorem s213_223s (h : tg A a = 30) (h0 : 0 ≤ x) (h1 : x.toNat < (ia A a).length) : zX d 213 223 ls (zI x :: zO (some a) :: st) A K = zX d 213 224 ls (zI ((ia A a).getD x.toNat 0) :: st) A K := zx_sald z213 dX4_rewrite_223 rfl h h0 h1
theorem s213_224 : zX d 213 224 [v0, v1, v2, v3, v4, v5, v6, v7, v8, v9, v10, v11, v12, v13] (zI x :: st) A K = zX d 213 226 [v0, v1, v2, v3, v4, v5, v6, v7, v8, v9, v10, v11, zI x, v13] st A K := zx_istore z213 dX4_rewrite_224 (Nat.le_of_ble_eq_true rfl) rfl rfl
theorem s213_226 : zX d 213 226 ls st A K = zX d 213 227 ls (zI 0 :: st) A K := zx_const z213 dX4_rewrite_226 (by decide) rfl
theorem s213_227 : zX d 213 227 [v0, v1, v2, v3, v4, v5, v6, v7, v8, v9, v10, v11, v12, v13] (zI x :: st) A K = zX d 213 229 [v0, v1, v2, v3, v4, v5, v6, v7, v8, v9, v10, v11, v12, zI x] st A K := zx_istore z213 dX4_rewrite_227 (Nat.le_of_ble_eq_true rfl) rfl rfl
theorem s213_229 : zX d 213 229 [v0, v1, v2, v3, v4, v5, v6, v7, v8, v9, v10, v11, v12, zI x] st A K = zX d 213 231 [v0, v1, v2, v3, v4, v5, v6, v7, v8, v9, v10, v11, v12, zI x] (zI x :: st) A K := zx_iload z213 dX4_rewrite_229 rfl rfl
theorem s213_231 : zX d 213 231 [v0, v1, v2, v3, v4, v5, v6, v7, v8, v9, v10, v11, zI x, v13] st A K = zX d 213 233 [v0, v1, v2, v3, v4, v5, v6, v7, v8, v9, v10, v11, zI x, v13] (zI x :: st) A K := zx_iload z213 dX4_rewrite_231 rfl rfl
theorem s213_233 : zX d 213 233 ls (zI y :: zI x :: st) A K = (if y ≤ x then zX d 213 274 ls st A K else zX d 213 236 ls st A K) := zx_ic_ge z213 dX4_rewrite_233 rfl rfl
theorem s213_236 : zX d 213 236 [zO o, v1, v2, v3, v4, v5, v6, v7, v8, v9, v10, v11, v12, v13] st A K = zX d 213 237 [zO o, v1, v2, v3, v4, v5, v6, v7, v8, v9, v10, v11, v12, v13] (zO o :: st) A K := zx_aload_n z213 dX4_rewrite_236 rfl rfl
theorem s213_237 (h : tg A a = 9) : zX d 213 237 ls (zO (some a) :: st) A K = zX d 213 240 ls (fd A a 11 :: st) A K := zx_getf z213 zo213 dX4_rewrite_237 F10_34 rfl h
theorem s213_240 : zX d 213 240 [v0, v1, v2, v3, v4, v5, v6, v7, zI x, v9, v10, v11, v12, v13] st A K = zX d 213 242 [v0, v1, v2, v3, v4, v5, v6, v7, zI x, v9, v10, v11, v12, v13] (zI x :: st) A K := zx_iload z213 dX4_rewrite_240 rfl rfl
theorem s213_242 : zX d 213 242 [v0, v1, v2, v3, v4, v5, v6, v7, v8, v9, v10, zI x, v12, v13] st A K = zX d 213 244 [v0, v1, v2, v3, v4, v5, v6, v7, v8, v9, v10, zI x, v12, v13] (zI x :: st) A K := zx_iload z213 dX4_rewrite_242 rfl rfl
theorem s213_244 : zX d 213 244 ls (zI x :: st) A K = (if 0 ≤ x then zX d 213 252 ls st A K else zX d 213 247 ls st A K) := zx_if_ge z213 dX4_rewrite_244 rfl rfl
theorem s213_247 : zX d 213 247 [v0, v1, v2, v3, v4, v5, v6, v7, v8, v9, zI x, v11, v12, v13] st A K = zX d 213 249 [v0, v1, v2, v3, v4, v5, v6, v7, v8, v9, zI x, v11, v12, v13] (zI x :: st) A K := zx_iload z213 dX4_rewrite_247 rfl rfl
theorem s213_249 : zX d 213 249 ls st A K = zX d 213 264 ls st A K := zx_goto z213 dX4_rewrite_249 rfl
theorem s213_252 : zX d 213 252 [v0, zO o, v2, v3, v4, v5, v6, v7, v8, v9, v10, v11, v12, v13] st A K = zX d 213 253 [v0, zO o, v2, v3, v4, v5, v6, v7, v8, v9, v10, v11, v12, v13] (zO o :: st) A K := zx_aload_n z213 dX4_rewrite_252 rfl rfl
theorem s213_253 : zX d 213 253 [zO o, v1, v2, v3, v4, v5, v6, v7, v8, v9, v10, v11, v12, v13] st A K = zX d 213 254 [zO o, v1, v2, v3, v4, v5, v6, v7, v8, v9, v10, v11, v12, v13] (zO o :: st) A K := zx_aload_n z213 dX4_rewrite_253 rfl rfl
theorem s213_254 (h : tg A a = 9) : zX d 213 254 ls (zO (some a) :: st) A K = zX d 213 257 ls (fd A a 9 :: st) A K := zx_getf z213 zo213 dX4_rewrite_254 F10_28 rfl h
theorem s213_257 : zX d 213 257 [v0, v1, v2, v3, v4, v5, v6, v7, v8, v9, v10, zI x, v12, v13] st A K = zX d 213 259 [v0, v1, v2, v3, v4, v5, v6, v7, v8, v9, v10, zI x, v12, v13] (zI x :: st) A K := zx_iload z213 dX4_rewrite_257 rfl rfl
theorem s213_259 (h : tg A a = 20) (h0 : 0 ≤ x) (h1 : x.toNat < (ia A a).length) : zX d 213 259 ls (zI x :: zO (some a) :: st) A K = zX d 213 260 ls (zI ((ia A a).getD x.toNat 0) :: st) A K := zx_iald z213 dX4_rewrite_259 rfl h h0 h1
theorem s213_259s (h : tg A a = 30) (h0 : 0 ≤ x) (h1 : x.toNat < (ia A a).length) : zX d 213 259 ls (zI x :: zO (some a) :: st) A K = zX d 213 260 ls (zI ((ia A a).getD x.toNat 0) :: st) A K := zx_sald z213 dX4_rewrite_259 rfl h h0 h1
theorem s213_260 : zX d 213 260 [v0, v1, v2, v3, v4, v5, v6, v7, v8, v9, v10, v11, v12, zI x] st A K = zX d 213 262 [v0, v1, v2, v3, v4, v5, v6, v7, v8, v9, v10, v11, v12, zI x] (zI x :: st) A K := zx_iload z213 dX4_rewrite_260 rfl rfl
theorem s213_262 : zX d 213 262 ls (zI y :: zI x :: st) A K = zX d 213 263 ls (zI (zw (x + y)) :: st) A K := zx_iadd z213 dX4_rewrite_262 rfl
theorem s213_263 (h : tg A a = 20) (h0 : 0 ≤ x) (h1 : x.toNat < (ia A a).length) : zX d 213 263 ls (zI x :: zO (some a) :: st) A K = zX d 213 264 ls (zI ((ia A a).getD x.toNat 0) :: st) A K := zx_iald z213 dX4_rewrite_263 rfl h h0 h1
theorem s213_263s (h : tg A a = 30) (h0 : 0 ≤ x) (h1 : x.toNat < (ia A a).length) : zX d 213 263 ls (zI x :: zO (some a) :: st) A K = zX d 213 264 ls (zI ((ia A a).getD x.toNat 0) :: st) A K := zx_sald z213 dX4_rewrite_263 rfl h h0 h1
theorem s213_264 (h : tg A a = 20) (h0 : 0 ≤ x) (h1 : x.toNat < (ia A a).length) : zX d 213 264 ls (zI y :: zI x :: zO (some a) :: st) A K = zX d 213 265 ls st (pI A a ((ia A a).set x.toNat y)) K := zx_iast z213 dX4_rewrite_264 rfl h h0 h1
theorem s213_265 : zX d 213 265 [v0, v1, v2, v3, v4, v5, v6, v7, zI x, v9, v10, v11, v12, v13] st A K = zX d 213 268 [v0, v1, v2, v3, v4, v5, v6, v7, zI (zw (x + 1)), v9, v10, v11, v12, v13] st A K := zx_iinc z213 dX4_rewrite_265 rfl rfl rfl
theorem s213_268 : zX d 213 268 [v0, v1, v2, v3, v4, v5, v6, v7, v8, v9, v10, v11, v12, zI x] st A K = zX d 213 271 [v0, v1, v2, v3, v4, v5, v6, v7, v8, v9, v10, v11, v12, zI (zw (x + 1))] st A K := zx_iinc z213 dX4_rewrite_268 rfl rfl rfl
theorem s213_271 : zX d 213 271 ls st A K = zX d 213 229 ls st A K := zx_goto z213 dX4_rewrite_271 rfl
theorem s213_274 : zX d 213 274 [v0, v1, v2, v3, v4, v5, v6, v7, v8, zI x, v10, v11, v12, v13] st A K = zX d 213 277 [v0, v1, v2, v3, v4, v5, v6, v7, v8, zI (zw (x + 1)), v10, v11, v12, v13] st A K := zx_iinc z213 dX4_rewrite_274 rfl rfl rfl
theorem s213_277 : zX d 213 277 ls st A K = zX d 213 158 ls st A K := zx_goto z213 dX4_rewrite_277 rfl
theorem s213_280 : zX d 213 280 [v0, v1, v2, v3, v4, v5, zI x, v7, v8, v9, v10, v11, v12, v13] st A K = zX d 213 282 [v0, v1, v2, v3, v4, v5, zI x, v7, v8, v9, v10, v11, v12, v13] (zI x :: st) A K := zx_iload z213 dX4_rewrite_280 rfl rfl
theorem s213_282 : zX d 213 282 [v0, v1, v2, v3, v4, v5, v6, v7, v8, v9, v10, v11, v12, v13] (zI x :: st) A K = zX d 213 284 [v0, v1, v2, v3, v4, v5, v6, v7, v8, zI x, v10, v11, v12, v13] st A K := zx_istore z213 dX4_rewrite_282 (Nat.le_of_ble_eq_true rfl) rfl rfl
theorem s213_284 : zX d 213 284 [v0, v1, v2, v3, v4, v5, v6, v7, v8, zI x, v10, v11, v12, v13] st A K = zX d 213 286 [v0, v1, v2, v3, v4, v5, v6, v7, v8, zI x, v10, v11, v12, v13] (zI x :: st) A K := zx_iload z213 dX4_rewrite_284 rfl rfl
theorem s213_286 : zX d 213 286 [v0, v1, zI x, v3, v4, v5, v6, v7, v8, v9, v10, v11, v12, v13] st A K = zX d 213 287 [v0, v1, zI x, v3, v4, v5, v6, v7, v8, v9, v10, v11, v12, v13] (zI x :: st) A K := zx_iload_n z213 dX4_rewrite_286 rfl rfl
theorem s213_287 : zX d 213 287 [v0, zO o, v2, v3, v4, v5, v6, v7, v8, v9, v10, v11, v12, v13] st A K = zX d 213 288 [v0, zO o, v2, v3, v4, v5, v6, v7, v8, v9, v10, v11, v12, v13] (zO o :: st) A K := zx_aload_n z213 dX4_rewrite_287 rfl rfl
theorem s213_288 : zX d 213 288 [v0, v1, zI x, v3, v4, v5, v6, v7, v8, v9, v10, v11, v12, v13] st A K = zX d 213 289 [v0, v1, zI x, v3, v4, v5, v6, v7, v8, v9, v10, v11, v12, v13] (zI x :: st) A K := zx_iload_n z213 dX4_rewrite_288 rfl rfl
theorem s213_289 (h : tg A a = 20) (h0 : 0 ≤ x) (h1 : x.toNat < (ia A a).length) : zX d 213 289 ls (zI x :: zO (some a) :: st) A K = zX d 213 290 ls (zI ((ia A a).getD x.toNat 0) :: st) A K := zx_iald z213 dX4_rewrite_289 rfl h h0 h1
theorem s213_289s (h : tg A a = 30) (h0 : 0 ≤ x) (h1 : x.toNat < (ia A a).length) : zX d 213 289 ls (zI x :: zO (some a) :: st) A K = zX d 213 290 ls (zI ((ia A a).getD x.toNat 0) :: st) A K := zx_sald z213 dX4_rewrite_289 rfl h h0 h1
theorem s213_290 : zX d 213 290 ls (zI y :: zI x :: st) A K = zX d 213 291 ls (zI (zw (x + y)) :: st) A K := zx_iadd z213 dX4_rewrite_290 rfl
theorem s213_291 : zX d 213 291 ls (zI y :: zI x :: st) A K = (if y < x then zX d 213 314 ls st A K else zX d 213 294 ls st A K) := zx_ic_gt z213 dX4_rewrite_291 rfl rfl
theorem s213_294 : zX d 213 294 [zO o, v1, v2, v3, v4, v5, v6, v7, v8, v9, v10, v11, v12, v13] st A K = zX d 213 295 [zO o, v1, v2, v3, v4, v5, v6, v7, v8, v9, v10, v11, v12, v13] (zO o :: st) A K := zx_aload_n z213 dX4_rewrite_294 rfl rfl
theorem s213_295 (h : tg A a = 9) : zX d 213 295 ls (zO (some a) :: st) A K = zX d 213 298 ls (fd A a 11 :: st) A K := zx_getf z213 zo213 dX4_rewrite_295 F10_34 rfl h
theorem s213_298 : zX d 213 298 [v0, v1, v2, v3, v4, v5, v6, v7, zI x, v9, v10, v11, v12, v13] st A K = zX d 213 300 [v0, v1, v2, v3, v4, v5, v6, v7, zI x, v9, v10, v11, v12, v13] (zI x :: st) A K := zx_iload z213 dX4_rewrite_298 rfl rfl
theorem s213_300 : zX d 213 300 [v0, zO o, v2, v3, v4, v5, v6, v7, v8, v9, v10, v11, v12, v13] st A K = zX d 213 301 [v0, zO o, v2, v3, v4, v5, v6, v7, v8, v9, v10, v11, v12, v13] (zO o :: st) A K := zx_aload_n z213 dX4_rewrite_300 rfl rfl
theorem s213_301 : zX d 213 301 [v0, v1, v2, v3, v4, v5, v6, v7, v8, zI x, v10, v11, v12, v13] st A K = zX d 213 303 [v0, v1, v2, v3, v4, v5, v6, v7, v8, zI x, v10, v11, v12, v13] (zI x :: st) A K := zx_iload z213 dX4_rewrite_301 rfl rfl
theorem s213_303 (h : tg A a = 20) (h0 : 0 ≤ x) (h1 : x.toNat < (ia A a).length) : zX d 213 303 ls (zI x :: zO (some a) :: st) A K = zX d 213 304 ls (zI ((ia A a).getD x.toNat 0) :: st) A K := zx_iald z213 dX4_rewrite_303 rfl h h0 h1
theorem s213_303s (h : tg A a = 30) (h0 : 0 ≤ x) (h1 : x.toNat < (ia A a).length) : zX d 213 303 ls (zI x :: zO (some a) :: st) A K = zX d 213 304 ls (zI ((ia A a).getD x.toNat 0) :: st) A K := zx_sald z213 dX4_rewrite_303 rfl h h0 h1
theorem s213_304 (h : tg A a = 20) (h0 : 0 ≤ x) (h1 : x.toNat < (ia A a).length) : zX d 213 304 ls (zI y :: zI x :: zO (some a) :: st) A K = zX d 213 305 ls st (pI A a ((ia A a).set x.toNat y)) K := zx_iast z213 dX4_rewrite_304 rfl h h0 h1
theorem s213_305 : zX d 213 305 [v0, v1, v2, v3, v4, v5, v6, v7, zI x, v9, v10, v11, v12, v13] st A K = zX d 213 308 [v0, v1, v2, v3, v4, v5, v6, v7, zI (zw (x + 1)), v9, v10, v11, v12, v13] st A K := zx_iinc z213 dX4_rewrite_305 rfl rfl rfl
theorem s213_308 : zX d 213 308 [v0, v1, v2, v3, v4, v5, v6, v7, v8, zI x, v10, v11, v12, v13] st A K = zX d 213 311 [v0, v1, v2, v3, v4, v5, v6, v7, v8, zI (zw (x + 1)), v10, v11, v12, v13] st A K := zx_iinc z213 dX4_rewrite_308 rfl rfl rfl
theorem s213_311 : zX d 213 311 ls st A K = zX d 213 284 ls st A K := zx_goto z213 dX4_rewrite_311 rfl
theorem s213_314 : zX d 213 314 [zO o, v1, v2, v3, v4, v5, v6, v7, v8, v9, v10, v11, v12, v13] st A K = zX d 213 315 [zO o, v1, v2, v3, v4, v5, v6, v7, v8, v9, v10, v11, v12, v13] (zO o :: st) A K := zx_aload_n z213 dX4_rewrite_314 rfl rfl
theorem s213_315 (h : tg A a = 9) : zX d 213 315 ls (zO (some a) :: st) A K = zX d 213 318 ls (fd A a 11 :: st) A K := zx_getf z213 zo213 dX4_rewrite_315 F10_34 rfl h
theorem s213_318 : zX d 213 318 ls st A K = zX d 213 319 ls (zI 0 :: st) A K := zx_const z213 dX4_rewrite_318 (by decide) rfl
theorem s213_319 : zX d 213 319 [v0, v1, v2, v3, v4, v5, v6, zI x, v8, v9, v10, v11, v12, v13] st A K = zX d 213 321 [v0, v1, v2, v3, v4, v5, v6, zI x, v8, v9, v10, v11, v12, v13] (zI x :: st) A K := zx_iload z213 dX4_rewrite_319 rfl rfl
theorem s213_321 (h : tg A a = 20) (h0 : 0 ≤ x) (h1 : x.toNat < (ia A a).length) : zX d 213 321 ls (zI y :: zI x :: zO (some a) :: st) A K = zX d 213 322 ls st (pI A a ((ia A a).set x.toNat y)) K := zx_iast z213 dX4_rewrite_321 rfl h h0 h1
theorem s213_322 : zX d 213 322 [v0, v1, v2, v3, v4, v5, v6, zI x, v8, v9, v10, v11, v12, v13] st A K = zX d 213 324 [v0, v1, v2, v3, v4, v5, v6, zI x, v8, v9, v10, v11, v12, v13] (zI x :: st) A K := zx_iload z213 dX4_rewrite_322 rfl rfl
theorem s213_324 : zX d 213 324 ls [zI x] A K = K (Sum.inl (some (zI x))) A := zx_iret z213 dX4_rewrite_324 zk213 rfl
theorem s214_0 : zX d 214 0 [v0, zI x, v2, v3, v4, v5] st A K = zX d 214 1 [v0, zI x, v2, v3, v4, v5] (zI x :: st) A K := zx_iload_n z214 dX4_rewriteOutermost_0 rfl rfl
theorem s214_1 : zX (d + 1) 214 1 ls (zI i0 :: []) A K = zX d 192 0 [zI i0] [] A (zK (d + 1) 214 1 4 ls [] K) := zx_callS z214 zo214 dX4_rewriteOutermost_1 rfl C10_274 rfl rfl zm192 rfl rfl (zwt_le (Nat.le_of_ble_eq_true rfl)) rfl
theorem s214_4 : zX d 214 4 ls (zI x :: st) A K = (if x ≠ 0 then zX d 214 9 ls st A K else zX d 214 7 ls st A K) := zx_if_ne z214 dX4_rewriteOutermost_4 rfl rfl
theorem s214_7 : zX d 214 7 ls st A K = zX d 214 8 ls (zI (-1) :: st) A K := zx_const z214 dX4_rewriteOutermost_7 (by decide) rfl
theorem s214_8 : zX d 214 8 ls [zI x] A K = K (Sum.inl (some (zI x))) A := zx_iret z214 dX4_rewriteOutermost_8 zk214 rfl
theorem s214_9 : zX d 214 9 [v0, v1, zI x, v3, v4, v5] st A K = zX d 214 10 [v0, v1, zI x, v3, v4, v5] (zI x :: st) A K := zx_iload_n z214 dX4_rewriteOutermost_9 rfl rfl
theorem s214_10 : zX d 214 10 ls st A K = zX d 214 11 ls (zI 0 :: st) A K := zx_const z214 dX4_rewriteOutermost_10 (by decide) rfl
theorem s214_11 : zX d 214 11 ls st A K = zX d 214 13 ls (zI (100) :: st) A K := zx_bipush z214 dX4_rewriteOutermost_11 (by decide) rfl
theorem s214_13 : zX (d + 1) 214 13 ls (zI i2 :: zI i1 :: zI i0 :: []) A K = zX d 129 0 [zI i0, zI i1, zI i2] [] A (zK (d + 1) 214 13 16 ls [] K) := zx_callS z214 zo214 dX4_rewriteOutermost_13 rfl C10_105 rfl rfl zm129 rfl rfl (zwt_le (Nat.le_of_ble_eq_true rfl)) rfl
theorem s214_16 : zX d 214 16 ls (zI x :: st) A K = (if x ≠ 0 then zX d 214 22 ls st A K else zX d 214 19 ls st A K) := zx_if_ne z214 dX4_rewriteOutermost_16 rfl rfl
theorem s214_19 : zX d 214 19 ls st A K = zX d 214 21 ls (zI (-2) :: st) A K := zx_bipush z214 dX4_rewriteOutermost_19 (by decide) rfl
theorem s214_21 : zX d 214 21 ls [zI x] A K = K (Sum.inl (some (zI x))) A := zx_iret z214 dX4_rewriteOutermost_21 zk214 rfl
theorem s214_22 : zX d 214 22 ls st A K = zX d 214 23 ls (zI 0 :: st) A K := zx_const z214 dX4_rewriteOutermost_22 (by decide) rfl
theorem s214_23 : zX d 214 23 [v0, v1, v2, v3, v4, v5] (zI x :: st) A K = zX d 214 24 [v0, v1, v2, zI x, v4, v5] st A K := zx_istore_n z214 dX4_rewriteOutermost_23 (Nat.le_of_ble_eq_true rfl) rfl rfl
theorem s214_24 : zX d 214 24 ls st A K = zX d 214 25 ls (zI 1 :: st) A K := zx_const z214 dX4_rewriteOutermost_24 (by decide) rfl
theorem s214_25 : zX d 214 25 [v0, v1, v2, v3, v4, v5] (zI x :: st) A K = zX d 214 27 [v0, v1, v2, v3, zI x, v5] st A K := zx_istore z214 dX4_rewriteOutermost_25 (Nat.le_of_ble_eq_true rfl) rfl rfl
theorem s214_27 : zX d 214 27 [v0, v1, v2, v3, zI x, v5] st A K = zX d 214 29 [v0, v1, v2, v3, zI x, v5] (zI x :: st) A K := zx_iload z214 dX4_rewriteOutermost_27 rfl rfl
theorem s214_29 : zX d 214 29 ls (zI x :: st) A K = (if x = 0 then zX d 214 90 ls st A K else zX d 214 32 ls st A K) := zx_if_eq z214 dX4_rewriteOutermost_29 rfl rfl
theorem s214_32 : zX d 214 32 [v0, v1, v2, zI x, v4, v5] st A K = zX d 214 33 [v0, v1, v2, zI x, v4, v5] (zI x :: st) A K := zx_iload_n z214 dX4_rewriteOutermost_32 rfl rfl
theorem s214_33 : zX d 214 33 [v0, v1, zI x, v3, v4, v5] st A K = zX d 214 34 [v0, v1, zI x, v3, v4, v5] (zI x :: st) A K := zx_iload_n z214 dX4_rewriteOutermost_33 rfl rfl
theorem s214_34 : zX d 214 34 ls (zI y :: zI x :: st) A K = (if y ≤ x then zX d 214 90 ls st A K else zX d 214 37 ls st A K) := zx_ic_ge z214 dX4_rewriteOutermost_34 rfl rfl
theorem s214_37 : zX d 214 37 [zO o, v1, v2, v3, v4, v5] st A K = zX d 214 38 [zO o, v1, v2, v3, v4, v5] (zO o :: st) A K := zx_aload_n z214 dX4_rewriteOutermost_37 rfl rfl
theorem s214_38 : zX d 214 38 [zO o, v1, v2, v3, v4, v5] st A K = zX d 214 39 [zO o, v1, v2, v3, v4, v5] (zO o :: st) A K := zx_aload_n z214 dX4_rewriteOutermost_38 rfl rfl
theorem s214_39 (h : tg A a = 9) : zX d 214 39 ls (zO (some a) :: st) A K = zX d 214 42 ls (fd A a 4 :: st) A K := zx_getf z214 zo214 dX4_rewriteOutermost_39 F10_22 rfl h
theorem s214_42 : zX d 214 42 ls st A K = zX d 214 44 ls (zI (96) :: st) A K := zx_bipush z214 dX4_rewriteOutermost_42 (by decide) rfl
theorem s214_44 : zX d 214 44 [v0, zI x, v2, v3, v4, v5] st A K = zX d 214 45 [v0, zI x, v2, v3, v4, v5] (zI x :: st) A K := zx_iload_n z214 dX4_rewriteOutermost_44 rfl rfl
theorem s214_45 : zX d 214 45 ls (zI y :: zI x :: st) A K = zX d 214 46 ls (zI (zw (x * y)) :: st) A K := zx_imul z214 dX4_rewriteOutermost_45 rfl
theorem s214_46 : zX d 214 46 ls st A K = zX d 214 47 ls (zI 0 :: st) A K := zx_const z214 dX4_rewriteOutermost_46 (by decide) rfl
theorem s214_47 (h : tg A a = 9)  : zX (d + 1) 214 47 ls (zI i2 :: zI i1 :: zO o0 :: zO (some a) :: []) A K = zX d 209 0 [zO (some a), zO o0, zI i1, zI i2, zU, zU] [] A (zK (d + 1) 214 47 50 ls [] K) := zx_callV (t := 9) z214 zo214 dX4_rewriteOutermost_47 rfl C10_298 rfl rfl zm209 rfl rfl (zwt_le (Nat.le_of_ble_eq_true rfl)) rfl h
theorem s214_50 : zX d 214 50 [v0, v1, v2, v3, v4, v5] (zI x :: st) A K = zX d 214 52 [v0, v1, v2, v3, v4, zI x] st A K := zx_istore z214 dX4_rewriteOutermost_50 (Nat.le_of_ble_eq_true rfl) rfl rfl
theorem s214_52 : zX d 214 52 [v0, v1, v2, v3, v4, zI x] st A K = zX d 214 54 [v0, v1, v2, v3, v4, zI x] (zI x :: st) A K := zx_iload z214 dX4_rewriteOutermost_52 rfl rfl
theorem s214_54 : zX d 214 54 ls (zI x :: st) A K = (if x < 0 then zX d 214 71 ls st A K else zX d 214 57 ls st A K) := zx_if_lt z214 dX4_rewriteOutermost_54 rfl rfl
theorem s214_57 : zX d 214 57 [zO o, v1, v2, v3, v4, v5] st A K = zX d 214 58 [zO o, v1, v2, v3, v4, v5] (zO o :: st) A K := zx_aload_n z214 dX4_rewriteOutermost_57 rfl rfl
theorem s214_58 : zX d 214 58 [v0, zI x, v2, v3, v4, v5] st A K = zX d 214 59 [v0, zI x, v2, v3, v4, v5] (zI x :: st) A K := zx_iload_n z214 dX4_rewriteOutermost_58 rfl rfl
theorem s214_59 : zX d 214 59 [v0, v1, v2, v3, v4, zI x] st A K = zX d 214 61 [v0, v1, v2, v3, v4, zI x] (zI x :: st) A K := zx_iload z214 dX4_rewriteOutermost_59 rfl rfl
theorem s214_61 (h : tg A a = 9)  : zX (d + 1) 214 61 ls (zI i1 :: zI i0 :: zO (some a) :: []) A K = zX d 212 0 [zO (some a), zI i0, zI i1, zU] [] A (zK (d + 1) 214 61 64 ls [] K) := zx_callV (t := 9) z214 zo214 dX4_rewriteOutermost_61 rfl C10_304 rfl rfl zm212 rfl rfl (zwt_le (Nat.le_of_ble_eq_true rfl)) rfl h
theorem s214_64 : zX d 214 64 ls (zI x :: st) A K = (if x ≤ 0 then zX d 214 71 ls st A K else zX d 214 67 ls st A K) := zx_if_le z214 dX4_rewriteOutermost_64 rfl rfl
theorem s214_67 : zX d 214 67 ls st A K = zX d 214 68 ls (zI 1 :: st) A K := zx_const z214 dX4_rewriteOutermost_67 (by decide) rfl
theorem s214_68 : zX d 214 68 ls st A K = zX d 214 72 ls st A K := zx_goto z214 dX4_rewriteOutermost_68 rfl
theorem s214_71 : zX d 214 71 ls st A K = zX d 214 72 ls (zI 0 :: st) A K := zx_const z214 dX4_rewriteOutermost_71 (by decide) rfl
theorem s214_72 : zX d 214 72 [v0, v1, v2, v3, v4, v5] (zI x :: st) A K = zX d 214 74 [v0, v1, v2, v3, zI x, v5] st A K := zx_istore z214 dX4_rewriteOutermost_72 (Nat.le_of_ble_eq_true rfl) rfl rfl
theorem s214_74 : zX d 214 74 [v0, v1, v2, zI x, v4, v5] st A K = zX d 214 75 [v0, v1, v2, zI x, v4, v5] (zI x :: st) A K := zx_iload_n z214 dX4_rewriteOutermost_74 rfl rfl
theorem s214_75 : zX d 214 75 [v0, v1, v2, v3, zI x, v5] st A K = zX d 214 77 [v0, v1, v2, v3, zI x, v5] (zI x :: st) A K := zx_iload z214 dX4_rewriteOutermost_75 rfl rfl
theorem s214_77 : zX d 214 77 ls (zI x :: st) A K = (if x = 0 then zX d 214 84 ls st A K else zX d 214 80 ls st A K) := zx_if_eq z214 dX4_rewriteOutermost_77 rfl rfl
theorem s214_80 : zX d 214 80 ls st A K = zX d 214 81 ls (zI 1 :: st) A K := zx_const z214 dX4_rewriteOutermost_80 (by decide) rfl
theorem s214_81 : zX d 214 81 ls st A K = zX d 214 85 ls st A K := zx_goto z214 dX4_rewriteOutermost_81 rfl
theorem s214_84 : zX d 214 84 ls st A K = zX d 214 85 ls (zI 0 :: st) A K := zx_const z214 dX4_rewriteOutermost_84 (by decide) rfl
theorem s214_85 : zX d 214 85 ls (zI y :: zI x :: st) A K = zX d 214 86 ls (zI (zw (x + y)) :: st) A K := zx_iadd z214 dX4_rewriteOutermost_85 rfl
theorem s214_86 : zX d 214 86 [v0, v1, v2, v3, v4, v5] (zI x :: st) A K = zX d 214 87 [v0, v1, v2, zI x, v4, v5] st A K := zx_istore_n z214 dX4_rewriteOutermost_86 (Nat.le_of_ble_eq_true rfl) rfl rfl
theorem s214_87 : zX d 214 87 ls st A K = zX d 214 27 ls st A K := zx_goto z214 dX4_rewriteOutermost_87 rfl
theorem s214_90 : zX d 214 90 [v0, v1, v2, zI x, v4, v5] st A K = zX d 214 91 [v0, v1, v2, zI x, v4, v5] (zI x :: st) A K := zx_iload_n z214 dX4_rewriteOutermost_90 rfl rfl
theorem s214_91 : zX d 214 91 ls [zI x] A K = K (Sum.inl (some (zI x))) A := zx_iret z214 dX4_rewriteOutermost_91 zk214 rfl
theorem s215_0 : zX d 215 0 [v0, zI x, v2, v3, v4, v5] st A K = zX d 215 1 [v0, zI x, v2, v3, v4, v5] (zI x :: st) A K := zx_iload_n z215 dX4_findLoop_0 rfl rfl
theorem s215_1 : zX (d + 1) 215 1 ls (zI i0 :: []) A K = zX d 192 0 [zI i0] [] A (zK (d + 1) 215 1 4 ls [] K) := zx_callS z215 zo215 dX4_findLoop_1 rfl C10_274 rfl rfl zm192 rfl rfl (zwt_le (Nat.le_of_ble_eq_true rfl)) rfl
theorem s215_4 : zX d 215 4 ls (zI x :: st) A K = (if x ≠ 0 then zX d 215 9 ls st A K else zX d 215 7 ls st A K) := zx_if_ne z215 dX4_findLoop_4 rfl rfl
theorem s215_7 : zX d 215 7 ls st A K = zX d 215 8 ls (zI (-1) :: st) A K := zx_const z215 dX4_findLoop_7 (by decide) rfl
theorem s215_8 : zX d 215 8 ls [zI x] A K = K (Sum.inl (some (zI x))) A := zx_iret z215 dX4_findLoop_8 zk215 rfl
theorem s215_9 : zX d 215 9 [v0, v1, zI x, v3, v4, v5] st A K = zX d 215 10 [v0, v1, zI x, v3, v4, v5] (zI x :: st) A K := zx_iload_n z215 dX4_findLoop_9 rfl rfl
theorem s215_10 : zX d 215 10 ls st A K = zX d 215 11 ls (zI 1 :: st) A K := zx_const z215 dX4_findLoop_10 (by decide) rfl
theorem s215_11 : zX d 215 11 ls st A K = zX d 215 13 ls (zI (100) :: st) A K := zx_bipush z215 dX4_findLoop_11 (by decide) rfl
theorem s215_13 : zX (d + 1) 215 13 ls (zI i2 :: zI i1 :: zI i0 :: []) A K = zX d 129 0 [zI i0, zI i1, zI i2] [] A (zK (d + 1) 215 13 16 ls [] K) := zx_callS z215 zo215 dX4_findLoop_13 rfl C10_105 rfl rfl zm129 rfl rfl (zwt_le (Nat.le_of_ble_eq_true rfl)) rfl
theorem s215_16 : zX d 215 16 ls (zI x :: st) A K = (if x ≠ 0 then zX d 215 22 ls st A K else zX d 215 19 ls st A K) := zx_if_ne z215 dX4_findLoop_16 rfl rfl
theorem s215_19 : zX d 215 19 ls st A K = zX d 215 21 ls (zI (-2) :: st) A K := zx_bipush z215 dX4_findLoop_19 (by decide) rfl
theorem s215_21 : zX d 215 21 ls [zI x] A K = K (Sum.inl (some (zI x))) A := zx_iret z215 dX4_findLoop_21 zk215 rfl
theorem s215_22 : zX d 215 22 [zO o, v1, v2, v3, v4, v5] st A K = zX d 215 23 [zO o, v1, v2, v3, v4, v5] (zO o :: st) A K := zx_aload_n z215 dX4_findLoop_22 rfl rfl
theorem s215_23 : zX d 215 23 ls st A K = zX d 215 24 ls (zI 0 :: st) A K := zx_const z215 dX4_findLoop_23 (by decide) rfl
theorem s215_24 (h : tg A a = 9) : zX d 215 24 ls (zI x :: zO (some a) :: st) A K = zX d 215 27 ls st (pF A a 38 (zI x)) K := zx_putf (q := 0) z215 zo215 dX4_findLoop_24 F10_307 rfl rfl rfl h rfl
theorem s215_27 : zX d 215 27 [zO o, v1, v2, v3, v4, v5] st A K = zX d 215 28 [zO o, v1, v2, v3, v4, v5] (zO o :: st) A K := zx_aload_n z215 dX4_findLoop_27 rfl rfl
theorem s215_28 : zX d 215 28 [zO o, v1, v2, v3, v4, v5] st A K = zX d 215 29 [zO o, v1, v2, v3, v4, v5] (zO o :: st) A K := zx_aload_n z215 dX4_findLoop_28 rfl rfl
theorem s215_29 (h : tg A a = 9) : zX d 215 29 ls (zO (some a) :: st) A K = zX d 215 32 ls (fd A a 4 :: st) A K := zx_getf z215 zo215 dX4_findLoop_29 F10_22 rfl h
theorem s215_32 : zX d 215 32 ls st A K = zX d 215 34 ls (zI (96) :: st) A K := zx_bipush z215 dX4_findLoop_32 (by decide) rfl
theorem s215_34 : zX d 215 34 [v0, zI x, v2, v3, v4, v5] st A K = zX d 215 35 [v0, zI x, v2, v3, v4, v5] (zI x :: st) A K := zx_iload_n z215 dX4_findLoop_34 rfl rfl
theorem s215_35 : zX d 215 35 ls (zI y :: zI x :: st) A K = zX d 215 36 ls (zI (zw (x * y)) :: st) A K := zx_imul z215 dX4_findLoop_35 rfl
theorem s215_36 (h : tg A a = 9)  : zX (d + 1) 215 36 ls (zI i1 :: zO o0 :: zO (some a) :: []) A K = zX d 216 0 [zO (some a), zO o0, zI i1] [] A (zK (d + 1) 215 36 39 ls [] K) := zx_callV (t := 9) z215 zo215 dX4_findLoop_36 rfl C10_310 rfl rfl zm216 rfl rfl (zwt_le (Nat.le_of_ble_eq_true rfl)) rfl h
theorem s215_39 : zX d 215 39 ls st A K = zX d 215 40 ls (zI 1 :: st) A K := zx_const z215 dX4_findLoop_39 (by decide) rfl
theorem s215_40 : zX d 215 40 [v0, v1, v2, v3, v4, v5] (zI x :: st) A K = zX d 215 41 [v0, v1, v2, zI x, v4, v5] st A K := zx_istore_n z215 dX4_findLoop_40 (Nat.le_of_ble_eq_true rfl) rfl rfl
theorem s215_41 : zX d 215 41 [v0, v1, v2, zI x, v4, v5] st A K = zX d 215 42 [v0, v1, v2, zI x, v4, v5] (zI x :: st) A K := zx_iload_n z215 dX4_findLoop_41 rfl rfl
theorem s215_42 : zX d 215 42 [v0, v1, zI x, v3, v4, v5] st A K = zX d 215 43 [v0, v1, zI x, v3, v4, v5] (zI x :: st) A K := zx_iload_n z215 dX4_findLoop_42 rfl rfl
theorem s215_43 : zX d 215 43 ls (zI y :: zI x :: st) A K = (if y < x then zX d 215 117 ls st A K else zX d 215 46 ls st A K) := zx_ic_gt z215 dX4_findLoop_43 rfl rfl
theorem s215_46 : zX d 215 46 ls st A K = zX d 215 48 ls (zI (96) :: st) A K := zx_bipush z215 dX4_findLoop_46 (by decide) rfl
theorem s215_48 : zX d 215 48 [zO o, v1, v2, v3, v4, v5] st A K = zX d 215 49 [zO o, v1, v2, v3, v4, v5] (zO o :: st) A K := zx_aload_n z215 dX4_findLoop_48 rfl rfl
theorem s215_49 (h : tg A a = 9) : zX d 215 49 ls (zO (some a) :: st) A K = zX d 215 52 ls (fd A a 38 :: st) A K := zx_getf z215 zo215 dX4_findLoop_49 F10_307 rfl h
theorem s215_52 : zX d 215 52 ls st A K = zX d 215 53 ls (zI 1 :: st) A K := zx_const z215 dX4_findLoop_52 (by decide) rfl
theorem s215_53 : zX d 215 53 ls (zI y :: zI x :: st) A K = zX d 215 54 ls (zI (zw (x - y)) :: st) A K := zx_isub z215 dX4_findLoop_53 rfl
theorem s215_54 : zX d 215 54 ls (zI y :: zI x :: st) A K = zX d 215 55 ls (zI (zw (x * y)) :: st) A K := zx_imul z215 dX4_findLoop_54 rfl
theorem s215_55 : zX d 215 55 [v0, v1, v2, v3, v4, v5] (zI x :: st) A K = zX d 215 57 [v0, v1, v2, v3, zI x, v5] st A K := zx_istore z215 dX4_findLoop_55 (Nat.le_of_ble_eq_true rfl) rfl rfl
theorem s215_57 : zX d 215 57 [zO o, v1, v2, v3, v4, v5] st A K = zX d 215 58 [zO o, v1, v2, v3, v4, v5] (zO o :: st) A K := zx_aload_n z215 dX4_findLoop_57 rfl rfl
theorem s215_58 : zX d 215 58 [zO o, v1, v2, v3, v4, v5] st A K = zX d 215 59 [zO o, v1, v2, v3, v4, v5] (zO o :: st) A K := zx_aload_n z215 dX4_findLoop_58 rfl rfl
theorem s215_59 (h : tg A a = 9) : zX d 215 59 ls (zO (some a) :: st) A K = zX d 215 62 ls (fd A a 36 :: st) A K := zx_getf z215 zo215 dX4_findLoop_59 F10_95 rfl h
theorem s215_62 : zX d 215 62 [v0, v1, v2, v3, zI x, v5] st A K = zX d 215 64 [v0, v1, v2, v3, zI x, v5] (zI x :: st) A K := zx_iload z215 dX4_findLoop_62 rfl rfl
theorem s215_64 : zX d 215 64 ls st A K = zX d 215 65 ls (zI 0 :: st) A K := zx_const z215 dX4_findLoop_64 (by decide) rfl
theorem s215_65 (h : tg A a = 9)  : zX (d + 1) 215 65 ls (zI i2 :: zI i1 :: zO o0 :: zO (some a) :: []) A K = zX d 209 0 [zO (some a), zO o0, zI i1, zI i2, zU, zU] [] A (zK (d + 1) 215 65 68 ls [] K) := zx_callV (t := 9) z215 zo215 dX4_findLoop_65 rfl C10_298 rfl rfl zm209 rfl rfl (zwt_le (Nat.le_of_ble_eq_true rfl)) rfl h
theorem s215_68 : zX d 215 68 [v0, v1, v2, v3, v4, v5] (zI x :: st) A K = zX d 215 70 [v0, v1, v2, v3, v4, zI x] st A K := zx_istore z215 dX4_findLoop_68 (Nat.le_of_ble_eq_true rfl) rfl rfl
theorem s215_70 : zX d 215 70 [v0, v1, v2, v3, v4, zI x] st A K = zX d 215 72 [v0, v1, v2, v3, v4, zI x] (zI x :: st) A K := zx_iload z215 dX4_findLoop_70 rfl rfl
theorem s215_72 : zX d 215 72 ls (zI x :: st) A K = (if x < 0 then zX d 215 90 ls st A K else zX d 215 75 ls st A K) := zx_if_lt z215 dX4_findLoop_72 rfl rfl
theorem s215_75 : zX d 215 75 [zO o, v1, v2, v3, v4, v5] st A K = zX d 215 76 [zO o, v1, v2, v3, v4, v5] (zO o :: st) A K := zx_aload_n z215 dX4_findLoop_75 rfl rfl
theorem s215_76 : zX d 215 76 [zO o, v1, v2, v3, v4, v5] st A K = zX d 215 77 [zO o, v1, v2, v3, v4, v5] (zO o :: st) A K := zx_aload_n z215 dX4_findLoop_76 rfl rfl
theorem s215_77 (h : tg A a = 9) : zX d 215 77 ls (zO (some a) :: st) A K = zX d 215 80 ls (fd A a 36 :: st) A K := zx_getf z215 zo215 dX4_findLoop_77 F10_95 rfl h
theorem s215_80 : zX d 215 80 [v0, v1, v2, v3, zI x, v5] st A K = zX d 215 82 [v0, v1, v2, v3, zI x, v5] (zI x :: st) A K := zx_iload z215 dX4_findLoop_80 rfl rfl
theorem s215_82 : zX d 215 82 [v0, v1, v2, v3, v4, zI x] st A K = zX d 215 84 [v0, v1, v2, v3, v4, zI x] (zI x :: st) A K := zx_iload z215 dX4_findLoop_82 rfl rfl
theorem s215_84 (h : tg A a = 9)  : zX (d + 1) 215 84 ls (zI i2 :: zI i1 :: zO o0 :: zO (some a) :: []) A K = zX d 213 0 [zO (some a), zO o0, zI i1, zI i2, zU, zU, zU, zU, zU, zU, zU, zU, zU, zU] [] A (zK (d + 1) 215 84 87 ls [] K) := zx_callV (t := 9) z215 zo215 dX4_findLoop_84 rfl C10_301 rfl rfl zm213 rfl rfl (zwt_le (Nat.le_of_ble_eq_true rfl)) rfl h
theorem s215_87 : zX d 215 87 ls (zI x :: st) A K = (if 0 ≤ x then zX d 215 93 ls st A K else zX d 215 90 ls st A K) := zx_if_ge z215 dX4_findLoop_87 rfl rfl
theorem s215_90 : zX d 215 90 ls st A K = zX d 215 92 ls (zI (-5) :: st) A K := zx_bipush z215 dX4_findLoop_90 (by decide) rfl
theorem s215_92 : zX d 215 92 ls [zI x] A K = K (Sum.inl (some (zI x))) A := zx_iret z215 dX4_findLoop_92 zk215 rfl
theorem s215_93 : zX d 215 93 [zO o, v1, v2, v3, v4, v5] st A K = zX d 215 94 [zO o, v1, v2, v3, v4, v5] (zO o :: st) A K := zx_aload_n z215 dX4_findLoop_93 rfl rfl
theorem s215_94 (h : tg A a = 9)  : zX (d + 1) 215 94 ls (zO (some a) :: []) A K = zX d 217 0 [zO (some a), zU, zU] [] A (zK (d + 1) 215 94 97 ls [] K) := zx_callV (t := 9) z215 zo215 dX4_findLoop_94 rfl C10_314 rfl rfl zm217 rfl rfl (zwt_le (Nat.le_of_ble_eq_true rfl)) rfl h
theorem s215_97 : zX d 215 97 ls (zI x :: st) A K = (if x = 0 then zX d 215 102 ls st A K else zX d 215 100 ls st A K) := zx_if_eq z215 dX4_findLoop_97 rfl rfl
theorem s215_100 : zX d 215 100 [v0, v1, v2, zI x, v4, v5] st A K = zX d 215 101 [v0, v1, v2, zI x, v4, v5] (zI x :: st) A K := zx_iload_n z215 dX4_findLoop_100 rfl rfl
theorem s215_101 : zX d 215 101 ls [zI x] A K = K (Sum.inl (some (zI x))) A := zx_iret z215 dX4_findLoop_101 zk215 rfl
theorem s215_102 : zX d 215 102 [zO o, v1, v2, v3, v4, v5] st A K = zX d 215 103 [zO o, v1, v2, v3, v4, v5] (zO o :: st) A K := zx_aload_n z215 dX4_findLoop_102 rfl rfl
theorem s215_103 : zX d 215 103 [zO o, v1, v2, v3, v4, v5] st A K = zX d 215 104 [zO o, v1, v2, v3, v4, v5] (zO o :: st) A K := zx_aload_n z215 dX4_findLoop_103 rfl rfl
theorem s215_104 (h : tg A a = 9) : zX d 215 104 ls (zO (some a) :: st) A K = zX d 215 107 ls (fd A a 11 :: st) A K := zx_getf z215 zo215 dX4_findLoop_104 F10_34 rfl h
theorem s215_107 : zX d 215 107 ls st A K = zX d 215 108 ls (zI 0 :: st) A K := zx_const z215 dX4_findLoop_107 (by decide) rfl
theorem s215_108 (h : tg A a = 9)  : zX (d + 1) 215 108 ls (zI i1 :: zO o0 :: zO (some a) :: []) A K = zX d 216 0 [zO (some a), zO o0, zI i1] [] A (zK (d + 1) 215 108 111 ls [] K) := zx_callV (t := 9) z215 zo215 dX4_findLoop_108 rfl C10_310 rfl rfl zm216 rfl rfl (zwt_le (Nat.le_of_ble_eq_true rfl)) rfl h
theorem s215_111 : zX d 215 111 [v0, v1, v2, zI x, v4, v5] st A K = zX d 215 114 [v0, v1, v2, zI (zw (x + 1)), v4, v5] st A K := zx_iinc z215 dX4_findLoop_111 rfl rfl rfl
theorem s215_114 : zX d 215 114 ls st A K = zX d 215 41 ls st A K := zx_goto z215 dX4_findLoop_114 rfl
theorem s215_117 : zX d 215 117 ls st A K = zX d 215 119 ls (zI (-5) :: st) A K := zx_bipush z215 dX4_findLoop_117 (by decide) rfl
theorem s215_119 : zX d 215 119 ls [zI x] A K = K (Sum.inl (some (zI x))) A := zx_iret z215 dX4_findLoop_119 zk215 rfl
theorem s216_0 : zX d 216 0 [v0, zO o, v2] st A K = zX d 216 1 [v0, zO o, v2] (zO o :: st) A K := zx_aload_n z216 dX4_meet_0 rfl rfl
theorem s216_1 : zX d 216 1 [v0, v1, zI x] st A K = zX d 216 2 [v0, v1, zI x] (zI x :: st) A K := zx_iload_n z216 dX4_meet_1 rfl rfl
theorem s216_2 : zX d 216 2 [zO o, v1, v2] st A K = zX d 216 3 [zO o, v1, v2] (zO o :: st) A K := zx_aload_n z216 dX4_meet_2 rfl rfl
theorem s216_3 (h : tg A a = 9) : zX d 216 3 ls (zO (some a) :: st) A K = zX d 216 6 ls (fd A a 36 :: st) A K := zx_getf z216 zo216 dX4_meet_3 F10_95 rfl h
theorem s216_6 : zX d 216 6 ls st A K = zX d 216 8 ls (zI (96) :: st) A K := zx_bipush z216 dX4_meet_6 (by decide) rfl
theorem s216_8 : zX d 216 8 [zO o, v1, v2] st A K = zX d 216 9 [zO o, v1, v2] (zO o :: st) A K := zx_aload_n z216 dX4_meet_8 rfl rfl
theorem s216_9 (h : tg A a = 9) : zX d 216 9 ls (zO (some a) :: st) A K = zX d 216 12 ls (fd A a 38 :: st) A K := zx_getf z216 zo216 dX4_meet_9 F10_307 rfl h
theorem s216_12 : zX d 216 12 ls (zI y :: zI x :: st) A K = zX d 216 13 ls (zI (zw (x * y)) :: st) A K := zx_imul z216 dX4_meet_12 rfl
theorem s216_13 : zX d 216 13 ls st A K = zX d 216 15 ls (zI (96) :: st) A K := zx_bipush z216 dX4_meet_13 (by decide) rfl
theorem s216_15 : zX (d + 1) 216 15 ls (zI i4 :: zI i3 :: zO o2 :: zI i1 :: zO o0 :: []) A K = zX d 138 0 [zO o0, zI i1, zO o2, zI i3, zI i4, zU] [] A (zK (d + 1) 216 15 18 ls [] K) := zx_callS z216 zo216 dX4_meet_15 rfl C10_169 rfl rfl zm138 rfl rfl (zwt_le (Nat.le_of_ble_eq_true rfl)) rfl
theorem s216_18 : zX d 216 18 [zO o, v1, v2] st A K = zX d 216 19 [zO o, v1, v2] (zO o :: st) A K := zx_aload_n z216 dX4_meet_18 rfl rfl
theorem s216_19 (h : tg A a = 9) : zX d 216 19 ls (zO (some a) :: st) A K = zX d 216 22 ls (fd A a 37 :: st) A K := zx_getf z216 zo216 dX4_meet_19 F10_98 rfl h
theorem s216_22 : zX d 216 22 [zO o, v1, v2] st A K = zX d 216 23 [zO o, v1, v2] (zO o :: st) A K := zx_aload_n z216 dX4_meet_22 rfl rfl
theorem s216_23 (h : tg A a = 9) : zX d 216 23 ls (zO (some a) :: st) A K = zX d 216 26 ls (fd A a 38 :: st) A K := zx_getf z216 zo216 dX4_meet_23 F10_307 rfl h
theorem s216_26 : zX d 216 26 ls st A K = zX d 216 27 ls (zI 0 :: st) A K := zx_const z216 dX4_meet_26 (by decide) rfl
theorem s216_27 (h : tg A a = 21) (h0 : 0 ≤ x) (h1 : x.toNat < (ia A a).length) : zX d 216 27 ls (zI y :: zI x :: zO (some a) :: st) A K = zX d 216 28 ls st (pI A a ((ia A a).set x.toNat (zhb y))) K := zx_bast z216 dX4_meet_27 rfl h h0 h1
theorem s216_27z (h : tg A a = 22) (h2 : y = 0 ∨ y = 1) (h0 : 0 ≤ x) (h1 : x.toNat < (ia A a).length) : zX d 216 27 ls (zI y :: zI x :: zO (some a) :: st) A K = zX d 216 28 ls st (pI A a ((ia A a).set x.toNat y)) K := zx_zast z216 dX4_meet_27 rfl h h2 h0 h1
theorem s216_28 : zX d 216 28 [zO o, v1, v2] st A K = zX d 216 29 [zO o, v1, v2] (zO o :: st) A K := zx_aload_n z216 dX4_meet_28 rfl rfl
theorem s216_29 (h : zc v = true) : zX d 216 29 ls (v :: st) A K = zX d 216 30 ls (v :: v :: st) A K := zx_dup z216 dX4_meet_29 rfl h
theorem s216_30 (h : tg A a = 9) : zX d 216 30 ls (zO (some a) :: st) A K = zX d 216 33 ls (fd A a 38 :: st) A K := zx_getf z216 zo216 dX4_meet_30 F10_307 rfl h
theorem s216_33 : zX d 216 33 ls st A K = zX d 216 34 ls (zI 1 :: st) A K := zx_const z216 dX4_meet_33 (by decide) rfl
theorem s216_34 : zX d 216 34 ls (zI y :: zI x :: st) A K = zX d 216 35 ls (zI (zw (x + y)) :: st) A K := zx_iadd z216 dX4_meet_34 rfl
theorem s216_35 (h : tg A a = 9) : zX d 216 35 ls (zI x :: zO (some a) :: st) A K = zX d 216 38 ls st (pF A a 38 (zI x)) K := zx_putf (q := 0) z216 zo216 dX4_meet_35 F10_307 rfl rfl rfl h rfl
theorem s216_38 : zX d 216 38 ls [] A K = K (Sum.inl none) A := zx_vret z216 dX4_meet_38 rfl
theorem s217_0 : zX d 217 0 ls st A K = zX d 217 1 ls (zI 0 :: st) A K := zx_const z217 dX4_isMet_0 (by decide) rfl
theorem s217_1 : zX d 217 1 [v0, v1, v2] (zI x :: st) A K = zX d 217 2 [v0, zI x, v2] st A K := zx_istore_n z217 dX4_isMet_1 (Nat.le_of_ble_eq_true rfl) rfl rfl
theorem s217_2 : zX d 217 2 ls st A K = zX d 217 3 ls (zI 0 :: st) A K := zx_const z217 dX4_isMet_2 (by decide) rfl
theorem s217_3 : zX d 217 3 [v0, v1, v2] (zI x :: st) A K = zX d 217 4 [v0, v1, zI x] st A K := zx_istore_n z217 dX4_isMet_3 (Nat.le_of_ble_eq_true rfl) rfl rfl
theorem s217_4 : zX d 217 4 [v0, v1, zI x] st A K = zX d 217 5 [v0, v1, zI x] (zI x :: st) A K := zx_iload_n z217 dX4_isMet_4 rfl rfl
theorem s217_5 : zX d 217 5 [zO o, v1, v2] st A K = zX d 217 6 [zO o, v1, v2] (zO o :: st) A K := zx_aload_n z217 dX4_isMet_5 rfl rfl
theorem s217_6 (h : tg A a = 9) : zX d 217 6 ls (zO (some a) :: st) A K = zX d 217 9 ls (fd A a 38 :: st) A K := zx_getf z217 zo217 dX4_isMet_6 F10_307 rfl h
theorem s217_9 : zX d 217 9 ls (zI y :: zI x :: st) A K = (if y ≤ x then zX d 217 47 ls st A K else zX d 217 12 ls st A K) := zx_ic_ge z217 dX4_isMet_9 rfl rfl
theorem s217_12 : zX d 217 12 [v0, zI x, v2] st A K = zX d 217 13 [v0, zI x, v2] (zI x :: st) A K := zx_iload_n z217 dX4_isMet_12 rfl rfl
theorem s217_13 : zX d 217 13 ls (zI x :: st) A K = (if x ≠ 0 then zX d 217 47 ls st A K else zX d 217 16 ls st A K) := zx_if_ne z217 dX4_isMet_13 rfl rfl
theorem s217_16 : zX d 217 16 [zO o, v1, v2] st A K = zX d 217 17 [zO o, v1, v2] (zO o :: st) A K := zx_aload_n z217 dX4_isMet_16 rfl rfl
theorem s217_17 (h : tg A a = 9) : zX d 217 17 ls (zO (some a) :: st) A K = zX d 217 20 ls (fd A a 36 :: st) A K := zx_getf z217 zo217 dX4_isMet_17 F10_95 rfl h
theorem s217_20 : zX d 217 20 ls st A K = zX d 217 22 ls (zI (96) :: st) A K := zx_bipush z217 dX4_isMet_20 (by decide) rfl
theorem s217_22 : zX d 217 22 [v0, v1, zI x] st A K = zX d 217 23 [v0, v1, zI x] (zI x :: st) A K := zx_iload_n z217 dX4_isMet_22 rfl rfl
theorem s217_23 : zX d 217 23 ls (zI y :: zI x :: st) A K = zX d 217 24 ls (zI (zw (x * y)) :: st) A K := zx_imul z217 dX4_isMet_23 rfl
theorem s217_24 : zX d 217 24 [zO o, v1, v2] st A K = zX d 217 25 [zO o, v1, v2] (zO o :: st) A K := zx_aload_n z217 dX4_isMet_24 rfl rfl
theorem s217_25 (h : tg A a = 9) : zX d 217 25 ls (zO (some a) :: st) A K = zX d 217 28 ls (fd A a 11 :: st) A K := zx_getf z217 zo217 dX4_isMet_25 F10_34 rfl h
theorem s217_28 : zX d 217 28 ls st A K = zX d 217 29 ls (zI 0 :: st) A K := zx_const z217 dX4_isMet_28 (by decide) rfl
theorem s217_29 : zX (d + 1) 217 29 ls (zI i3 :: zO o2 :: zI i1 :: zO o0 :: []) A K = zX d 199 0 [zO o0, zI i1, zO o2, zI i3, zU] [] A (zK (d + 1) 217 29 32 ls [] K) := zx_callS z217 zo217 dX4_isMet_29 rfl C10_288 rfl rfl zm199 rfl rfl (zwt_le (Nat.le_of_ble_eq_true rfl)) rfl
theorem s217_32 : zX d 217 32 ls (zI x :: st) A K = (if x ≠ 0 then zX d 217 39 ls st A K else zX d 217 35 ls st A K) := zx_if_ne z217 dX4_isMet_32 rfl rfl
theorem s217_35 : zX d 217 35 ls st A K = zX d 217 36 ls (zI 1 :: st) A K := zx_const z217 dX4_isMet_35 (by decide) rfl
theorem s217_36 : zX d 217 36 ls st A K = zX d 217 40 ls st A K := zx_goto z217 dX4_isMet_36 rfl
theorem s217_39 : zX d 217 39 ls st A K = zX d 217 40 ls (zI 0 :: st) A K := zx_const z217 dX4_isMet_39 (by decide) rfl
theorem s217_40 : zX d 217 40 [v0, v1, v2] (zI x :: st) A K = zX d 217 41 [v0, zI x, v2] st A K := zx_istore_n z217 dX4_isMet_40 (Nat.le_of_ble_eq_true rfl) rfl rfl
theorem s217_41 : zX d 217 41 [v0, v1, zI x] st A K = zX d 217 44 [v0, v1, zI (zw (x + 1))] st A K := zx_iinc z217 dX4_isMet_41 rfl rfl rfl
theorem s217_44 : zX d 217 44 ls st A K = zX d 217 4 ls st A K := zx_goto z217 dX4_isMet_44 rfl
theorem s217_47 : zX d 217 47 [v0, zI x, v2] st A K = zX d 217 48 [v0, zI x, v2] (zI x :: st) A K := zx_iload_n z217 dX4_isMet_47 rfl rfl
theorem s217_48 (h : x = 0 ∨ x = 1) : zX d 217 48 ls [zI x] A K = K (Sum.inl (some (zI x))) A := zx_iret z217 dX4_isMet_48 zk217 (by rcases h with q | q <;> subst q <;> rfl)
theorem s218_0 : zX d 218 0 [zO o, v1, v2, v3] st A K = zX d 218 1 [zO o, v1, v2, v3] (zO o :: st) A K := zx_aload_n z218 dX4_exploredCount_0 rfl rfl
theorem s218_1 : zX d 218 1 [v0, zI x, v2, v3] st A K = zX d 218 2 [v0, zI x, v2, v3] (zI x :: st) A K := zx_iload_n z218 dX4_exploredCount_1 rfl rfl
theorem s218_2 : zX d 218 2 [v0, v1, zI x, v3] st A K = zX d 218 3 [v0, v1, zI x, v3] (zI x :: st) A K := zx_iload_n z218 dX4_exploredCount_2 rfl rfl
theorem s218_3 (h : tg A a = 9)  : zX (d + 1) 218 3 ls (zI i1 :: zI i0 :: zO (some a) :: []) A K = zX d 219 0 [zO (some a), zI i0, zI i1] [] A (zK (d + 1) 218 3 6 ls [] K) := zx_callV (t := 9) z218 zo218 dX4_exploredCount_3 rfl C10_326 rfl rfl zm219 rfl rfl (zwt_le (Nat.le_of_ble_eq_true rfl)) rfl h
theorem s218_6 : zX d 218 6 [v0, v1, v2, v3] (zI x :: st) A K = zX d 218 7 [v0, v1, v2, zI x] st A K := zx_istore_n z218 dX4_exploredCount_6 (Nat.le_of_ble_eq_true rfl) rfl rfl
theorem s218_7 : zX d 218 7 [v0, v1, v2, zI x] st A K = zX d 218 8 [v0, v1, v2, zI x] (zI x :: st) A K := zx_iload_n z218 dX4_exploredCount_7 rfl rfl
theorem s218_8 : zX d 218 8 ls (zI x :: st) A K = (if 0 ≤ x then zX d 218 13 ls st A K else zX d 218 11 ls st A K) := zx_if_ge z218 dX4_exploredCount_8 rfl rfl
theorem s218_11 : zX d 218 11 [v0, v1, v2, zI x] st A K = zX d 218 12 [v0, v1, v2, zI x] (zI x :: st) A K := zx_iload_n z218 dX4_exploredCount_11 rfl rfl
theorem s218_12 : zX d 218 12 ls [zI x] A K = K (Sum.inl (some (zI x))) A := zx_iret z218 dX4_exploredCount_12 zk218 rfl
theorem s218_13 : zX d 218 13 [zO o, v1, v2, v3] st A K = zX d 218 14 [zO o, v1, v2, v3] (zO o :: st) A K := zx_aload_n z218 dX4_exploredCount_13 rfl rfl
theorem s218_14 : zX d 218 14 [v0, zI x, v2, v3] st A K = zX d 218 15 [v0, zI x, v2, v3] (zI x :: st) A K := zx_iload_n z218 dX4_exploredCount_14 rfl rfl
theorem s218_15 : zX d 218 15 [v0, v1, zI x, v3] st A K = zX d 218 16 [v0, v1, zI x, v3] (zI x :: st) A K := zx_iload_n z218 dX4_exploredCount_15 rfl rfl
theorem s218_16 (h : tg A a = 9)  : zX (d + 1) 218 16 ls (zI i1 :: zI i0 :: zO (some a) :: []) A K = zX d 220 0 [zO (some a), zI i0, zI i1, zU, zU] [] A (zK (d + 1) 218 16 19 ls [] K) := zx_callV (t := 9) z218 zo218 dX4_exploredCount_16 rfl C10_329 rfl rfl zm220 rfl rfl (zwt_le (Nat.le_of_ble_eq_true rfl)) rfl h
theorem s218_19 : zX d 218 19 [zO o, v1, v2, v3] st A K = zX d 218 20 [zO o, v1, v2, v3] (zO o :: st) A K := zx_aload_n z218 dX4_exploredCount_19 rfl rfl
theorem s218_20 (h : tg A a = 9) : zX d 218 20 ls (zO (some a) :: st) A K = zX d 218 23 ls (fd A a 39 :: st) A K := zx_getf z218 zo218 dX4_exploredCount_20 F10_317 rfl h
theorem s218_23 : zX d 218 23 ls [zI x] A K = K (Sum.inl (some (zI x))) A := zx_iret z218 dX4_exploredCount_23 zk218 rfl
theorem s219_0 : zX d 219 0 [v0, zI x, v2] st A K = zX d 219 1 [v0, zI x, v2] (zI x :: st) A K := zx_iload_n z219 dX4_wrongExploration_0 rfl rfl
theorem s219_1 : zX (d + 1) 219 1 ls (zI i0 :: []) A K = zX d 192 0 [zI i0] [] A (zK (d + 1) 219 1 4 ls [] K) := zx_callS z219 zo219 dX4_wrongExploration_1 rfl C10_274 rfl rfl zm192 rfl rfl (zwt_le (Nat.le_of_ble_eq_true rfl)) rfl
theorem s219_4 : zX d 219 4 ls (zI x :: st) A K = (if x ≠ 0 then zX d 219 11 ls st A K else zX d 219 7 ls st A K) := zx_if_ne z219 dX4_wrongExploration_4 rfl rfl
theorem s219_7 : zX d 219 7 ls st A K = zX d 219 8 ls (zI (-1) :: st) A K := zx_const z219 dX4_wrongExploration_7 (by decide) rfl
theorem s219_8 : zX d 219 8 ls st A K = zX d 219 27 ls st A K := zx_goto z219 dX4_wrongExploration_8 rfl
theorem s219_11 : zX d 219 11 [v0, v1, zI x] st A K = zX d 219 12 [v0, v1, zI x] (zI x :: st) A K := zx_iload_n z219 dX4_wrongExploration_11 rfl rfl
theorem s219_12 : zX d 219 12 ls st A K = zX d 219 13 ls (zI 1 :: st) A K := zx_const z219 dX4_wrongExploration_12 (by decide) rfl
theorem s219_13 : zX d 219 13 ls st A K = zX d 219 15 ls (zI (30) :: st) A K := zx_bipush z219 dX4_wrongExploration_13 (by decide) rfl
theorem s219_15 : zX (d + 1) 219 15 ls (zI i2 :: zI i1 :: zI i0 :: []) A K = zX d 129 0 [zI i0, zI i1, zI i2] [] A (zK (d + 1) 219 15 18 ls [] K) := zx_callS z219 zo219 dX4_wrongExploration_15 rfl C10_105 rfl rfl zm129 rfl rfl (zwt_le (Nat.le_of_ble_eq_true rfl)) rfl
theorem s219_18 : zX d 219 18 ls (zI x :: st) A K = (if x = 0 then zX d 219 25 ls st A K else zX d 219 21 ls st A K) := zx_if_eq z219 dX4_wrongExploration_18 rfl rfl
theorem s219_21 : zX d 219 21 ls st A K = zX d 219 22 ls (zI 0 :: st) A K := zx_const z219 dX4_wrongExploration_21 (by decide) rfl
theorem s219_22 : zX d 219 22 ls st A K = zX d 219 27 ls st A K := zx_goto z219 dX4_wrongExploration_22 rfl
theorem s219_25 : zX d 219 25 ls st A K = zX d 219 27 ls (zI (-2) :: st) A K := zx_bipush z219 dX4_wrongExploration_25 (by decide) rfl
theorem s219_27 : zX d 219 27 ls [zI x] A K = K (Sum.inl (some (zI x))) A := zx_iret z219 dX4_wrongExploration_27 zk219 rfl
theorem s220_0 : zX d 220 0 [zO o, v1, v2, v3, v4] st A K = zX d 220 1 [zO o, v1, v2, v3, v4] (zO o :: st) A K := zx_aload_n z220 dX4_explore_0 rfl rfl
theorem s220_1 : zX d 220 1 ls st A K = zX d 220 2 ls (zI 0 :: st) A K := zx_const z220 dX4_explore_1 (by decide) rfl
theorem s220_2 (h : tg A a = 9) : zX d 220 2 ls (zI x :: zO (some a) :: st) A K = zX d 220 5 ls st (pF A a 38 (zI x)) K := zx_putf (q := 0) z220 zo220 dX4_explore_2 F10_307 rfl rfl rfl h rfl
theorem s220_5 : zX d 220 5 [zO o, v1, v2, v3, v4] st A K = zX d 220 6 [zO o, v1, v2, v3, v4] (zO o :: st) A K := zx_aload_n z220 dX4_explore_5 rfl rfl
theorem s220_6 : zX d 220 6 ls st A K = zX d 220 7 ls (zI 0 :: st) A K := zx_const z220 dX4_explore_6 (by decide) rfl
theorem s220_7 (h : tg A a = 9) : zX d 220 7 ls (zI x :: zO (some a) :: st) A K = zX d 220 10 ls st (pF A a 39 (zI x)) K := zx_putf (q := 0) z220 zo220 dX4_explore_7 F10_317 rfl rfl rfl h rfl
theorem s220_10 : zX d 220 10 [zO o, v1, v2, v3, v4] st A K = zX d 220 11 [zO o, v1, v2, v3, v4] (zO o :: st) A K := zx_aload_n z220 dX4_explore_10 rfl rfl
theorem s220_11 : zX d 220 11 [zO o, v1, v2, v3, v4] st A K = zX d 220 12 [zO o, v1, v2, v3, v4] (zO o :: st) A K := zx_aload_n z220 dX4_explore_11 rfl rfl
theorem s220_12 (h : tg A a = 9) : zX d 220 12 ls (zO (some a) :: st) A K = zX d 220 15 ls (fd A a 4 :: st) A K := zx_getf z220 zo220 dX4_explore_12 F10_22 rfl h
theorem s220_15 : zX d 220 15 ls st A K = zX d 220 17 ls (zI (96) :: st) A K := zx_bipush z220 dX4_explore_15 (by decide) rfl
theorem s220_17 : zX d 220 17 [v0, zI x, v2, v3, v4] st A K = zX d 220 18 [v0, zI x, v2, v3, v4] (zI x :: st) A K := zx_iload_n z220 dX4_explore_17 rfl rfl
theorem s220_18 : zX d 220 18 ls (zI y :: zI x :: st) A K = zX d 220 19 ls (zI (zw (x * y)) :: st) A K := zx_imul z220 dX4_explore_18 rfl
theorem s220_19 (h : tg A a = 9)  : zX (d + 1) 220 19 ls (zI i1 :: zO o0 :: zO (some a) :: []) A K = zX d 216 0 [zO (some a), zO o0, zI i1] [] A (zK (d + 1) 220 19 22 ls [] K) := zx_callV (t := 9) z220 zo220 dX4_explore_19 rfl C10_310 rfl rfl zm216 rfl rfl (zwt_le (Nat.le_of_ble_eq_true rfl)) rfl h
theorem s220_22 : zX d 220 22 ls st A K = zX d 220 23 ls (zI 0 :: st) A K := zx_const z220 dX4_explore_22 (by decide) rfl
theorem s220_23 : zX d 220 23 [v0, v1, v2, v3, v4] (zI x :: st) A K = zX d 220 24 [v0, v1, v2, zI x, v4] st A K := zx_istore_n z220 dX4_explore_23 (Nat.le_of_ble_eq_true rfl) rfl rfl
theorem s220_24 : zX d 220 24 [v0, v1, v2, zI x, v4] st A K = zX d 220 25 [v0, v1, v2, zI x, v4] (zI x :: st) A K := zx_iload_n z220 dX4_explore_24 rfl rfl
theorem s220_25 : zX d 220 25 ls (zI x :: st) A K = (if x < 0 then zX d 220 122 ls st A K else zX d 220 28 ls st A K) := zx_if_lt z220 dX4_explore_25 rfl rfl
theorem s220_28 : zX d 220 28 [zO o, v1, v2, v3, v4] st A K = zX d 220 29 [zO o, v1, v2, v3, v4] (zO o :: st) A K := zx_aload_n z220 dX4_explore_28 rfl rfl
theorem s220_29 (h : tg A a = 9) : zX d 220 29 ls (zO (some a) :: st) A K = zX d 220 32 ls (fd A a 39 :: st) A K := zx_getf z220 zo220 dX4_explore_29 F10_317 rfl h
theorem s220_32 : zX d 220 32 [v0, v1, zI x, v3, v4] st A K = zX d 220 33 [v0, v1, zI x, v3, v4] (zI x :: st) A K := zx_iload_n z220 dX4_explore_32 rfl rfl
theorem s220_33 : zX d 220 33 ls (zI y :: zI x :: st) A K = (if y ≤ x then zX d 220 122 ls st A K else zX d 220 36 ls st A K) := zx_ic_ge z220 dX4_explore_33 rfl rfl
theorem s220_36 : zX d 220 36 [zO o, v1, v2, v3, v4] st A K = zX d 220 37 [zO o, v1, v2, v3, v4] (zO o :: st) A K := zx_aload_n z220 dX4_explore_36 rfl rfl
theorem s220_37 (h : tg A a = 9) : zX d 220 37 ls (zO (some a) :: st) A K = zX d 220 40 ls (fd A a 37 :: st) A K := zx_getf z220 zo220 dX4_explore_37 F10_98 rfl h
theorem s220_40 : zX d 220 40 [v0, v1, v2, zI x, v4] st A K = zX d 220 41 [v0, v1, v2, zI x, v4] (zI x :: st) A K := zx_iload_n z220 dX4_explore_40 rfl rfl
theorem s220_41 : zX d 220 41 ls st A K = zX d 220 42 ls (zI 1 :: st) A K := zx_const z220 dX4_explore_41 (by decide) rfl
theorem s220_42 (h : tg A a = 21) (h0 : 0 ≤ x) (h1 : x.toNat < (ia A a).length) : zX d 220 42 ls (zI y :: zI x :: zO (some a) :: st) A K = zX d 220 43 ls st (pI A a ((ia A a).set x.toNat (zhb y))) K := zx_bast z220 dX4_explore_42 rfl h h0 h1
theorem s220_42z (h : tg A a = 22) (h2 : y = 0 ∨ y = 1) (h0 : 0 ≤ x) (h1 : x.toNat < (ia A a).length) : zX d 220 42 ls (zI y :: zI x :: zO (some a) :: st) A K = zX d 220 43 ls st (pI A a ((ia A a).set x.toNat y)) K := zx_zast z220 dX4_explore_42 rfl h h2 h0 h1
theorem s220_43 : zX d 220 43 [zO o, v1, v2, v3, v4] st A K = zX d 220 44 [zO o, v1, v2, v3, v4] (zO o :: st) A K := zx_aload_n z220 dX4_explore_43 rfl rfl
theorem s220_44 (h : zc v = true) : zX d 220 44 ls (v :: st) A K = zX d 220 45 ls (v :: v :: st) A K := zx_dup z220 dX4_explore_44 rfl h
theorem s220_45 (h : tg A a = 9) : zX d 220 45 ls (zO (some a) :: st) A K = zX d 220 48 ls (fd A a 39 :: st) A K := zx_getf z220 zo220 dX4_explore_45 F10_317 rfl h
theorem s220_48 : zX d 220 48 ls st A K = zX d 220 49 ls (zI 1 :: st) A K := zx_const z220 dX4_explore_48 (by decide) rfl
theorem s220_49 : zX d 220 49 ls (zI y :: zI x :: st) A K = zX d 220 50 ls (zI (zw (x + y)) :: st) A K := zx_iadd z220 dX4_explore_49 rfl
theorem s220_50 (h : tg A a = 9) : zX d 220 50 ls (zI x :: zO (some a) :: st) A K = zX d 220 53 ls st (pF A a 39 (zI x)) K := zx_putf (q := 0) z220 zo220 dX4_explore_50 F10_317 rfl rfl rfl h rfl
theorem s220_53 : zX d 220 53 [zO o, v1, v2, v3, v4] st A K = zX d 220 54 [zO o, v1, v2, v3, v4] (zO o :: st) A K := zx_aload_n z220 dX4_explore_53 rfl rfl
theorem s220_54 : zX d 220 54 [v0, v1, v2, zI x, v4] st A K = zX d 220 55 [v0, v1, v2, zI x, v4] (zI x :: st) A K := zx_iload_n z220 dX4_explore_54 rfl rfl
theorem s220_55 (h : tg A a = 9) : zX d 220 55 ls (zI x :: zO (some a) :: st) A K = zX d 220 58 ls st (pF A a 40 (zI x)) K := zx_putf (q := 0) z220 zo220 dX4_explore_55 F10_320 rfl rfl rfl h rfl
theorem s220_58 : zX d 220 58 ls st A K = zX d 220 59 ls (zI 0 :: st) A K := zx_const z220 dX4_explore_58 (by decide) rfl
theorem s220_59 : zX d 220 59 [v0, v1, v2, v3, v4] (zI x :: st) A K = zX d 220 61 [v0, v1, v2, v3, zI x] st A K := zx_istore z220 dX4_explore_59 (Nat.le_of_ble_eq_true rfl) rfl rfl
theorem s220_61 : zX d 220 61 [v0, v1, v2, v3, zI x] st A K = zX d 220 63 [v0, v1, v2, v3, zI x] (zI x :: st) A K := zx_iload z220 dX4_explore_61 rfl rfl
theorem s220_63 : zX d 220 63 [zO o, v1, v2, v3, v4] st A K = zX d 220 64 [zO o, v1, v2, v3, v4] (zO o :: st) A K := zx_aload_n z220 dX4_explore_63 rfl rfl
theorem s220_64 (h : tg A a = 9) : zX d 220 64 ls (zO (some a) :: st) A K = zX d 220 67 ls (fd A a 36 :: st) A K := zx_getf z220 zo220 dX4_explore_64 F10_95 rfl h
theorem s220_67 : zX d 220 67 ls st A K = zX d 220 69 ls (zI (96) :: st) A K := zx_bipush z220 dX4_explore_67 (by decide) rfl
theorem s220_69 : zX d 220 69 [v0, v1, v2, zI x, v4] st A K = zX d 220 70 [v0, v1, v2, zI x, v4] (zI x :: st) A K := zx_iload_n z220 dX4_explore_69 rfl rfl
theorem s220_70 : zX d 220 70 ls (zI y :: zI x :: st) A K = zX d 220 71 ls (zI (zw (x * y)) :: st) A K := zx_imul z220 dX4_explore_70 rfl
theorem s220_71 (h : tg A a = 20) (h0 : 0 ≤ x) (h1 : x.toNat < (ia A a).length) : zX d 220 71 ls (zI x :: zO (some a) :: st) A K = zX d 220 72 ls (zI ((ia A a).getD x.toNat 0) :: st) A K := zx_iald z220 dX4_explore_71 rfl h h0 h1
theorem s220_71s (h : tg A a = 30) (h0 : 0 ≤ x) (h1 : x.toNat < (ia A a).length) : zX d 220 71 ls (zI x :: zO (some a) :: st) A K = zX d 220 72 ls (zI ((ia A a).getD x.toNat 0) :: st) A K := zx_sald z220 dX4_explore_71 rfl h h0 h1
theorem s220_72 : zX d 220 72 ls (zI y :: zI x :: st) A K = (if y ≤ x then zX d 220 114 ls st A K else zX d 220 75 ls st A K) := zx_ic_ge z220 dX4_explore_72 rfl rfl
theorem s220_75 : zX d 220 75 [zO o, v1, v2, v3, v4] st A K = zX d 220 76 [zO o, v1, v2, v3, v4] (zO o :: st) A K := zx_aload_n z220 dX4_explore_75 rfl rfl
theorem s220_76 : zX d 220 76 [zO o, v1, v2, v3, v4] st A K = zX d 220 77 [zO o, v1, v2, v3, v4] (zO o :: st) A K := zx_aload_n z220 dX4_explore_76 rfl rfl
theorem s220_77 (h : tg A a = 9) : zX d 220 77 ls (zO (some a) :: st) A K = zX d 220 80 ls (fd A a 36 :: st) A K := zx_getf z220 zo220 dX4_explore_77 F10_95 rfl h
theorem s220_80 : zX d 220 80 ls st A K = zX d 220 82 ls (zI (96) :: st) A K := zx_bipush z220 dX4_explore_80 (by decide) rfl
theorem s220_82 : zX d 220 82 [v0, v1, v2, zI x, v4] st A K = zX d 220 83 [v0, v1, v2, zI x, v4] (zI x :: st) A K := zx_iload_n z220 dX4_explore_82 rfl rfl
theorem s220_83 : zX d 220 83 ls (zI y :: zI x :: st) A K = zX d 220 84 ls (zI (zw (x * y)) :: st) A K := zx_imul z220 dX4_explore_83 rfl
theorem s220_84 : zX d 220 84 [v0, v1, v2, v3, zI x] st A K = zX d 220 86 [v0, v1, v2, v3, zI x] (zI x :: st) A K := zx_iload z220 dX4_explore_84 rfl rfl
theorem s220_86 (h : tg A a = 9)  : zX (d + 1) 220 86 ls (zI i2 :: zI i1 :: zO o0 :: zO (some a) :: []) A K = zX d 213 0 [zO (some a), zO o0, zI i1, zI i2, zU, zU, zU, zU, zU, zU, zU, zU, zU, zU] [] A (zK (d + 1) 220 86 89 ls [] K) := zx_callV (t := 9) z220 zo220 dX4_explore_86 rfl C10_301 rfl rfl zm213 rfl rfl (zwt_le (Nat.le_of_ble_eq_true rfl)) rfl h
theorem s220_89 : zX d 220 89 ls (zI x :: st) A K = (if x ≤ 0 then zX d 220 108 ls st A K else zX d 220 92 ls st A K) := zx_if_le z220 dX4_explore_89 rfl rfl
theorem s220_92 : zX d 220 92 [zO o, v1, v2, v3, v4] st A K = zX d 220 93 [zO o, v1, v2, v3, v4] (zO o :: st) A K := zx_aload_n z220 dX4_explore_92 rfl rfl
theorem s220_93 (h : tg A a = 9)  : zX (d + 1) 220 93 ls (zO (some a) :: []) A K = zX d 217 0 [zO (some a), zU, zU] [] A (zK (d + 1) 220 93 96 ls [] K) := zx_callV (t := 9) z220 zo220 dX4_explore_93 rfl C10_314 rfl rfl zm217 rfl rfl (zwt_le (Nat.le_of_ble_eq_true rfl)) rfl h
theorem s220_96 : zX d 220 96 ls (zI x :: st) A K = (if x ≠ 0 then zX d 220 108 ls st A K else zX d 220 99 ls st A K) := zx_if_ne z220 dX4_explore_96 rfl rfl
theorem s220_99 : zX d 220 99 [zO o, v1, v2, v3, v4] st A K = zX d 220 100 [zO o, v1, v2, v3, v4] (zO o :: st) A K := zx_aload_n z220 dX4_explore_99 rfl rfl
theorem s220_100 : zX d 220 100 [zO o, v1, v2, v3, v4] st A K = zX d 220 101 [zO o, v1, v2, v3, v4] (zO o :: st) A K := zx_aload_n z220 dX4_explore_100 rfl rfl
theorem s220_101 (h : tg A a = 9) : zX d 220 101 ls (zO (some a) :: st) A K = zX d 220 104 ls (fd A a 11 :: st) A K := zx_getf z220 zo220 dX4_explore_101 F10_34 rfl h
theorem s220_104 : zX d 220 104 ls st A K = zX d 220 105 ls (zI 0 :: st) A K := zx_const z220 dX4_explore_104 (by decide) rfl
theorem s220_105 (h : tg A a = 9)  : zX (d + 1) 220 105 ls (zI i1 :: zO o0 :: zO (some a) :: []) A K = zX d 216 0 [zO (some a), zO o0, zI i1] [] A (zK (d + 1) 220 105 108 ls [] K) := zx_callV (t := 9) z220 zo220 dX4_explore_105 rfl C10_310 rfl rfl zm216 rfl rfl (zwt_le (Nat.le_of_ble_eq_true rfl)) rfl h
theorem s220_108 : zX d 220 108 [v0, v1, v2, v3, zI x] st A K = zX d 220 111 [v0, v1, v2, v3, zI (zw (x + 1))] st A K := zx_iinc z220 dX4_explore_108 rfl rfl rfl
theorem s220_111 : zX d 220 111 ls st A K = zX d 220 61 ls st A K := zx_goto z220 dX4_explore_111 rfl
theorem s220_114 : zX d 220 114 [zO o, v1, v2, v3, v4] st A K = zX d 220 115 [zO o, v1, v2, v3, v4] (zO o :: st) A K := zx_aload_n z220 dX4_explore_114 rfl rfl
theorem s220_115 (h : tg A a = 9)  : zX (d + 1) 220 115 ls (zO (some a) :: []) A K = zX d 221 0 [zO (some a), zU, zU] [] A (zK (d + 1) 220 115 118 ls [] K) := zx_callV (t := 9) z220 zo220 dX4_explore_115 rfl C10_323 rfl rfl zm221 rfl rfl (zwt_le (Nat.le_of_ble_eq_true rfl)) rfl h
theorem s220_118 : zX d 220 118 [v0, v1, v2, v3, v4] (zI x :: st) A K = zX d 220 119 [v0, v1, v2, zI x, v4] st A K := zx_istore_n z220 dX4_explore_118 (Nat.le_of_ble_eq_true rfl) rfl rfl
theorem s220_119 : zX d 220 119 ls st A K = zX d 220 24 ls st A K := zx_goto z220 dX4_explore_119 rfl
theorem s220_122 : zX d 220 122 ls [] A K = K (Sum.inl none) A := zx_vret z220 dX4_explore_122 rfl
theorem s221_0 : zX d 221 0 ls st A K = zX d 221 2 ls (zI (-5) :: st) A K := zx_bipush z221 dX4_lowestUnexpanded_0 (by decide) rfl
theorem s221_2 : zX d 221 2 [v0, v1, v2] (zI x :: st) A K = zX d 221 3 [v0, zI x, v2] st A K := zx_istore_n z221 dX4_lowestUnexpanded_2 (Nat.le_of_ble_eq_true rfl) rfl rfl
theorem s221_3 : zX d 221 3 ls st A K = zX d 221 4 ls (zI 0 :: st) A K := zx_const z221 dX4_lowestUnexpanded_3 (by decide) rfl
theorem s221_4 : zX d 221 4 [v0, v1, v2] (zI x :: st) A K = zX d 221 5 [v0, v1, zI x] st A K := zx_istore_n z221 dX4_lowestUnexpanded_4 (Nat.le_of_ble_eq_true rfl) rfl rfl
theorem s221_5 : zX d 221 5 [v0, v1, zI x] st A K = zX d 221 6 [v0, v1, zI x] (zI x :: st) A K := zx_iload_n z221 dX4_lowestUnexpanded_5 rfl rfl
theorem s221_6 : zX d 221 6 [zO o, v1, v2] st A K = zX d 221 7 [zO o, v1, v2] (zO o :: st) A K := zx_aload_n z221 dX4_lowestUnexpanded_6 rfl rfl
theorem s221_7 (h : tg A a = 9) : zX d 221 7 ls (zO (some a) :: st) A K = zX d 221 10 ls (fd A a 38 :: st) A K := zx_getf z221 zo221 dX4_lowestUnexpanded_7 F10_307 rfl h
theorem s221_10 : zX d 221 10 ls (zI y :: zI x :: st) A K = (if y ≤ x then zX d 221 56 ls st A K else zX d 221 13 ls st A K) := zx_ic_ge z221 dX4_lowestUnexpanded_10 rfl rfl
theorem s221_13 : zX d 221 13 [zO o, v1, v2] st A K = zX d 221 14 [zO o, v1, v2] (zO o :: st) A K := zx_aload_n z221 dX4_lowestUnexpanded_13 rfl rfl
theorem s221_14 (h : tg A a = 9) : zX d 221 14 ls (zO (some a) :: st) A K = zX d 221 17 ls (fd A a 37 :: st) A K := zx_getf z221 zo221 dX4_lowestUnexpanded_14 F10_98 rfl h
theorem s221_17 : zX d 221 17 [v0, v1, zI x] st A K = zX d 221 18 [v0, v1, zI x] (zI x :: st) A K := zx_iload_n z221 dX4_lowestUnexpanded_17 rfl rfl
theorem s221_18 (h : tg A a = 21) (h0 : 0 ≤ x) (h1 : x.toNat < (ia A a).length) : zX d 221 18 ls (zI x :: zO (some a) :: st) A K = zX d 221 19 ls (zI ((ia A a).getD x.toNat 0) :: st) A K := zx_bald z221 dX4_lowestUnexpanded_18 rfl h h0 h1
theorem s221_18z (h : tg A a = 22) (h0 : 0 ≤ x) (h1 : x.toNat < (ia A a).length) : zX d 221 18 ls (zI x :: zO (some a) :: st) A K = zX d 221 19 ls (zI ((ia A a).getD x.toNat 0) :: st) A K := zx_zald z221 dX4_lowestUnexpanded_18 rfl h h0 h1
theorem s221_19 : zX d 221 19 ls (zI x :: st) A K = (if x ≠ 0 then zX d 221 50 ls st A K else zX d 221 22 ls st A K) := zx_if_ne z221 dX4_lowestUnexpanded_19 rfl rfl
theorem s221_22 : zX d 221 22 [v0, zI x, v2] st A K = zX d 221 23 [v0, zI x, v2] (zI x :: st) A K := zx_iload_n z221 dX4_lowestUnexpanded_22 rfl rfl
theorem s221_23 : zX d 221 23 ls (zI x :: st) A K = (if x < 0 then zX d 221 48 ls st A K else zX d 221 26 ls st A K) := zx_if_lt z221 dX4_lowestUnexpanded_23 rfl rfl
theorem s221_26 : zX d 221 26 [zO o, v1, v2] st A K = zX d 221 27 [zO o, v1, v2] (zO o :: st) A K := zx_aload_n z221 dX4_lowestUnexpanded_26 rfl rfl
theorem s221_27 (h : tg A a = 9) : zX d 221 27 ls (zO (some a) :: st) A K = zX d 221 30 ls (fd A a 36 :: st) A K := zx_getf z221 zo221 dX4_lowestUnexpanded_27 F10_95 rfl h
theorem s221_30 : zX d 221 30 ls st A K = zX d 221 32 ls (zI (96) :: st) A K := zx_bipush z221 dX4_lowestUnexpanded_30 (by decide) rfl
theorem s221_32 : zX d 221 32 [v0, v1, zI x] st A K = zX d 221 33 [v0, v1, zI x] (zI x :: st) A K := zx_iload_n z221 dX4_lowestUnexpanded_32 rfl rfl
theorem s221_33 : zX d 221 33 ls (zI y :: zI x :: st) A K = zX d 221 34 ls (zI (zw (x * y)) :: st) A K := zx_imul z221 dX4_lowestUnexpanded_33 rfl
theorem s221_34 : zX d 221 34 [zO o, v1, v2] st A K = zX d 221 35 [zO o, v1, v2] (zO o :: st) A K := zx_aload_n z221 dX4_lowestUnexpanded_34 rfl rfl
theorem s221_35 (h : tg A a = 9) : zX d 221 35 ls (zO (some a) :: st) A K = zX d 221 38 ls (fd A a 36 :: st) A K := zx_getf z221 zo221 dX4_lowestUnexpanded_35 F10_95 rfl h
theorem s221_38 : zX d 221 38 ls st A K = zX d 221 40 ls (zI (96) :: st) A K := zx_bipush z221 dX4_lowestUnexpanded_38 (by decide) rfl
theorem s221_40 : zX d 221 40 [v0, zI x, v2] st A K = zX d 221 41 [v0, zI x, v2] (zI x :: st) A K := zx_iload_n z221 dX4_lowestUnexpanded_40 rfl rfl
theorem s221_41 : zX d 221 41 ls (zI y :: zI x :: st) A K = zX d 221 42 ls (zI (zw (x * y)) :: st) A K := zx_imul z221 dX4_lowestUnexpanded_41 rfl
theorem s221_42 : zX (d + 1) 221 42 ls (zI i3 :: zO o2 :: zI i1 :: zO o0 :: []) A K = zX d 199 0 [zO o0, zI i1, zO o2, zI i3, zU] [] A (zK (d + 1) 221 42 45 ls [] K) := zx_callS z221 zo221 dX4_lowestUnexpanded_42 rfl C10_288 rfl rfl zm199 rfl rfl (zwt_le (Nat.le_of_ble_eq_true rfl)) rfl
theorem s221_45 : zX d 221 45 ls (zI x :: st) A K = (if 0 ≤ x then zX d 221 50 ls st A K else zX d 221 48 ls st A K) := zx_if_ge z221 dX4_lowestUnexpanded_45 rfl rfl
theorem s221_48 : zX d 221 48 [v0, v1, zI x] st A K = zX d 221 49 [v0, v1, zI x] (zI x :: st) A K := zx_iload_n z221 dX4_lowestUnexpanded_48 rfl rfl
theorem s221_49 : zX d 221 49 [v0, v1, v2] (zI x :: st) A K = zX d 221 50 [v0, zI x, v2] st A K := zx_istore_n z221 dX4_lowestUnexpanded_49 (Nat.le_of_ble_eq_true rfl) rfl rfl
theorem s221_50 : zX d 221 50 [v0, v1, zI x] st A K = zX d 221 53 [v0, v1, zI (zw (x + 1))] st A K := zx_iinc z221 dX4_lowestUnexpanded_50 rfl rfl rfl
theorem s221_53 : zX d 221 53 ls st A K = zX d 221 5 ls st A K := zx_goto z221 dX4_lowestUnexpanded_53 rfl
theorem s221_56 : zX d 221 56 [v0, zI x, v2] st A K = zX d 221 57 [v0, zI x, v2] (zI x :: st) A K := zx_iload_n z221 dX4_lowestUnexpanded_56 rfl rfl
theorem s221_57 : zX d 221 57 ls [zI x] A K = K (Sum.inl (some (zI x))) A := zx_iret z221 dX4_lowestUnexpanded_57 zk221 rfl
theorem s222_0 : zX d 222 0 [zO o, v1, v2, v3, v4, v5] st A K = zX d 222 1 [zO o, v1, v2, v3, v4, v5] (zO o :: st) A K := zx_aload_n z222 dX4_exploredNormalForms_0 rfl rfl
theorem s222_1 : zX d 222 1 [v0, zI x, v2, v3, v4, v5] st A K = zX d 222 2 [v0, zI x, v2, v3, v4, v5] (zI x :: st) A K := zx_iload_n z222 dX4_exploredNormalForms_1 rfl rfl
theorem s222_2 : zX d 222 2 [v0, v1, zI x, v3, v4, v5] st A K = zX d 222 3 [v0, v1, zI x, v3, v4, v5] (zI x :: st) A K := zx_iload_n z222 dX4_exploredNormalForms_2 rfl rfl
theorem s222_3 (h : tg A a = 9)  : zX (d + 1) 222 3 ls (zI i1 :: zI i0 :: zO (some a) :: []) A K = zX d 219 0 [zO (some a), zI i0, zI i1] [] A (zK (d + 1) 222 3 6 ls [] K) := zx_callV (t := 9) z222 zo222 dX4_exploredNormalForms_3 rfl C10_326 rfl rfl zm219 rfl rfl (zwt_le (Nat.le_of_ble_eq_true rfl)) rfl h
theorem s222_6 : zX d 222 6 [v0, v1, v2, v3, v4, v5] (zI x :: st) A K = zX d 222 7 [v0, v1, v2, zI x, v4, v5] st A K := zx_istore_n z222 dX4_exploredNormalForms_6 (Nat.le_of_ble_eq_true rfl) rfl rfl
theorem s222_7 : zX d 222 7 [v0, v1, v2, zI x, v4, v5] st A K = zX d 222 8 [v0, v1, v2, zI x, v4, v5] (zI x :: st) A K := zx_iload_n z222 dX4_exploredNormalForms_7 rfl rfl
theorem s222_8 : zX d 222 8 ls (zI x :: st) A K = (if 0 ≤ x then zX d 222 13 ls st A K else zX d 222 11 ls st A K) := zx_if_ge z222 dX4_exploredNormalForms_8 rfl rfl
theorem s222_11 : zX d 222 11 [v0, v1, v2, zI x, v4, v5] st A K = zX d 222 12 [v0, v1, v2, zI x, v4, v5] (zI x :: st) A K := zx_iload_n z222 dX4_exploredNormalForms_11 rfl rfl
theorem s222_12 : zX d 222 12 ls [zI x] A K = K (Sum.inl (some (zI x))) A := zx_iret z222 dX4_exploredNormalForms_12 zk222 rfl
theorem s222_13 : zX d 222 13 [zO o, v1, v2, v3, v4, v5] st A K = zX d 222 14 [zO o, v1, v2, v3, v4, v5] (zO o :: st) A K := zx_aload_n z222 dX4_exploredNormalForms_13 rfl rfl
theorem s222_14 : zX d 222 14 [v0, zI x, v2, v3, v4, v5] st A K = zX d 222 15 [v0, zI x, v2, v3, v4, v5] (zI x :: st) A K := zx_iload_n z222 dX4_exploredNormalForms_14 rfl rfl
theorem s222_15 : zX d 222 15 [v0, v1, zI x, v3, v4, v5] st A K = zX d 222 16 [v0, v1, zI x, v3, v4, v5] (zI x :: st) A K := zx_iload_n z222 dX4_exploredNormalForms_15 rfl rfl
theorem s222_16 (h : tg A a = 9)  : zX (d + 1) 222 16 ls (zI i1 :: zI i0 :: zO (some a) :: []) A K = zX d 220 0 [zO (some a), zI i0, zI i1, zU, zU] [] A (zK (d + 1) 222 16 19 ls [] K) := zx_callV (t := 9) z222 zo222 dX4_exploredNormalForms_16 rfl C10_329 rfl rfl zm220 rfl rfl (zwt_le (Nat.le_of_ble_eq_true rfl)) rfl h
theorem s222_19 : zX d 222 19 ls st A K = zX d 222 20 ls (zI 0 :: st) A K := zx_const z222 dX4_exploredNormalForms_19 (by decide) rfl
theorem s222_20 : zX d 222 20 [v0, v1, v2, v3, v4, v5] (zI x :: st) A K = zX d 222 22 [v0, v1, v2, v3, zI x, v5] st A K := zx_istore z222 dX4_exploredNormalForms_20 (Nat.le_of_ble_eq_true rfl) rfl rfl
theorem s222_22 : zX d 222 22 ls st A K = zX d 222 23 ls (zI 0 :: st) A K := zx_const z222 dX4_exploredNormalForms_22 (by decide) rfl
theorem s222_23 : zX d 222 23 [v0, v1, v2, v3, v4, v5] (zI x :: st) A K = zX d 222 25 [v0, v1, v2, v3, v4, zI x] st A K := zx_istore z222 dX4_exploredNormalForms_23 (Nat.le_of_ble_eq_true rfl) rfl rfl
theorem s222_25 : zX d 222 25 [v0, v1, v2, v3, v4, zI x] st A K = zX d 222 27 [v0, v1, v2, v3, v4, zI x] (zI x :: st) A K := zx_iload z222 dX4_exploredNormalForms_25 rfl rfl
theorem s222_27 : zX d 222 27 [zO o, v1, v2, v3, v4, v5] st A K = zX d 222 28 [zO o, v1, v2, v3, v4, v5] (zO o :: st) A K := zx_aload_n z222 dX4_exploredNormalForms_27 rfl rfl
theorem s222_28 (h : tg A a = 9) : zX d 222 28 ls (zO (some a) :: st) A K = zX d 222 31 ls (fd A a 38 :: st) A K := zx_getf z222 zo222 dX4_exploredNormalForms_28 F10_307 rfl h
theorem s222_31 : zX d 222 31 ls (zI y :: zI x :: st) A K = (if y ≤ x then zX d 222 76 ls st A K else zX d 222 34 ls st A K) := zx_ic_ge z222 dX4_exploredNormalForms_31 rfl rfl
theorem s222_34 : zX d 222 34 [v0, v1, v2, v3, zI x, v5] st A K = zX d 222 36 [v0, v1, v2, v3, zI x, v5] (zI x :: st) A K := zx_iload z222 dX4_exploredNormalForms_34 rfl rfl
theorem s222_36 : zX d 222 36 [zO o, v1, v2, v3, v4, v5] st A K = zX d 222 37 [zO o, v1, v2, v3, v4, v5] (zO o :: st) A K := zx_aload_n z222 dX4_exploredNormalForms_36 rfl rfl
theorem s222_37 (h : tg A a = 9) : zX d 222 37 ls (zO (some a) :: st) A K = zX d 222 40 ls (fd A a 37 :: st) A K := zx_getf z222 zo222 dX4_exploredNormalForms_37 F10_98 rfl h
theorem s222_40 : zX d 222 40 [v0, v1, v2, v3, v4, zI x] st A K = zX d 222 42 [v0, v1, v2, v3, v4, zI x] (zI x :: st) A K := zx_iload z222 dX4_exploredNormalForms_40 rfl rfl
theorem s222_42 (h : tg A a = 21) (h0 : 0 ≤ x) (h1 : x.toNat < (ia A a).length) : zX d 222 42 ls (zI x :: zO (some a) :: st) A K = zX d 222 43 ls (zI ((ia A a).getD x.toNat 0) :: st) A K := zx_bald z222 dX4_exploredNormalForms_42 rfl h h0 h1
theorem s222_42z (h : tg A a = 22) (h0 : 0 ≤ x) (h1 : x.toNat < (ia A a).length) : zX d 222 42 ls (zI x :: zO (some a) :: st) A K = zX d 222 43 ls (zI ((ia A a).getD x.toNat 0) :: st) A K := zx_zald z222 dX4_exploredNormalForms_42 rfl h h0 h1
theorem s222_43 : zX d 222 43 ls (zI x :: st) A K = (if x = 0 then zX d 222 66 ls st A K else zX d 222 46 ls st A K) := zx_if_eq z222 dX4_exploredNormalForms_43 rfl rfl
theorem s222_46 : zX d 222 46 [zO o, v1, v2, v3, v4, v5] st A K = zX d 222 47 [zO o, v1, v2, v3, v4, v5] (zO o :: st) A K := zx_aload_n z222 dX4_exploredNormalForms_46 rfl rfl
theorem s222_47 : zX d 222 47 [zO o, v1, v2, v3, v4, v5] st A K = zX d 222 48 [zO o, v1, v2, v3, v4, v5] (zO o :: st) A K := zx_aload_n z222 dX4_exploredNormalForms_47 rfl rfl
theorem s222_48 (h : tg A a = 9) : zX d 222 48 ls (zO (some a) :: st) A K = zX d 222 51 ls (fd A a 36 :: st) A K := zx_getf z222 zo222 dX4_exploredNormalForms_48 F10_95 rfl h
theorem s222_51 : zX d 222 51 ls st A K = zX d 222 53 ls (zI (96) :: st) A K := zx_bipush z222 dX4_exploredNormalForms_51 (by decide) rfl
theorem s222_53 : zX d 222 53 [v0, v1, v2, v3, v4, zI x] st A K = zX d 222 55 [v0, v1, v2, v3, v4, zI x] (zI x :: st) A K := zx_iload z222 dX4_exploredNormalForms_53 rfl rfl
theorem s222_55 : zX d 222 55 ls (zI y :: zI x :: st) A K = zX d 222 56 ls (zI (zw (x * y)) :: st) A K := zx_imul z222 dX4_exploredNormalForms_55 rfl
theorem s222_56 (h : tg A a = 9)  : zX (d + 1) 222 56 ls (zI i1 :: zO o0 :: zO (some a) :: [w0]) A K = zX d 223 0 [zO (some a), zO o0, zI i1] [] A (zK (d + 1) 222 56 59 ls [w0] K) := zx_callV (t := 9) z222 zo222 dX4_exploredNormalForms_56 rfl C10_333 rfl rfl zm223 rfl rfl (zwt_le (Nat.le_of_ble_eq_true rfl)) rfl h
theorem s222_59 : zX d 222 59 ls (zI x :: st) A K = (if x = 0 then zX d 222 66 ls st A K else zX d 222 62 ls st A K) := zx_if_eq z222 dX4_exploredNormalForms_59 rfl rfl
theorem s222_62 : zX d 222 62 ls st A K = zX d 222 63 ls (zI 1 :: st) A K := zx_const z222 dX4_exploredNormalForms_62 (by decide) rfl
theorem s222_63 : zX d 222 63 ls st A K = zX d 222 67 ls st A K := zx_goto z222 dX4_exploredNormalForms_63 rfl
theorem s222_66 : zX d 222 66 ls st A K = zX d 222 67 ls (zI 0 :: st) A K := zx_const z222 dX4_exploredNormalForms_66 (by decide) rfl
theorem s222_67 : zX d 222 67 ls (zI y :: zI x :: st) A K = zX d 222 68 ls (zI (zw (x + y)) :: st) A K := zx_iadd z222 dX4_exploredNormalForms_67 rfl
theorem s222_68 : zX d 222 68 [v0, v1, v2, v3, v4, v5] (zI x :: st) A K = zX d 222 70 [v0, v1, v2, v3, zI x, v5] st A K := zx_istore z222 dX4_exploredNormalForms_68 (Nat.le_of_ble_eq_true rfl) rfl rfl
theorem s222_70 : zX d 222 70 [v0, v1, v2, v3, v4, zI x] st A K = zX d 222 73 [v0, v1, v2, v3, v4, zI (zw (x + 1))] st A K := zx_iinc z222 dX4_exploredNormalForms_70 rfl rfl rfl
theorem s222_73 : zX d 222 73 ls st A K = zX d 222 25 ls st A K := zx_goto z222 dX4_exploredNormalForms_73 rfl
theorem s222_76 : zX d 222 76 [v0, v1, v2, v3, zI x, v5] st A K = zX d 222 78 [v0, v1, v2, v3, zI x, v5] (zI x :: st) A K := zx_iload z222 dX4_exploredNormalForms_76 rfl rfl
theorem s222_78 : zX d 222 78 ls [zI x] A K = K (Sum.inl (some (zI x))) A := zx_iret z222 dX4_exploredNormalForms_78 zk222 rfl
theorem s223_0 : zX d 223 0 [zO o, v1, v2] st A K = zX d 223 1 [zO o, v1, v2] (zO o :: st) A K := zx_aload_n z223 dX4_isNormalForm_0 rfl rfl
theorem s223_1 : zX d 223 1 [v0, zO o, v2] st A K = zX d 223 2 [v0, zO o, v2] (zO o :: st) A K := zx_aload_n z223 dX4_isNormalForm_1 rfl rfl
theorem s223_2 : zX d 223 2 [v0, v1, zI x] st A K = zX d 223 3 [v0, v1, zI x] (zI x :: st) A K := zx_iload_n z223 dX4_isNormalForm_2 rfl rfl
theorem s223_3 : zX d 223 3 ls st A K = zX d 223 4 ls (zI (-1) :: st) A K := zx_const z223 dX4_isNormalForm_3 (by decide) rfl
theorem s223_4 (h : tg A a = 9)  : zX (d + 1) 223 4 ls (zI i2 :: zI i1 :: zO o0 :: zO (some a) :: []) A K = zX d 209 0 [zO (some a), zO o0, zI i1, zI i2, zU, zU] [] A (zK (d + 1) 223 4 7 ls [] K) := zx_callV (t := 9) z223 zo223 dX4_isNormalForm_4 rfl C10_298 rfl rfl zm209 rfl rfl (zwt_le (Nat.le_of_ble_eq_true rfl)) rfl h
theorem s223_7 : zX d 223 7 ls (zI x :: st) A K = (if x ≠ 0 then zX d 223 14 ls st A K else zX d 223 10 ls st A K) := zx_if_ne z223 dX4_isNormalForm_7 rfl rfl
theorem s223_10 : zX d 223 10 ls st A K = zX d 223 11 ls (zI 1 :: st) A K := zx_const z223 dX4_isNormalForm_10 (by decide) rfl
theorem s223_11 : zX d 223 11 ls st A K = zX d 223 15 ls st A K := zx_goto z223 dX4_isNormalForm_11 rfl
theorem s223_14 : zX d 223 14 ls st A K = zX d 223 15 ls (zI 0 :: st) A K := zx_const z223 dX4_isNormalForm_14 (by decide) rfl
theorem s223_15 (h : x = 0 ∨ x = 1) : zX d 223 15 ls [zI x] A K = K (Sum.inl (some (zI x))) A := zx_iret z223 dX4_isNormalForm_15 zk223 (by rcases h with q | q <;> subst q <;> rfl)
theorem s224_0 : zX d 224 0 [zO o, v1, v2, v3] st A K = zX d 224 1 [zO o, v1, v2, v3] (zO o :: st) A K := zx_aload_n z224 dX4_lastExploredSize_0 rfl rfl
theorem s224_1 : zX d 224 1 [v0, zI x, v2, v3] st A K = zX d 224 2 [v0, zI x, v2, v3] (zI x :: st) A K := zx_iload_n z224 dX4_lastExploredSize_1 rfl rfl
theorem s224_2 : zX d 224 2 [v0, v1, zI x, v3] st A K = zX d 224 3 [v0, v1, zI x, v3] (zI x :: st) A K := zx_iload_n z224 dX4_lastExploredSize_2 rfl rfl
theorem s224_3 (h : tg A a = 9)  : zX (d + 1) 224 3 ls (zI i1 :: zI i0 :: zO (some a) :: []) A K = zX d 219 0 [zO (some a), zI i0, zI i1] [] A (zK (d + 1) 224 3 6 ls [] K) := zx_callV (t := 9) z224 zo224 dX4_lastExploredSize_3 rfl C10_326 rfl rfl zm219 rfl rfl (zwt_le (Nat.le_of_ble_eq_true rfl)) rfl h
theorem s224_6 : zX d 224 6 [v0, v1, v2, v3] (zI x :: st) A K = zX d 224 7 [v0, v1, v2, zI x] st A K := zx_istore_n z224 dX4_lastExploredSize_6 (Nat.le_of_ble_eq_true rfl) rfl rfl
theorem s224_7 : zX d 224 7 [v0, v1, v2, zI x] st A K = zX d 224 8 [v0, v1, v2, zI x] (zI x :: st) A K := zx_iload_n z224 dX4_lastExploredSize_7 rfl rfl
theorem s224_8 : zX d 224 8 ls (zI x :: st) A K = (if 0 ≤ x then zX d 224 13 ls st A K else zX d 224 11 ls st A K) := zx_if_ge z224 dX4_lastExploredSize_8 rfl rfl
theorem s224_11 : zX d 224 11 [v0, v1, v2, zI x] st A K = zX d 224 12 [v0, v1, v2, zI x] (zI x :: st) A K := zx_iload_n z224 dX4_lastExploredSize_11 rfl rfl
theorem s224_12 : zX d 224 12 ls [zI x] A K = K (Sum.inl (some (zI x))) A := zx_iret z224 dX4_lastExploredSize_12 zk224 rfl
theorem s224_13 : zX d 224 13 [zO o, v1, v2, v3] st A K = zX d 224 14 [zO o, v1, v2, v3] (zO o :: st) A K := zx_aload_n z224 dX4_lastExploredSize_13 rfl rfl
theorem s224_14 : zX d 224 14 [v0, zI x, v2, v3] st A K = zX d 224 15 [v0, zI x, v2, v3] (zI x :: st) A K := zx_iload_n z224 dX4_lastExploredSize_14 rfl rfl
theorem s224_15 : zX d 224 15 [v0, v1, zI x, v3] st A K = zX d 224 16 [v0, v1, zI x, v3] (zI x :: st) A K := zx_iload_n z224 dX4_lastExploredSize_15 rfl rfl
theorem s224_16 (h : tg A a = 9)  : zX (d + 1) 224 16 ls (zI i1 :: zI i0 :: zO (some a) :: []) A K = zX d 220 0 [zO (some a), zI i0, zI i1, zU, zU] [] A (zK (d + 1) 224 16 19 ls [] K) := zx_callV (t := 9) z224 zo224 dX4_lastExploredSize_16 rfl C10_329 rfl rfl zm220 rfl rfl (zwt_le (Nat.le_of_ble_eq_true rfl)) rfl h
theorem s224_19 : zX d 224 19 [zO o, v1, v2, v3] st A K = zX d 224 20 [zO o, v1, v2, v3] (zO o :: st) A K := zx_aload_n z224 dX4_lastExploredSize_19 rfl rfl
theorem s224_20 (h : tg A a = 9) : zX d 224 20 ls (zO (some a) :: st) A K = zX d 224 23 ls (fd A a 36 :: st) A K := zx_getf z224 zo224 dX4_lastExploredSize_20 F10_95 rfl h
theorem s224_23 : zX d 224 23 ls st A K = zX d 224 25 ls (zI (96) :: st) A K := zx_bipush z224 dX4_lastExploredSize_23 (by decide) rfl
theorem s224_25 : zX d 224 25 [zO o, v1, v2, v3] st A K = zX d 224 26 [zO o, v1, v2, v3] (zO o :: st) A K := zx_aload_n z224 dX4_lastExploredSize_25 rfl rfl
theorem s224_26 (h : tg A a = 9) : zX d 224 26 ls (zO (some a) :: st) A K = zX d 224 29 ls (fd A a 40 :: st) A K := zx_getf z224 zo224 dX4_lastExploredSize_26 F10_320 rfl h
theorem s224_29 : zX d 224 29 ls (zI y :: zI x :: st) A K = zX d 224 30 ls (zI (zw (x * y)) :: st) A K := zx_imul z224 dX4_lastExploredSize_29 rfl
theorem s224_30 (h : tg A a = 20) (h0 : 0 ≤ x) (h1 : x.toNat < (ia A a).length) : zX d 224 30 ls (zI x :: zO (some a) :: st) A K = zX d 224 31 ls (zI ((ia A a).getD x.toNat 0) :: st) A K := zx_iald z224 dX4_lastExploredSize_30 rfl h h0 h1
theorem s224_30s (h : tg A a = 30) (h0 : 0 ≤ x) (h1 : x.toNat < (ia A a).length) : zX d 224 30 ls (zI x :: zO (some a) :: st) A K = zX d 224 31 ls (zI ((ia A a).getD x.toNat 0) :: st) A K := zx_sald z224 dX4_lastExploredSize_30 rfl h h0 h1
theorem s224_31 : zX d 224 31 ls [zI x] A K = K (Sum.inl (some (zI x))) A := zx_iret z224 dX4_lastExploredSize_31 zk224 rfl
theorem s225_0 : zX d 225 0 [v0, v1, v2, zI x, v4, v5, v6, v7] st A K = zX d 225 1 [v0, v1, v2, zI x, v4, v5, v6, v7] (zI x :: st) A K := zx_iload_n z225 dX4_loadNormalForm_0 rfl rfl
theorem s225_1 : zX (d + 1) 225 1 ls (zI i0 :: []) A K = zX d 192 0 [zI i0] [] A (zK (d + 1) 225 1 4 ls [] K) := zx_callS z225 zo225 dX4_loadNormalForm_1 rfl C10_274 rfl rfl zm192 rfl rfl (zwt_le (Nat.le_of_ble_eq_true rfl)) rfl
theorem s225_4 : zX d 225 4 ls (zI x :: st) A K = (if x = 0 then zX d 225 16 ls st A K else zX d 225 7 ls st A K) := zx_if_eq z225 dX4_loadNormalForm_4 rfl rfl
theorem s225_7 : zX d 225 7 [zO o, v1, v2, v3, v4, v5, v6, v7] st A K = zX d 225 8 [zO o, v1, v2, v3, v4, v5, v6, v7] (zO o :: st) A K := zx_aload_n z225 dX4_loadNormalForm_7 rfl rfl
theorem s225_8 : zX d 225 8 [v0, zI x, v2, v3, v4, v5, v6, v7] st A K = zX d 225 9 [v0, zI x, v2, v3, v4, v5, v6, v7] (zI x :: st) A K := zx_iload_n z225 dX4_loadNormalForm_8 rfl rfl
theorem s225_9 : zX d 225 9 [v0, v1, zI x, v3, v4, v5, v6, v7] st A K = zX d 225 10 [v0, v1, zI x, v3, v4, v5, v6, v7] (zI x :: st) A K := zx_iload_n z225 dX4_loadNormalForm_9 rfl rfl
theorem s225_10 (h : tg A a = 9)  : zX (d + 1) 225 10 ls (zI i1 :: zI i0 :: zO (some a) :: []) A K = zX d 219 0 [zO (some a), zI i0, zI i1] [] A (zK (d + 1) 225 10 13 ls [] K) := zx_callV (t := 9) z225 zo225 dX4_loadNormalForm_10 rfl C10_326 rfl rfl zm219 rfl rfl (zwt_le (Nat.le_of_ble_eq_true rfl)) rfl h
theorem s225_13 : zX d 225 13 ls st A K = zX d 225 17 ls st A K := zx_goto z225 dX4_loadNormalForm_13 rfl
theorem s225_16 : zX d 225 16 ls st A K = zX d 225 17 ls (zI (-1) :: st) A K := zx_const z225 dX4_loadNormalForm_16 (by decide) rfl
theorem s225_17 : zX d 225 17 [v0, v1, v2, v3, v4, v5, v6, v7] (zI x :: st) A K = zX d 225 19 [v0, v1, v2, v3, zI x, v5, v6, v7] st A K := zx_istore z225 dX4_loadNormalForm_17 (Nat.le_of_ble_eq_true rfl) rfl rfl
theorem s225_19 : zX d 225 19 [v0, v1, v2, v3, zI x, v5, v6, v7] st A K = zX d 225 21 [v0, v1, v2, v3, zI x, v5, v6, v7] (zI x :: st) A K := zx_iload z225 dX4_loadNormalForm_19 rfl rfl
theorem s225_21 : zX d 225 21 ls (zI x :: st) A K = (if 0 ≤ x then zX d 225 27 ls st A K else zX d 225 24 ls st A K) := zx_if_ge z225 dX4_loadNormalForm_21 rfl rfl
theorem s225_24 : zX d 225 24 [v0, v1, v2, v3, zI x, v5, v6, v7] st A K = zX d 225 26 [v0, v1, v2, v3, zI x, v5, v6, v7] (zI x :: st) A K := zx_iload z225 dX4_loadNormalForm_24 rfl rfl
theorem s225_26 : zX d 225 26 ls [zI x] A K = K (Sum.inl (some (zI x))) A := zx_iret z225 dX4_loadNormalForm_26 zk225 rfl
theorem s225_27 : zX d 225 27 [zO o, v1, v2, v3, v4, v5, v6, v7] st A K = zX d 225 28 [zO o, v1, v2, v3, v4, v5, v6, v7] (zO o :: st) A K := zx_aload_n z225 dX4_loadNormalForm_27 rfl rfl
theorem s225_28 : zX d 225 28 [v0, zI x, v2, v3, v4, v5, v6, v7] st A K = zX d 225 29 [v0, zI x, v2, v3, v4, v5, v6, v7] (zI x :: st) A K := zx_iload_n z225 dX4_loadNormalForm_28 rfl rfl
theorem s225_29 : zX d 225 29 [v0, v1, zI x, v3, v4, v5, v6, v7] st A K = zX d 225 30 [v0, v1, zI x, v3, v4, v5, v6, v7] (zI x :: st) A K := zx_iload_n z225 dX4_loadNormalForm_29 rfl rfl
theorem s225_30 (h : tg A a = 9)  : zX (d + 1) 225 30 ls (zI i1 :: zI i0 :: zO (some a) :: []) A K = zX d 220 0 [zO (some a), zI i0, zI i1, zU, zU] [] A (zK (d + 1) 225 30 33 ls [] K) := zx_callV (t := 9) z225 zo225 dX4_loadNormalForm_30 rfl C10_329 rfl rfl zm220 rfl rfl (zwt_le (Nat.le_of_ble_eq_true rfl)) rfl h
theorem s225_33 : zX d 225 33 ls st A K = zX d 225 35 ls (zI (-5) :: st) A K := zx_bipush z225 dX4_loadNormalForm_33 (by decide) rfl
theorem s225_35 : zX d 225 35 [v0, v1, v2, v3, v4, v5, v6, v7] (zI x :: st) A K = zX d 225 37 [v0, v1, v2, v3, v4, zI x, v6, v7] st A K := zx_istore z225 dX4_loadNormalForm_35 (Nat.le_of_ble_eq_true rfl) rfl rfl
theorem s225_37 : zX d 225 37 ls st A K = zX d 225 38 ls (zI 0 :: st) A K := zx_const z225 dX4_loadNormalForm_37 (by decide) rfl
theorem s225_38 : zX d 225 38 [v0, v1, v2, v3, v4, v5, v6, v7] (zI x :: st) A K = zX d 225 40 [v0, v1, v2, v3, v4, v5, zI x, v7] st A K := zx_istore z225 dX4_loadNormalForm_38 (Nat.le_of_ble_eq_true rfl) rfl rfl
theorem s225_40 : zX d 225 40 [v0, v1, v2, v3, v4, v5, zI x, v7] st A K = zX d 225 42 [v0, v1, v2, v3, v4, v5, zI x, v7] (zI x :: st) A K := zx_iload z225 dX4_loadNormalForm_40 rfl rfl
theorem s225_42 : zX d 225 42 [zO o, v1, v2, v3, v4, v5, v6, v7] st A K = zX d 225 43 [zO o, v1, v2, v3, v4, v5, v6, v7] (zO o :: st) A K := zx_aload_n z225 dX4_loadNormalForm_42 rfl rfl
theorem s225_43 (h : tg A a = 9) : zX d 225 43 ls (zO (some a) :: st) A K = zX d 225 46 ls (fd A a 38 :: st) A K := zx_getf z225 zo225 dX4_loadNormalForm_43 F10_307 rfl h
theorem s225_46 : zX d 225 46 ls (zI y :: zI x :: st) A K = (if y ≤ x then zX d 225 131 ls st A K else zX d 225 49 ls st A K) := zx_ic_ge z225 dX4_loadNormalForm_46 rfl rfl
theorem s225_49 : zX d 225 49 [zO o, v1, v2, v3, v4, v5, v6, v7] st A K = zX d 225 50 [zO o, v1, v2, v3, v4, v5, v6, v7] (zO o :: st) A K := zx_aload_n z225 dX4_loadNormalForm_49 rfl rfl
theorem s225_50 (h : tg A a = 9) : zX d 225 50 ls (zO (some a) :: st) A K = zX d 225 53 ls (fd A a 37 :: st) A K := zx_getf z225 zo225 dX4_loadNormalForm_50 F10_98 rfl h
theorem s225_53 : zX d 225 53 [v0, v1, v2, v3, v4, v5, zI x, v7] st A K = zX d 225 55 [v0, v1, v2, v3, v4, v5, zI x, v7] (zI x :: st) A K := zx_iload z225 dX4_loadNormalForm_53 rfl rfl
theorem s225_55 (h : tg A a = 21) (h0 : 0 ≤ x) (h1 : x.toNat < (ia A a).length) : zX d 225 55 ls (zI x :: zO (some a) :: st) A K = zX d 225 56 ls (zI ((ia A a).getD x.toNat 0) :: st) A K := zx_bald z225 dX4_loadNormalForm_55 rfl h h0 h1
theorem s225_55z (h : tg A a = 22) (h0 : 0 ≤ x) (h1 : x.toNat < (ia A a).length) : zX d 225 55 ls (zI x :: zO (some a) :: st) A K = zX d 225 56 ls (zI ((ia A a).getD x.toNat 0) :: st) A K := zx_zald z225 dX4_loadNormalForm_55 rfl h h0 h1
theorem s225_56 : zX d 225 56 ls (zI x :: st) A K = (if x = 0 then zX d 225 79 ls st A K else zX d 225 59 ls st A K) := zx_if_eq z225 dX4_loadNormalForm_56 rfl rfl
theorem s225_59 : zX d 225 59 [zO o, v1, v2, v3, v4, v5, v6, v7] st A K = zX d 225 60 [zO o, v1, v2, v3, v4, v5, v6, v7] (zO o :: st) A K := zx_aload_n z225 dX4_loadNormalForm_59 rfl rfl
theorem s225_60 : zX d 225 60 [zO o, v1, v2, v3, v4, v5, v6, v7] st A K = zX d 225 61 [zO o, v1, v2, v3, v4, v5, v6, v7] (zO o :: st) A K := zx_aload_n z225 dX4_loadNormalForm_60 rfl rfl
theorem s225_61 (h : tg A a = 9) : zX d 225 61 ls (zO (some a) :: st) A K = zX d 225 64 ls (fd A a 36 :: st) A K := zx_getf z225 zo225 dX4_loadNormalForm_61 F10_95 rfl h
theorem s225_64 : zX d 225 64 ls st A K = zX d 225 66 ls (zI (96) :: st) A K := zx_bipush z225 dX4_loadNormalForm_64 (by decide) rfl
theorem s225_66 : zX d 225 66 [v0, v1, v2, v3, v4, v5, zI x, v7] st A K = zX d 225 68 [v0, v1, v2, v3, v4, v5, zI x, v7] (zI x :: st) A K := zx_iload z225 dX4_loadNormalForm_66 rfl rfl
theorem s225_68 : zX d 225 68 ls (zI y :: zI x :: st) A K = zX d 225 69 ls (zI (zw (x * y)) :: st) A K := zx_imul z225 dX4_loadNormalForm_68 rfl
theorem s225_69 (h : tg A a = 9)  : zX (d + 1) 225 69 ls (zI i1 :: zO o0 :: zO (some a) :: []) A K = zX d 223 0 [zO (some a), zO o0, zI i1] [] A (zK (d + 1) 225 69 72 ls [] K) := zx_callV (t := 9) z225 zo225 dX4_loadNormalForm_69 rfl C10_333 rfl rfl zm223 rfl rfl (zwt_le (Nat.le_of_ble_eq_true rfl)) rfl h
theorem s225_72 : zX d 225 72 ls (zI x :: st) A K = (if x = 0 then zX d 225 79 ls st A K else zX d 225 75 ls st A K) := zx_if_eq z225 dX4_loadNormalForm_72 rfl rfl
theorem s225_75 : zX d 225 75 ls st A K = zX d 225 76 ls (zI 1 :: st) A K := zx_const z225 dX4_loadNormalForm_75 (by decide) rfl
theorem s225_76 : zX d 225 76 ls st A K = zX d 225 80 ls st A K := zx_goto z225 dX4_loadNormalForm_76 rfl
theorem s225_79 : zX d 225 79 ls st A K = zX d 225 80 ls (zI 0 :: st) A K := zx_const z225 dX4_loadNormalForm_79 (by decide) rfl
theorem s225_80 : zX d 225 80 [v0, v1, v2, v3, v4, v5, v6, v7] (zI x :: st) A K = zX d 225 82 [v0, v1, v2, v3, v4, v5, v6, zI x] st A K := zx_istore z225 dX4_loadNormalForm_80 (Nat.le_of_ble_eq_true rfl) rfl rfl
theorem s225_82 : zX d 225 82 [v0, v1, v2, v3, v4, v5, v6, zI x] st A K = zX d 225 84 [v0, v1, v2, v3, v4, v5, v6, zI x] (zI x :: st) A K := zx_iload z225 dX4_loadNormalForm_82 rfl rfl
theorem s225_84 : zX d 225 84 ls (zI x :: st) A K = (if x = 0 then zX d 225 121 ls st A K else zX d 225 87 ls st A K) := zx_if_eq z225 dX4_loadNormalForm_84 rfl rfl
theorem s225_87 : zX d 225 87 [v0, v1, v2, v3, v4, zI x, v6, v7] st A K = zX d 225 89 [v0, v1, v2, v3, v4, zI x, v6, v7] (zI x :: st) A K := zx_iload z225 dX4_loadNormalForm_87 rfl rfl
theorem s225_89 : zX d 225 89 ls (zI x :: st) A K = (if x < 0 then zX d 225 116 ls st A K else zX d 225 92 ls st A K) := zx_if_lt z225 dX4_loadNormalForm_89 rfl rfl
theorem s225_92 : zX d 225 92 [zO o, v1, v2, v3, v4, v5, v6, v7] st A K = zX d 225 93 [zO o, v1, v2, v3, v4, v5, v6, v7] (zO o :: st) A K := zx_aload_n z225 dX4_loadNormalForm_92 rfl rfl
theorem s225_93 (h : tg A a = 9) : zX d 225 93 ls (zO (some a) :: st) A K = zX d 225 96 ls (fd A a 36 :: st) A K := zx_getf z225 zo225 dX4_loadNormalForm_93 F10_95 rfl h
theorem s225_96 : zX d 225 96 ls st A K = zX d 225 98 ls (zI (96) :: st) A K := zx_bipush z225 dX4_loadNormalForm_96 (by decide) rfl
theorem s225_98 : zX d 225 98 [v0, v1, v2, v3, v4, v5, zI x, v7] st A K = zX d 225 100 [v0, v1, v2, v3, v4, v5, zI x, v7] (zI x :: st) A K := zx_iload z225 dX4_loadNormalForm_98 rfl rfl
theorem s225_100 : zX d 225 100 ls (zI y :: zI x :: st) A K = zX d 225 101 ls (zI (zw (x * y)) :: st) A K := zx_imul z225 dX4_loadNormalForm_100 rfl
theorem s225_101 : zX d 225 101 [zO o, v1, v2, v3, v4, v5, v6, v7] st A K = zX d 225 102 [zO o, v1, v2, v3, v4, v5, v6, v7] (zO o :: st) A K := zx_aload_n z225 dX4_loadNormalForm_101 rfl rfl
theorem s225_102 (h : tg A a = 9) : zX d 225 102 ls (zO (some a) :: st) A K = zX d 225 105 ls (fd A a 36 :: st) A K := zx_getf z225 zo225 dX4_loadNormalForm_102 F10_95 rfl h
theorem s225_105 : zX d 225 105 ls st A K = zX d 225 107 ls (zI (96) :: st) A K := zx_bipush z225 dX4_loadNormalForm_105 (by decide) rfl
theorem s225_107 : zX d 225 107 [v0, v1, v2, v3, v4, zI x, v6, v7] st A K = zX d 225 109 [v0, v1, v2, v3, v4, zI x, v6, v7] (zI x :: st) A K := zx_iload z225 dX4_loadNormalForm_107 rfl rfl
theorem s225_109 : zX d 225 109 ls (zI y :: zI x :: st) A K = zX d 225 110 ls (zI (zw (x * y)) :: st) A K := zx_imul z225 dX4_loadNormalForm_109 rfl
theorem s225_110 : zX (d + 1) 225 110 ls (zI i3 :: zO o2 :: zI i1 :: zO o0 :: []) A K = zX d 199 0 [zO o0, zI i1, zO o2, zI i3, zU] [] A (zK (d + 1) 225 110 113 ls [] K) := zx_callS z225 zo225 dX4_loadNormalForm_110 rfl C10_288 rfl rfl zm199 rfl rfl (zwt_le (Nat.le_of_ble_eq_true rfl)) rfl
theorem s225_113 : zX d 225 113 ls (zI x :: st) A K = (if 0 ≤ x then zX d 225 121 ls st A K else zX d 225 116 ls st A K) := zx_if_ge z225 dX4_loadNormalForm_113 rfl rfl
theorem s225_116 : zX d 225 116 [v0, v1, v2, v3, v4, v5, zI x, v7] st A K = zX d 225 118 [v0, v1, v2, v3, v4, v5, zI x, v7] (zI x :: st) A K := zx_iload z225 dX4_loadNormalForm_116 rfl rfl
theorem s225_118 : zX d 225 118 ls st A K = zX d 225 123 ls st A K := zx_goto z225 dX4_loadNormalForm_118 rfl
theorem s225_121 : zX d 225 121 [v0, v1, v2, v3, v4, zI x, v6, v7] st A K = zX d 225 123 [v0, v1, v2, v3, v4, zI x, v6, v7] (zI x :: st) A K := zx_iload z225 dX4_loadNormalForm_121 rfl rfl
theorem s225_123 : zX d 225 123 [v0, v1, v2, v3, v4, v5, v6, v7] (zI x :: st) A K = zX d 225 125 [v0, v1, v2, v3, v4, zI x, v6, v7] st A K := zx_istore z225 dX4_loadNormalForm_123 (Nat.le_of_ble_eq_true rfl) rfl rfl
theorem s225_125 : zX d 225 125 [v0, v1, v2, v3, v4, v5, zI x, v7] st A K = zX d 225 128 [v0, v1, v2, v3, v4, v5, zI (zw (x + 1)), v7] st A K := zx_iinc z225 dX4_loadNormalForm_125 rfl rfl rfl
theorem s225_128 : zX d 225 128 ls st A K = zX d 225 40 ls st A K := zx_goto z225 dX4_loadNormalForm_128 rfl
theorem s225_131 : zX d 225 131 [v0, v1, v2, v3, v4, zI x, v6, v7] st A K = zX d 225 133 [v0, v1, v2, v3, v4, zI x, v6, v7] (zI x :: st) A K := zx_iload z225 dX4_loadNormalForm_131 rfl rfl
theorem s225_133 : zX d 225 133 ls (zI x :: st) A K = (if 0 ≤ x then zX d 225 139 ls st A K else zX d 225 136 ls st A K) := zx_if_ge z225 dX4_loadNormalForm_133 rfl rfl
theorem s225_136 : zX d 225 136 ls st A K = zX d 225 138 ls (zI (-5) :: st) A K := zx_bipush z225 dX4_loadNormalForm_136 (by decide) rfl
theorem s225_138 : zX d 225 138 ls [zI x] A K = K (Sum.inl (some (zI x))) A := zx_iret z225 dX4_loadNormalForm_138 zk225 rfl
theorem s225_139 : zX d 225 139 [zO o, v1, v2, v3, v4, v5, v6, v7] st A K = zX d 225 140 [zO o, v1, v2, v3, v4, v5, v6, v7] (zO o :: st) A K := zx_aload_n z225 dX4_loadNormalForm_139 rfl rfl
theorem s225_140 (h : tg A a = 9) : zX d 225 140 ls (zO (some a) :: st) A K = zX d 225 143 ls (fd A a 36 :: st) A K := zx_getf z225 zo225 dX4_loadNormalForm_140 F10_95 rfl h
theorem s225_143 : zX d 225 143 ls st A K = zX d 225 145 ls (zI (96) :: st) A K := zx_bipush z225 dX4_loadNormalForm_143 (by decide) rfl
theorem s225_145 : zX d 225 145 [v0, v1, v2, v3, v4, zI x, v6, v7] st A K = zX d 225 147 [v0, v1, v2, v3, v4, zI x, v6, v7] (zI x :: st) A K := zx_iload z225 dX4_loadNormalForm_145 rfl rfl
theorem s225_147 : zX d 225 147 ls (zI y :: zI x :: st) A K = zX d 225 148 ls (zI (zw (x * y)) :: st) A K := zx_imul z225 dX4_loadNormalForm_147 rfl
theorem s225_148 : zX d 225 148 [zO o, v1, v2, v3, v4, v5, v6, v7] st A K = zX d 225 149 [zO o, v1, v2, v3, v4, v5, v6, v7] (zO o :: st) A K := zx_aload_n z225 dX4_loadNormalForm_148 rfl rfl
theorem s225_149 (h : tg A a = 9) : zX d 225 149 ls (zO (some a) :: st) A K = zX d 225 152 ls (fd A a 4 :: st) A K := zx_getf z225 zo225 dX4_loadNormalForm_149 F10_22 rfl h
theorem s225_152 : zX d 225 152 ls st A K = zX d 225 154 ls (zI (96) :: st) A K := zx_bipush z225 dX4_loadNormalForm_152 (by decide) rfl
theorem s225_154 : zX d 225 154 [v0, v1, v2, zI x, v4, v5, v6, v7] st A K = zX d 225 155 [v0, v1, v2, zI x, v4, v5, v6, v7] (zI x :: st) A K := zx_iload_n z225 dX4_loadNormalForm_154 rfl rfl
theorem s225_155 : zX d 225 155 ls (zI y :: zI x :: st) A K = zX d 225 156 ls (zI (zw (x * y)) :: st) A K := zx_imul z225 dX4_loadNormalForm_155 rfl
theorem s225_156 : zX d 225 156 ls st A K = zX d 225 158 ls (zI (96) :: st) A K := zx_bipush z225 dX4_loadNormalForm_156 (by decide) rfl
theorem s225_158 : zX (d + 1) 225 158 ls (zI i4 :: zI i3 :: zO o2 :: zI i1 :: zO o0 :: []) A K = zX d 138 0 [zO o0, zI i1, zO o2, zI i3, zI i4, zU] [] A (zK (d + 1) 225 158 161 ls [] K) := zx_callS z225 zo225 dX4_loadNormalForm_158 rfl C10_169 rfl rfl zm138 rfl rfl (zwt_le (Nat.le_of_ble_eq_true rfl)) rfl
theorem s225_161 : zX d 225 161 [zO o, v1, v2, v3, v4, v5, v6, v7] st A K = zX d 225 162 [zO o, v1, v2, v3, v4, v5, v6, v7] (zO o :: st) A K := zx_aload_n z225 dX4_loadNormalForm_161 rfl rfl
theorem s225_162 (h : tg A a = 9) : zX d 225 162 ls (zO (some a) :: st) A K = zX d 225 165 ls (fd A a 36 :: st) A K := zx_getf z225 zo225 dX4_loadNormalForm_162 F10_95 rfl h
theorem s225_165 : zX d 225 165 ls st A K = zX d 225 167 ls (zI (96) :: st) A K := zx_bipush z225 dX4_loadNormalForm_165 (by decide) rfl
theorem s225_167 : zX d 225 167 [v0, v1, v2, v3, v4, zI x, v6, v7] st A K = zX d 225 169 [v0, v1, v2, v3, v4, zI x, v6, v7] (zI x :: st) A K := zx_iload z225 dX4_loadNormalForm_167 rfl rfl
theorem s225_169 : zX d 225 169 ls (zI y :: zI x :: st) A K = zX d 225 170 ls (zI (zw (x * y)) :: st) A K := zx_imul z225 dX4_loadNormalForm_169 rfl
theorem s225_170 (h : tg A a = 20) (h0 : 0 ≤ x) (h1 : x.toNat < (ia A a).length) : zX d 225 170 ls (zI x :: zO (some a) :: st) A K = zX d 225 171 ls (zI ((ia A a).getD x.toNat 0) :: st) A K := zx_iald z225 dX4_loadNormalForm_170 rfl h h0 h1
theorem s225_170s (h : tg A a = 30) (h0 : 0 ≤ x) (h1 : x.toNat < (ia A a).length) : zX d 225 170 ls (zI x :: zO (some a) :: st) A K = zX d 225 171 ls (zI ((ia A a).getD x.toNat 0) :: st) A K := zx_sald z225 dX4_loadNormalForm_170 rfl h h0 h1
theorem s225_171 : zX d 225 171 ls [zI x] A K = K (Sum.inl (some (zI x))) A := zx_iret z225 dX4_loadNormalForm_171 zk225 rfl
theorem s226_0 : zX d 226 0 ls st A K = zX d 226 1 ls (zI 0 :: st) A K := zx_const z226 dX4_normalFormRegisterCount_0 (by decide) rfl
theorem s226_1 : zX d 226 1 [v0, v1, v2] (zI x :: st) A K = zX d 226 2 [v0, zI x, v2] st A K := zx_istore_n z226 dX4_normalFormRegisterCount_1 (Nat.le_of_ble_eq_true rfl) rfl rfl
theorem s226_2 : zX d 226 2 ls st A K = zX d 226 3 ls (zI 0 :: st) A K := zx_const z226 dX4_normalFormRegisterCount_2 (by decide) rfl
theorem s226_3 : zX d 226 3 [v0, v1, v2] (zI x :: st) A K = zX d 226 4 [v0, v1, zI x] st A K := zx_istore_n z226 dX4_normalFormRegisterCount_3 (Nat.le_of_ble_eq_true rfl) rfl rfl
theorem s226_4 : zX d 226 4 [v0, v1, zI x] st A K = zX d 226 5 [v0, v1, zI x] (zI x :: st) A K := zx_iload_n z226 dX4_normalFormRegisterCount_4 rfl rfl
theorem s226_5 : zX d 226 5 ls st A K = zX d 226 6 ls (zI 4 :: st) A K := zx_const z226 dX4_normalFormRegisterCount_5 (by decide) rfl
theorem s226_6 : zX d 226 6 ls (zI y :: zI x :: st) A K = (if y ≤ x then zX d 226 38 ls st A K else zX d 226 9 ls st A K) := zx_ic_ge z226 dX4_normalFormRegisterCount_6 rfl rfl
theorem s226_9 : zX d 226 9 [v0, zI x, v2] st A K = zX d 226 10 [v0, zI x, v2] (zI x :: st) A K := zx_iload_n z226 dX4_normalFormRegisterCount_9 rfl rfl
theorem s226_10 : zX d 226 10 [zO o, v1, v2] st A K = zX d 226 11 [zO o, v1, v2] (zO o :: st) A K := zx_aload_n z226 dX4_normalFormRegisterCount_10 rfl rfl
theorem s226_11 : zX d 226 11 [zO o, v1, v2] st A K = zX d 226 12 [zO o, v1, v2] (zO o :: st) A K := zx_aload_n z226 dX4_normalFormRegisterCount_11 rfl rfl
theorem s226_12 (h : tg A a = 9) : zX d 226 12 ls (zO (some a) :: st) A K = zX d 226 15 ls (fd A a 4 :: st) A K := zx_getf z226 zo226 dX4_normalFormRegisterCount_12 F10_22 rfl h
theorem s226_15 : zX d 226 15 ls st A K = zX d 226 17 ls (zI (96) :: st) A K := zx_bipush z226 dX4_normalFormRegisterCount_15 (by decide) rfl
theorem s226_17 : zX d 226 17 [v0, v1, zI x] st A K = zX d 226 18 [v0, v1, zI x] (zI x :: st) A K := zx_iload_n z226 dX4_normalFormRegisterCount_17 rfl rfl
theorem s226_18 : zX d 226 18 ls (zI y :: zI x :: st) A K = zX d 226 19 ls (zI (zw (x * y)) :: st) A K := zx_imul z226 dX4_normalFormRegisterCount_18 rfl
theorem s226_19 (h : tg A a = 9)  : zX (d + 1) 226 19 ls (zI i1 :: zO o0 :: zO (some a) :: [w0]) A K = zX d 223 0 [zO (some a), zO o0, zI i1] [] A (zK (d + 1) 226 19 22 ls [w0] K) := zx_callV (t := 9) z226 zo226 dX4_normalFormRegisterCount_19 rfl C10_333 rfl rfl zm223 rfl rfl (zwt_le (Nat.le_of_ble_eq_true rfl)) rfl h
theorem s226_22 : zX d 226 22 ls (zI x :: st) A K = (if x = 0 then zX d 226 29 ls st A K else zX d 226 25 ls st A K) := zx_if_eq z226 dX4_normalFormRegisterCount_22 rfl rfl
theorem s226_25 : zX d 226 25 ls st A K = zX d 226 26 ls (zI 1 :: st) A K := zx_const z226 dX4_normalFormRegisterCount_25 (by decide) rfl
theorem s226_26 : zX d 226 26 ls st A K = zX d 226 30 ls st A K := zx_goto z226 dX4_normalFormRegisterCount_26 rfl
theorem s226_29 : zX d 226 29 ls st A K = zX d 226 30 ls (zI 0 :: st) A K := zx_const z226 dX4_normalFormRegisterCount_29 (by decide) rfl
theorem s226_30 : zX d 226 30 ls (zI y :: zI x :: st) A K = zX d 226 31 ls (zI (zw (x + y)) :: st) A K := zx_iadd z226 dX4_normalFormRegisterCount_30 rfl
theorem s226_31 : zX d 226 31 [v0, v1, v2] (zI x :: st) A K = zX d 226 32 [v0, zI x, v2] st A K := zx_istore_n z226 dX4_normalFormRegisterCount_31 (Nat.le_of_ble_eq_true rfl) rfl rfl
theorem s226_32 : zX d 226 32 [v0, v1, zI x] st A K = zX d 226 35 [v0, v1, zI (zw (x + 1))] st A K := zx_iinc z226 dX4_normalFormRegisterCount_32 rfl rfl rfl
theorem s226_35 : zX d 226 35 ls st A K = zX d 226 4 ls st A K := zx_goto z226 dX4_normalFormRegisterCount_35 rfl
theorem s226_38 : zX d 226 38 [v0, zI x, v2] st A K = zX d 226 39 [v0, zI x, v2] (zI x :: st) A K := zx_iload_n z226 dX4_normalFormRegisterCount_38 rfl rfl
theorem s226_39 : zX d 226 39 ls [zI x] A K = K (Sum.inl (some (zI x))) A := zx_iret z226 dX4_normalFormRegisterCount_39 zk226 rfl
theorem s227_0 : zX d 227 0 [v0, zI x] st A K = zX d 227 1 [v0, zI x] (zI x :: st) A K := zx_iload_n z227 dX4_appendCharacter_0 rfl rfl
theorem s227_1 : zX d 227 1 ls st A K = zX d 227 3 ls (zI (32) :: st) A K := zx_bipush z227 dX4_appendCharacter_1 (by decide) rfl
theorem s227_3 : zX d 227 3 ls st A K = zX d 227 5 ls (zI (126) :: st) A K := zx_bipush z227 dX4_appendCharacter_3 (by decide) rfl
theorem s227_5 : zX (d + 1) 227 5 ls (zI i2 :: zI i1 :: zI i0 :: []) A K = zX d 129 0 [zI i0, zI i1, zI i2] [] A (zK (d + 1) 227 5 8 ls [] K) := zx_callS z227 zo227 dX4_appendCharacter_5 rfl C10_105 rfl rfl zm129 rfl rfl (zwt_le (Nat.le_of_ble_eq_true rfl)) rfl
theorem s227_8 : zX d 227 8 ls (zI x :: st) A K = (if x ≠ 0 then zX d 227 14 ls st A K else zX d 227 11 ls st A K) := zx_if_ne z227 dX4_appendCharacter_8 rfl rfl
theorem s227_11 : zX d 227 11 ls st A K = zX d 227 13 ls (zI (-2) :: st) A K := zx_bipush z227 dX4_appendCharacter_11 (by decide) rfl
theorem s227_13 : zX d 227 13 ls [zI x] A K = K (Sum.inl (some (zI x))) A := zx_iret z227 dX4_appendCharacter_13 zk227 rfl
theorem s227_14 : zX d 227 14 [zO o, v1] st A K = zX d 227 15 [zO o, v1] (zO o :: st) A K := zx_aload_n z227 dX4_appendCharacter_14 rfl rfl
theorem s227_15 (h : tg A a = 9) : zX d 227 15 ls (zO (some a) :: st) A K = zX d 227 18 ls (fd A a 15 :: st) A K := zx_getf z227 zo227 dX4_appendCharacter_15 F10_151 rfl h
theorem s227_18 : zX d 227 18 ls st A K = zX d 227 20 ls (zI (80) :: st) A K := zx_bipush z227 dX4_appendCharacter_18 (by decide) rfl
theorem s227_20 : zX d 227 20 ls (zI y :: zI x :: st) A K = (if x ≠ y then zX d 227 26 ls st A K else zX d 227 23 ls st A K) := zx_ic_ne z227 dX4_appendCharacter_20 rfl rfl
theorem s227_23 : zX d 227 23 ls st A K = zX d 227 25 ls (zI (-4) :: st) A K := zx_bipush z227 dX4_appendCharacter_23 (by decide) rfl
theorem s227_25 : zX d 227 25 ls [zI x] A K = K (Sum.inl (some (zI x))) A := zx_iret z227 dX4_appendCharacter_25 zk227 rfl
theorem s227_26 : zX d 227 26 [zO o, v1] st A K = zX d 227 27 [zO o, v1] (zO o :: st) A K := zx_aload_n z227 dX4_appendCharacter_26 rfl rfl
theorem s227_27 (h : tg A a = 9) : zX d 227 27 ls (zO (some a) :: st) A K = zX d 227 30 ls (fd A a 12 :: st) A K := zx_getf z227 zo227 dX4_appendCharacter_27 F10_37 rfl h
theorem s227_30 : zX d 227 30 [zO o, v1] st A K = zX d 227 31 [zO o, v1] (zO o :: st) A K := zx_aload_n z227 dX4_appendCharacter_30 rfl rfl
theorem s227_31 (h : tg A a = 9) : zX d 227 31 ls (zO (some a) :: st) A K = zX d 227 34 ls (fd A a 15 :: st) A K := zx_getf z227 zo227 dX4_appendCharacter_31 F10_151 rfl h
theorem s227_34 : zX d 227 34 [v0, zI x] st A K = zX d 227 35 [v0, zI x] (zI x :: st) A K := zx_iload_n z227 dX4_appendCharacter_34 rfl rfl
theorem s227_35 (h : tg A a = 20) (h0 : 0 ≤ x) (h1 : x.toNat < (ia A a).length) : zX d 227 35 ls (zI y :: zI x :: zO (some a) :: st) A K = zX d 227 36 ls st (pI A a ((ia A a).set x.toNat y)) K := zx_iast z227 dX4_appendCharacter_35 rfl h h0 h1
theorem s227_36 : zX d 227 36 [zO o, v1] st A K = zX d 227 37 [zO o, v1] (zO o :: st) A K := zx_aload_n z227 dX4_appendCharacter_36 rfl rfl
theorem s227_37 (h : zc v = true) : zX d 227 37 ls (v :: st) A K = zX d 227 38 ls (v :: v :: st) A K := zx_dup z227 dX4_appendCharacter_37 rfl h
theorem s227_38 (h : tg A a = 9) : zX d 227 38 ls (zO (some a) :: st) A K = zX d 227 41 ls (fd A a 15 :: st) A K := zx_getf z227 zo227 dX4_appendCharacter_38 F10_151 rfl h
theorem s227_41 : zX d 227 41 ls st A K = zX d 227 42 ls (zI 1 :: st) A K := zx_const z227 dX4_appendCharacter_41 (by decide) rfl
theorem s227_42 : zX d 227 42 ls (zI y :: zI x :: st) A K = zX d 227 43 ls (zI (zw (x + y)) :: st) A K := zx_iadd z227 dX4_appendCharacter_42 rfl
theorem s227_43 (h : tg A a = 9) : zX d 227 43 ls (zI x :: zO (some a) :: st) A K = zX d 227 46 ls st (pF A a 15 (zI x)) K := zx_putf (q := 0) z227 zo227 dX4_appendCharacter_43 F10_151 rfl rfl rfl h rfl
theorem s227_46 : zX d 227 46 [zO o, v1] st A K = zX d 227 47 [zO o, v1] (zO o :: st) A K := zx_aload_n z227 dX4_appendCharacter_46 rfl rfl
theorem s227_47 (h : tg A a = 9) : zX d 227 47 ls (zO (some a) :: st) A K = zX d 227 50 ls (fd A a 15 :: st) A K := zx_getf z227 zo227 dX4_appendCharacter_47 F10_151 rfl h
theorem s227_50 : zX d 227 50 ls [zI x] A K = K (Sum.inl (some (zI x))) A := zx_iret z227 dX4_appendCharacter_50 zk227 rfl
theorem s228_0 : zX d 228 0 [zO o, v1] st A K = zX d 228 1 [zO o, v1] (zO o :: st) A K := zx_aload_n z228 dX4_clearText_0 rfl rfl
theorem s228_1 (h : tg A a = 9) : zX d 228 1 ls (zO (some a) :: st) A K = zX d 228 4 ls (fd A a 15 :: st) A K := zx_getf z228 zo228 dX4_clearText_1 F10_151 rfl h
theorem s228_4 : zX d 228 4 [v0, v1] (zI x :: st) A K = zX d 228 5 [v0, zI x] st A K := zx_istore_n z228 dX4_clearText_4 (Nat.le_of_ble_eq_true rfl) rfl rfl
theorem s228_5 : zX d 228 5 [zO o, v1] st A K = zX d 228 6 [zO o, v1] (zO o :: st) A K := zx_aload_n z228 dX4_clearText_5 rfl rfl
theorem s228_6 : zX d 228 6 ls st A K = zX d 228 7 ls (zI 0 :: st) A K := zx_const z228 dX4_clearText_6 (by decide) rfl
theorem s228_7 (h : tg A a = 9) : zX d 228 7 ls (zI x :: zO (some a) :: st) A K = zX d 228 10 ls st (pF A a 15 (zI x)) K := zx_putf (q := 0) z228 zo228 dX4_clearText_7 F10_151 rfl rfl rfl h rfl
theorem s228_10 : zX d 228 10 [v0, zI x] st A K = zX d 228 11 [v0, zI x] (zI x :: st) A K := zx_iload_n z228 dX4_clearText_10 rfl rfl
theorem s228_11 : zX d 228 11 ls [zI x] A K = K (Sum.inl (some (zI x))) A := zx_iret z228 dX4_clearText_11 zk228 rfl
theorem s229_0 : zX d 229 0 [zO o] st A K = zX d 229 1 [zO o] (zO o :: st) A K := zx_aload_n z229 dX4_textLength_0 rfl rfl
theorem s229_1 (h : tg A a = 9) : zX d 229 1 ls (zO (some a) :: st) A K = zX d 229 4 ls (fd A a 15 :: st) A K := zx_getf z229 zo229 dX4_textLength_1 F10_151 rfl h
theorem s229_4 : zX d 229 4 ls [zI x] A K = K (Sum.inl (some (zI x))) A := zx_iret z229 dX4_textLength_4 zk229 rfl
theorem s230_0 : zX d 230 0 [zO o] st A K = zX d 230 1 [zO o] (zO o :: st) A K := zx_aload_n z230 dX4_saveSnapshot_0 rfl rfl
theorem s230_1 (h : tg A a = 9) : zX d 230 1 ls (zO (some a) :: st) A K = zX d 230 4 ls (fd A a 0 :: st) A K := zx_getf z230 zo230 dX4_saveSnapshot_1 F10_9 rfl h
theorem s230_4 : zX d 230 4 ls st A K = zX d 230 5 ls (zI 0 :: st) A K := zx_const z230 dX4_saveSnapshot_4 (by decide) rfl
theorem s230_5 : zX d 230 5 [zO o] st A K = zX d 230 6 [zO o] (zO o :: st) A K := zx_aload_n z230 dX4_saveSnapshot_5 rfl rfl
theorem s230_6 (h : tg A a = 9) : zX d 230 6 ls (zO (some a) :: st) A K = zX d 230 9 ls (fd A a 1 :: st) A K := zx_getf z230 zo230 dX4_saveSnapshot_6 F10_13 rfl h
theorem s230_9 : zX d 230 9 ls st A K = zX d 230 10 ls (zI 0 :: st) A K := zx_const z230 dX4_saveSnapshot_9 (by decide) rfl
theorem s230_10 : zX d 230 10 ls st A K = zX d 230 11 ls (zI 3 :: st) A K := zx_const z230 dX4_saveSnapshot_10 (by decide) rfl
theorem s230_11 : zX (d + 1) 230 11 ls (zI i4 :: zI i3 :: zO o2 :: zI i1 :: zO o0 :: []) A K = zX d 138 0 [zO o0, zI i1, zO o2, zI i3, zI i4, zU] [] A (zK (d + 1) 230 11 14 ls [] K) := zx_callS z230 zo230 dX4_saveSnapshot_11 rfl C10_169 rfl rfl zm138 rfl rfl (zwt_le (Nat.le_of_ble_eq_true rfl)) rfl
theorem s230_14 : zX d 230 14 [zO o] st A K = zX d 230 15 [zO o] (zO o :: st) A K := zx_aload_n z230 dX4_saveSnapshot_14 rfl rfl
theorem s230_15 (h : tg A a = 9) : zX d 230 15 ls (zO (some a) :: st) A K = zX d 230 18 ls (fd A a 2 :: st) A K := zx_getf z230 zo230 dX4_saveSnapshot_15 F10_16 rfl h
theorem s230_18 : zX d 230 18 ls st A K = zX d 230 19 ls (zI 0 :: st) A K := zx_const z230 dX4_saveSnapshot_18 (by decide) rfl
theorem s230_19 : zX d 230 19 [zO o] st A K = zX d 230 20 [zO o] (zO o :: st) A K := zx_aload_n z230 dX4_saveSnapshot_19 rfl rfl
theorem s230_20 (h : tg A a = 9) : zX d 230 20 ls (zO (some a) :: st) A K = zX d 230 23 ls (fd A a 3 :: st) A K := zx_getf z230 zo230 dX4_saveSnapshot_20 F10_19 rfl h
theorem s230_23 : zX d 230 23 ls st A K = zX d 230 24 ls (zI 0 :: st) A K := zx_const z230 dX4_saveSnapshot_23 (by decide) rfl
theorem s230_24 : zX d 230 24 [zO o] st A K = zX d 230 25 [zO o] (zO o :: st) A K := zx_aload_n z230 dX4_saveSnapshot_24 rfl rfl
theorem s230_25 (h : tg A a = 9) : zX d 230 25 ls (zO (some a) :: st) A K = zX d 230 28 ls (fd A a 2 :: st) A K := zx_getf z230 zo230 dX4_saveSnapshot_25 F10_16 rfl h
theorem s230_28 (h : zarr (tg A a) ≠ 0) : zX d 230 28 ls (zO (some a) :: st) A K = zX d 230 29 ls (zI (zlen A a : Nat) :: st) A K := zx_alen z230 dX4_saveSnapshot_28 rfl h
theorem s230_29 : zX (d + 1) 230 29 ls (zI i4 :: zI i3 :: zO o2 :: zI i1 :: zO o0 :: []) A K = zX d 138 0 [zO o0, zI i1, zO o2, zI i3, zI i4, zU] [] A (zK (d + 1) 230 29 32 ls [] K) := zx_callS z230 zo230 dX4_saveSnapshot_29 rfl C10_169 rfl rfl zm138 rfl rfl (zwt_le (Nat.le_of_ble_eq_true rfl)) rfl
theorem s230_32 : zX d 230 32 [zO o] st A K = zX d 230 33 [zO o] (zO o :: st) A K := zx_aload_n z230 dX4_saveSnapshot_32 rfl rfl
theorem s230_33 (h : tg A a = 9) : zX d 230 33 ls (zO (some a) :: st) A K = zX d 230 36 ls (fd A a 4 :: st) A K := zx_getf z230 zo230 dX4_saveSnapshot_33 F10_22 rfl h
theorem s230_36 : zX d 230 36 ls st A K = zX d 230 37 ls (zI 0 :: st) A K := zx_const z230 dX4_saveSnapshot_36 (by decide) rfl
theorem s230_37 : zX d 230 37 [zO o] st A K = zX d 230 38 [zO o] (zO o :: st) A K := zx_aload_n z230 dX4_saveSnapshot_37 rfl rfl
theorem s230_38 (h : tg A a = 9) : zX d 230 38 ls (zO (some a) :: st) A K = zX d 230 41 ls (fd A a 5 :: st) A K := zx_getf z230 zo230 dX4_saveSnapshot_38 F10_25 rfl h
theorem s230_41 : zX d 230 41 ls st A K = zX d 230 42 ls (zI 0 :: st) A K := zx_const z230 dX4_saveSnapshot_41 (by decide) rfl
theorem s230_42 : zX d 230 42 [zO o] st A K = zX d 230 43 [zO o] (zO o :: st) A K := zx_aload_n z230 dX4_saveSnapshot_42 rfl rfl
theorem s230_43 (h : tg A a = 9) : zX d 230 43 ls (zO (some a) :: st) A K = zX d 230 46 ls (fd A a 4 :: st) A K := zx_getf z230 zo230 dX4_saveSnapshot_43 F10_22 rfl h
theorem s230_46 (h : zarr (tg A a) ≠ 0) : zX d 230 46 ls (zO (some a) :: st) A K = zX d 230 47 ls (zI (zlen A a : Nat) :: st) A K := zx_alen z230 dX4_saveSnapshot_46 rfl h
theorem s230_47 : zX (d + 1) 230 47 ls (zI i4 :: zI i3 :: zO o2 :: zI i1 :: zO o0 :: []) A K = zX d 138 0 [zO o0, zI i1, zO o2, zI i3, zI i4, zU] [] A (zK (d + 1) 230 47 50 ls [] K) := zx_callS z230 zo230 dX4_saveSnapshot_47 rfl C10_169 rfl rfl zm138 rfl rfl (zwt_le (Nat.le_of_ble_eq_true rfl)) rfl
theorem s230_50 : zX d 230 50 [zO o] st A K = zX d 230 51 [zO o] (zO o :: st) A K := zx_aload_n z230 dX4_saveSnapshot_50 rfl rfl
theorem s230_51 : zX d 230 51 [zO o] st A K = zX d 230 52 [zO o] (zO o :: st) A K := zx_aload_n z230 dX4_saveSnapshot_51 rfl rfl
theorem s230_52 (h : tg A a = 9) : zX d 230 52 ls (zO (some a) :: st) A K = zX d 230 55 ls (fd A a 6 :: st) A K := zx_getf z230 zo230 dX4_saveSnapshot_52 F10_121 rfl h
theorem s230_55 (h : tg A a = 9) : zX d 230 55 ls (zI x :: zO (some a) :: st) A K = zX d 230 58 ls st (pF A a 7 (zI x)) K := zx_putf (q := 0) z230 zo230 dX4_saveSnapshot_55 F10_336 rfl rfl rfl h rfl
theorem s230_58 : zX d 230 58 [zO o] st A K = zX d 230 59 [zO o] (zO o :: st) A K := zx_aload_n z230 dX4_saveSnapshot_58 rfl rfl
theorem s230_59 : zX d 230 59 ls st A K = zX d 230 60 ls (zI 1 :: st) A K := zx_const z230 dX4_saveSnapshot_59 (by decide) rfl
theorem s230_60 (h : tg A a = 9) (h2 : x = 0 ∨ x = 1) : zX d 230 60 ls (zI x :: zO (some a) :: st) A K = zX d 230 63 ls st (pF A a 8 (zI x)) K := zx_putf (q := 1) z230 zo230 dX4_saveSnapshot_60 F10_339 rfl rfl rfl h (by rcases h2 with q | q <;> subst q <;> rfl)
theorem s230_63 : zX d 230 63 [zO o] st A K = zX d 230 64 [zO o] (zO o :: st) A K := zx_aload_n z230 dX4_saveSnapshot_63 rfl rfl
theorem s230_64 (h : tg A a = 9) : zX d 230 64 ls (zO (some a) :: st) A K = zX d 230 67 ls (fd A a 6 :: st) A K := zx_getf z230 zo230 dX4_saveSnapshot_64 F10_121 rfl h
theorem s230_67 : zX d 230 67 ls [zI x] A K = K (Sum.inl (some (zI x))) A := zx_iret z230 dX4_saveSnapshot_67 zk230 rfl
theorem s231_0 : zX d 231 0 [zO o] st A K = zX d 231 1 [zO o] (zO o :: st) A K := zx_aload_n z231 dX4_restoreSnapshot_0 rfl rfl
theorem s231_1 (h : tg A a = 9) : zX d 231 1 ls (zO (some a) :: st) A K = zX d 231 4 ls (fd A a 8 :: st) A K := zx_getf z231 zo231 dX4_restoreSnapshot_1 F10_339 rfl h
theorem s231_4 : zX d 231 4 ls (zI x :: st) A K = (if x ≠ 0 then zX d 231 10 ls st A K else zX d 231 7 ls st A K) := zx_if_ne z231 dX4_restoreSnapshot_4 rfl rfl
theorem s231_7 : zX d 231 7 ls st A K = zX d 231 9 ls (zI (-3) :: st) A K := zx_bipush z231 dX4_restoreSnapshot_7 (by decide) rfl
theorem s231_9 : zX d 231 9 ls [zI x] A K = K (Sum.inl (some (zI x))) A := zx_iret z231 dX4_restoreSnapshot_9 zk231 rfl
theorem s231_10 : zX d 231 10 [zO o] st A K = zX d 231 11 [zO o] (zO o :: st) A K := zx_aload_n z231 dX4_restoreSnapshot_10 rfl rfl
theorem s231_11 (h : tg A a = 9) : zX d 231 11 ls (zO (some a) :: st) A K = zX d 231 14 ls (fd A a 1 :: st) A K := zx_getf z231 zo231 dX4_restoreSnapshot_11 F10_13 rfl h
theorem s231_14 : zX d 231 14 ls st A K = zX d 231 15 ls (zI 0 :: st) A K := zx_const z231 dX4_restoreSnapshot_14 (by decide) rfl
theorem s231_15 : zX d 231 15 [zO o] st A K = zX d 231 16 [zO o] (zO o :: st) A K := zx_aload_n z231 dX4_restoreSnapshot_15 rfl rfl
theorem s231_16 (h : tg A a = 9) : zX d 231 16 ls (zO (some a) :: st) A K = zX d 231 19 ls (fd A a 0 :: st) A K := zx_getf z231 zo231 dX4_restoreSnapshot_16 F10_9 rfl h
theorem s231_19 : zX d 231 19 ls st A K = zX d 231 20 ls (zI 0 :: st) A K := zx_const z231 dX4_restoreSnapshot_19 (by decide) rfl
theorem s231_20 : zX d 231 20 ls st A K = zX d 231 21 ls (zI 3 :: st) A K := zx_const z231 dX4_restoreSnapshot_20 (by decide) rfl
theorem s231_21 : zX (d + 1) 231 21 ls (zI i4 :: zI i3 :: zO o2 :: zI i1 :: zO o0 :: []) A K = zX d 138 0 [zO o0, zI i1, zO o2, zI i3, zI i4, zU] [] A (zK (d + 1) 231 21 24 ls [] K) := zx_callS z231 zo231 dX4_restoreSnapshot_21 rfl C10_169 rfl rfl zm138 rfl rfl (zwt_le (Nat.le_of_ble_eq_true rfl)) rfl
theorem s231_24 : zX d 231 24 [zO o] st A K = zX d 231 25 [zO o] (zO o :: st) A K := zx_aload_n z231 dX4_restoreSnapshot_24 rfl rfl
theorem s231_25 (h : tg A a = 9) : zX d 231 25 ls (zO (some a) :: st) A K = zX d 231 28 ls (fd A a 3 :: st) A K := zx_getf z231 zo231 dX4_restoreSnapshot_25 F10_19 rfl h
theorem s231_28 : zX d 231 28 ls st A K = zX d 231 29 ls (zI 0 :: st) A K := zx_const z231 dX4_restoreSnapshot_28 (by decide) rfl
theorem s231_29 : zX d 231 29 [zO o] st A K = zX d 231 30 [zO o] (zO o :: st) A K := zx_aload_n z231 dX4_restoreSnapshot_29 rfl rfl
theorem s231_30 (h : tg A a = 9) : zX d 231 30 ls (zO (some a) :: st) A K = zX d 231 33 ls (fd A a 2 :: st) A K := zx_getf z231 zo231 dX4_restoreSnapshot_30 F10_16 rfl h
theorem s231_33 : zX d 231 33 ls st A K = zX d 231 34 ls (zI 0 :: st) A K := zx_const z231 dX4_restoreSnapshot_33 (by decide) rfl
theorem s231_34 : zX d 231 34 [zO o] st A K = zX d 231 35 [zO o] (zO o :: st) A K := zx_aload_n z231 dX4_restoreSnapshot_34 rfl rfl
theorem s231_35 (h : tg A a = 9) : zX d 231 35 ls (zO (some a) :: st) A K = zX d 231 38 ls (fd A a 2 :: st) A K := zx_getf z231 zo231 dX4_restoreSnapshot_35 F10_16 rfl h
theorem s231_38 (h : zarr (tg A a) ≠ 0) : zX d 231 38 ls (zO (some a) :: st) A K = zX d 231 39 ls (zI (zlen A a : Nat) :: st) A K := zx_alen z231 dX4_restoreSnapshot_38 rfl h
theorem s231_39 : zX (d + 1) 231 39 ls (zI i4 :: zI i3 :: zO o2 :: zI i1 :: zO o0 :: []) A K = zX d 138 0 [zO o0, zI i1, zO o2, zI i3, zI i4, zU] [] A (zK (d + 1) 231 39 42 ls [] K) := zx_callS z231 zo231 dX4_restoreSnapshot_39 rfl C10_169 rfl rfl zm138 rfl rfl (zwt_le (Nat.le_of_ble_eq_true rfl)) rfl
theorem s231_42 : zX d 231 42 [zO o] st A K = zX d 231 43 [zO o] (zO o :: st) A K := zx_aload_n z231 dX4_restoreSnapshot_42 rfl rfl
theorem s231_43 (h : tg A a = 9) : zX d 231 43 ls (zO (some a) :: st) A K = zX d 231 46 ls (fd A a 5 :: st) A K := zx_getf z231 zo231 dX4_restoreSnapshot_43 F10_25 rfl h
theorem s231_46 : zX d 231 46 ls st A K = zX d 231 47 ls (zI 0 :: st) A K := zx_const z231 dX4_restoreSnapshot_46 (by decide) rfl
theorem s231_47 : zX d 231 47 [zO o] st A K = zX d 231 48 [zO o] (zO o :: st) A K := zx_aload_n z231 dX4_restoreSnapshot_47 rfl rfl
theorem s231_48 (h : tg A a = 9) : zX d 231 48 ls (zO (some a) :: st) A K = zX d 231 51 ls (fd A a 4 :: st) A K := zx_getf z231 zo231 dX4_restoreSnapshot_48 F10_22 rfl h
theorem s231_51 : zX d 231 51 ls st A K = zX d 231 52 ls (zI 0 :: st) A K := zx_const z231 dX4_restoreSnapshot_51 (by decide) rfl
theorem s231_52 : zX d 231 52 [zO o] st A K = zX d 231 53 [zO o] (zO o :: st) A K := zx_aload_n z231 dX4_restoreSnapshot_52 rfl rfl
theorem s231_53 (h : tg A a = 9) : zX d 231 53 ls (zO (some a) :: st) A K = zX d 231 56 ls (fd A a 4 :: st) A K := zx_getf z231 zo231 dX4_restoreSnapshot_53 F10_22 rfl h
theorem s231_56 (h : zarr (tg A a) ≠ 0) : zX d 231 56 ls (zO (some a) :: st) A K = zX d 231 57 ls (zI (zlen A a : Nat) :: st) A K := zx_alen z231 dX4_restoreSnapshot_56 rfl h
theorem s231_57 : zX (d + 1) 231 57 ls (zI i4 :: zI i3 :: zO o2 :: zI i1 :: zO o0 :: []) A K = zX d 138 0 [zO o0, zI i1, zO o2, zI i3, zI i4, zU] [] A (zK (d + 1) 231 57 60 ls [] K) := zx_callS z231 zo231 dX4_restoreSnapshot_57 rfl C10_169 rfl rfl zm138 rfl rfl (zwt_le (Nat.le_of_ble_eq_true rfl)) rfl
theorem s231_60 : zX d 231 60 [zO o] st A K = zX d 231 61 [zO o] (zO o :: st) A K := zx_aload_n z231 dX4_restoreSnapshot_60 rfl rfl
theorem s231_61 : zX d 231 61 [zO o] st A K = zX d 231 62 [zO o] (zO o :: st) A K := zx_aload_n z231 dX4_restoreSnapshot_61 rfl rfl
theorem s231_62 (h : tg A a = 9) : zX d 231 62 ls (zO (some a) :: st) A K = zX d 231 65 ls (fd A a 7 :: st) A K := zx_getf z231 zo231 dX4_restoreSnapshot_62 F10_336 rfl h
theorem s231_65 (h : tg A a = 9) : zX d 231 65 ls (zI x :: zO (some a) :: st) A K = zX d 231 68 ls st (pF A a 6 (zI x)) K := zx_putf (q := 0) z231 zo231 dX4_restoreSnapshot_65 F10_121 rfl rfl rfl h rfl
theorem s231_68 : zX d 231 68 [zO o] st A K = zX d 231 69 [zO o] (zO o :: st) A K := zx_aload_n z231 dX4_restoreSnapshot_68 rfl rfl
theorem s231_69 (h : tg A a = 9) : zX d 231 69 ls (zO (some a) :: st) A K = zX d 231 72 ls (fd A a 6 :: st) A K := zx_getf z231 zo231 dX4_restoreSnapshot_69 F10_121 rfl h
theorem s231_72 : zX d 231 72 ls [zI x] A K = K (Sum.inl (some (zI x))) A := zx_iret z231 dX4_restoreSnapshot_72 zk231 rfl
end SS
