set_option maxRecDepth 100000
/-! DependencyPairAnalyzer$Reader -/
set_option maxRecDepth 100000
def RX1 : String := "DependencyPairAnalyzer$Reader"
def TX1 : u_T := fun k => match k with
  | 0 => ("DependencyPairAnalyzer$Reader", "at", "I", false)
  | _ => ("DependencyPairAnalyzer$Reader", "this$0", "LDependencyPairAnalyzer;", true)
def tyX1 : Nat → FieldType := fun k => match k with
  | 0 => .int
  | _ => .object "DependencyPairAnalyzer"
abbrev wsX10 : List Cond := u_ws RX1 TX1 2
theorem nmX1 : ∀ a, a < 2 → ∀ b, b < 2 → a ≠ b → (TX1 a).2.1 ≠ (TX1 b).2.1 := by decide +kernel
theorem tyX1_ok : ∀ k, k < 2 → parseFieldDescriptor (TX1 k).2.2.1 = some (tyX1 k) := by decide +kernel
abbrev cX1_init : ByteArray := prog_3_method_1_code
def yX1_init : MethodName := ⟨RX1, "<init>", "(LDependencyPairAnalyzer;)V"⟩
def dkwX1_init_0 : List UInt8 := [42, 43, 181, 0, 1, 42, 183, 0, 7, 177]
abbrev dktX1_init_0 : List UInt8 := dkwX1_init_0 ++ []
theorem dksX1_init_0 : cX1_init.data.toList.drop 0 = dktX1_init_0 := by decide +kernel
theorem dX1_init_0 : decode cX1_init 0 = .ok (.aload_n 0, 1) := dk_42 (dk_at dksX1_init_0 0 rfl rfl)
theorem dX1_init_1 : decode cX1_init 1 = .ok (.aload_n 1, 1) := dk_43 (dk_at dksX1_init_0 1 rfl rfl)
theorem dX1_init_2 : decode cX1_init 2 = .ok (.putfield 1, 3) := dk_181 0 1 (dk_at dksX1_init_0 2 rfl rfl)
theorem dX1_init_5 : decode cX1_init 5 = .ok (.aload_n 0, 1) := dk_42 (dk_at dksX1_init_0 5 rfl rfl)
theorem dX1_init_6 : decode cX1_init 6 = .ok (.invokespecial 7, 3) := dk_183 0 7 (dk_at dksX1_init_0 6 rfl rfl)
theorem dX1_init_9 : decode cX1_init 9 = .ok (.return_, 1) := dk_177 (dk_at dksX1_init_0 9 rfl rfl)
abbrev cX1_rule : ByteArray := prog_3_method_7_code
def yX1_rule : MethodName := ⟨RX1, "rule", "()LDependencyPairAnalyzer$Rule;"⟩
def dkwX1_rule_2 : List UInt8 := [89, 43, 44, 183, 0, 73, 176]
abbrev dktX1_rule_2 : List UInt8 := dkwX1_rule_2 ++ []
def dkwX1_rule_1 : List UInt8 := [180, 0, 13, 42, 180, 0, 1, 180, 0, 17, 160, 0, 7, 4, 167, 0, 4, 3, 182, 0, 35, 187, 0, 71]
abbrev dktX1_rule_1 : List UInt8 := dkwX1_rule_1 ++ dktX1_rule_2
def dkwX1_rule_0 : List UInt8 := [42, 3, 181, 0, 13, 42, 182, 0, 67, 76, 42, 16, 62, 182, 0, 52, 42, 182, 0, 67, 77, 42, 42]
abbrev dktX1_rule_0 : List UInt8 := dkwX1_rule_0 ++ dktX1_rule_1
theorem dksX1_rule_0 : cX1_rule.data.toList.drop 0 = dktX1_rule_0 := by decide +kernel
theorem dksX1_rule_1 : cX1_rule.data.toList.drop 23 = dktX1_rule_1 := dk_seg dksX1_rule_0 23 rfl rfl
theorem dksX1_rule_2 : cX1_rule.data.toList.drop 47 = dktX1_rule_2 := dk_seg dksX1_rule_1 24 rfl rfl
theorem dX1_rule_0 : decode cX1_rule 0 = .ok (.aload_n 0, 1) := dk_42 (dk_at dksX1_rule_0 0 rfl rfl)
theorem dX1_rule_1 : decode cX1_rule 1 = .ok (.iconst 0, 1) := dk_3 (dk_at dksX1_rule_0 1 rfl rfl)
theorem dX1_rule_2 : decode cX1_rule 2 = .ok (.putfield 13, 3) := dk_181 0 13 (dk_at dksX1_rule_0 2 rfl rfl)
theorem dX1_rule_5 : decode cX1_rule 5 = .ok (.aload_n 0, 1) := dk_42 (dk_at dksX1_rule_0 5 rfl rfl)
theorem dX1_rule_6 : decode cX1_rule 6 = .ok (.invokevirtual 67, 3) := dk_182 0 67 (dk_at dksX1_rule_0 6 rfl rfl)
theorem dX1_rule_9 : decode cX1_rule 9 = .ok (.astore_n 1, 1) := dk_76 (dk_at dksX1_rule_0 9 rfl rfl)
theorem dX1_rule_10 : decode cX1_rule 10 = .ok (.aload_n 0, 1) := dk_42 (dk_at dksX1_rule_0 10 rfl rfl)
theorem dX1_rule_11 : decode cX1_rule 11 = .ok (.bipush 62, 2) := dk_16 62 (dk_at dksX1_rule_0 11 rfl rfl)
theorem dX1_rule_13 : decode cX1_rule 13 = .ok (.invokevirtual 52, 3) := dk_182 0 52 (dk_at dksX1_rule_0 13 rfl rfl)
theorem dX1_rule_16 : decode cX1_rule 16 = .ok (.aload_n 0, 1) := dk_42 (dk_at dksX1_rule_0 16 rfl rfl)
theorem dX1_rule_17 : decode cX1_rule 17 = .ok (.invokevirtual 67, 3) := dk_182 0 67 (dk_at dksX1_rule_0 17 rfl rfl)
theorem dX1_rule_20 : decode cX1_rule 20 = .ok (.astore_n 2, 1) := dk_77 (dk_at dksX1_rule_0 20 rfl rfl)
theorem dX1_rule_21 : decode cX1_rule 21 = .ok (.aload_n 0, 1) := dk_42 (dk_at dksX1_rule_0 21 rfl rfl)
theorem dX1_rule_22 : decode cX1_rule 22 = .ok (.aload_n 0, 1) := dk_42 (dk_at dksX1_rule_0 22 rfl rfl)
theorem dX1_rule_23 : decode cX1_rule 23 = .ok (.getfield 13, 3) := dk_180 0 13 (dk_at dksX1_rule_1 0 rfl rfl)
theorem dX1_rule_26 : decode cX1_rule 26 = .ok (.aload_n 0, 1) := dk_42 (dk_at dksX1_rule_1 3 rfl rfl)
theorem dX1_rule_27 : decode cX1_rule 27 = .ok (.getfield 1, 3) := dk_180 0 1 (dk_at dksX1_rule_1 4 rfl rfl)
theorem dX1_rule_30 : decode cX1_rule 30 = .ok (.getfield 17, 3) := dk_180 0 17 (dk_at dksX1_rule_1 7 rfl rfl)
theorem dX1_rule_33 : decode cX1_rule 33 = .ok (.if_icmp .ne 7, 3) := dk_160 0 7 (dk_at dksX1_rule_1 10 rfl rfl)
theorem dX1_rule_36 : decode cX1_rule 36 = .ok (.iconst 1, 1) := dk_4 (dk_at dksX1_rule_1 13 rfl rfl)
theorem dX1_rule_37 : decode cX1_rule 37 = .ok (.goto 4, 3) := dk_167 0 4 (dk_at dksX1_rule_1 14 rfl rfl)
theorem dX1_rule_40 : decode cX1_rule 40 = .ok (.iconst 0, 1) := dk_3 (dk_at dksX1_rule_1 17 rfl rfl)
theorem dX1_rule_41 : decode cX1_rule 41 = .ok (.invokevirtual 35, 3) := dk_182 0 35 (dk_at dksX1_rule_1 18 rfl rfl)
theorem dX1_rule_44 : decode cX1_rule 44 = .ok (.new 71, 3) := dk_187 0 71 (dk_at dksX1_rule_1 21 rfl rfl)
theorem dX1_rule_47 : decode cX1_rule 47 = .ok (.dup, 1) := dk_89 (dk_at dksX1_rule_2 0 rfl rfl)
theorem dX1_rule_48 : decode cX1_rule 48 = .ok (.aload_n 1, 1) := dk_43 (dk_at dksX1_rule_2 1 rfl rfl)
theorem dX1_rule_49 : decode cX1_rule 49 = .ok (.aload_n 2, 1) := dk_44 (dk_at dksX1_rule_2 2 rfl rfl)
theorem dX1_rule_50 : decode cX1_rule 50 = .ok (.invokespecial 73, 3) := dk_183 0 73 (dk_at dksX1_rule_2 3 rfl rfl)
theorem dX1_rule_53 : decode cX1_rule 53 = .ok (.areturn, 1) := dk_176 (dk_at dksX1_rule_2 6 rfl rfl)
abbrev cX1_builtTerm : ByteArray := prog_3_method_6_code
def yX1_builtTerm : MethodName := ⟨RX1, "builtTerm", "()LDependencyPairAnalyzer$Term;"⟩
def dkwX1_builtTerm_1 : List UInt8 := [180, 0, 1, 180, 0, 58, 42, 180, 0, 1, 180, 0, 39, 183, 0, 64, 176]
abbrev dktX1_builtTerm_1 : List UInt8 := dkwX1_builtTerm_1 ++ []
def dkwX1_builtTerm_0 : List UInt8 := [42, 180, 0, 1, 3, 181, 0, 58, 42, 182, 0, 55, 187, 0, 44, 89, 42, 180, 0, 1, 180, 0, 61, 42]
abbrev dktX1_builtTerm_0 : List UInt8 := dkwX1_builtTerm_0 ++ dktX1_builtTerm_1
theorem dksX1_builtTerm_0 : cX1_builtTerm.data.toList.drop 0 = dktX1_builtTerm_0 := by decide +kernel
theorem dksX1_builtTerm_1 : cX1_builtTerm.data.toList.drop 24 = dktX1_builtTerm_1 := dk_seg dksX1_builtTerm_0 24 rfl rfl
theorem dX1_builtTerm_0 : decode cX1_builtTerm 0 = .ok (.aload_n 0, 1) := dk_42 (dk_at dksX1_builtTerm_0 0 rfl rfl)
theorem dX1_builtTerm_1 : decode cX1_builtTerm 1 = .ok (.getfield 1, 3) := dk_180 0 1 (dk_at dksX1_builtTerm_0 1 rfl rfl)
theorem dX1_builtTerm_4 : decode cX1_builtTerm 4 = .ok (.iconst 0, 1) := dk_3 (dk_at dksX1_builtTerm_0 4 rfl rfl)
theorem dX1_builtTerm_5 : decode cX1_builtTerm 5 = .ok (.putfield 58, 3) := dk_181 0 58 (dk_at dksX1_builtTerm_0 5 rfl rfl)
theorem dX1_builtTerm_8 : decode cX1_builtTerm 8 = .ok (.aload_n 0, 1) := dk_42 (dk_at dksX1_builtTerm_0 8 rfl rfl)
theorem dX1_builtTerm_9 : decode cX1_builtTerm 9 = .ok (.invokevirtual 55, 3) := dk_182 0 55 (dk_at dksX1_builtTerm_0 9 rfl rfl)
theorem dX1_builtTerm_12 : decode cX1_builtTerm 12 = .ok (.new 44, 3) := dk_187 0 44 (dk_at dksX1_builtTerm_0 12 rfl rfl)
theorem dX1_builtTerm_15 : decode cX1_builtTerm 15 = .ok (.dup, 1) := dk_89 (dk_at dksX1_builtTerm_0 15 rfl rfl)
theorem dX1_builtTerm_16 : decode cX1_builtTerm 16 = .ok (.aload_n 0, 1) := dk_42 (dk_at dksX1_builtTerm_0 16 rfl rfl)
theorem dX1_builtTerm_17 : decode cX1_builtTerm 17 = .ok (.getfield 1, 3) := dk_180 0 1 (dk_at dksX1_builtTerm_0 17 rfl rfl)
theorem dX1_builtTerm_20 : decode cX1_builtTerm 20 = .ok (.getfield 61, 3) := dk_180 0 61 (dk_at dksX1_builtTerm_0 20 rfl rfl)
theorem dX1_builtTerm_23 : decode cX1_builtTerm 23 = .ok (.aload_n 0, 1) := dk_42 (dk_at dksX1_builtTerm_0 23 rfl rfl)
theorem dX1_builtTerm_24 : decode cX1_builtTerm 24 = .ok (.getfield 1, 3) := dk_180 0 1 (dk_at dksX1_builtTerm_1 0 rfl rfl)
theorem dX1_builtTerm_27 : decode cX1_builtTerm 27 = .ok (.getfield 58, 3) := dk_180 0 58 (dk_at dksX1_builtTerm_1 3 rfl rfl)
theorem dX1_builtTerm_30 : decode cX1_builtTerm 30 = .ok (.aload_n 0, 1) := dk_42 (dk_at dksX1_builtTerm_1 6 rfl rfl)
theorem dX1_builtTerm_31 : decode cX1_builtTerm 31 = .ok (.getfield 1, 3) := dk_180 0 1 (dk_at dksX1_builtTerm_1 7 rfl rfl)
theorem dX1_builtTerm_34 : decode cX1_builtTerm 34 = .ok (.getfield 39, 3) := dk_180 0 39 (dk_at dksX1_builtTerm_1 10 rfl rfl)
theorem dX1_builtTerm_37 : decode cX1_builtTerm 37 = .ok (.invokespecial 64, 3) := dk_183 0 64 (dk_at dksX1_builtTerm_1 13 rfl rfl)
theorem dX1_builtTerm_40 : decode cX1_builtTerm 40 = .ok (.areturn, 1) := dk_176 (dk_at dksX1_builtTerm_1 16 rfl rfl)
abbrev cX1_term : ByteArray := prog_3_method_5_code
def yX1_term : MethodName := ⟨RX1, "term", "()V"⟩
def dkwX1_term_3 : List UInt8 := [182, 0, 52, 42, 182, 0, 55, 132, 2, 1, 167, 255, 229, 27, 158, 0, 9, 42, 16, 41, 182, 0, 52, 177]
abbrev dktX1_term_3 : List UInt8 := dkwX1_term_3 ++ []
def dkwX1_term_2 : List UInt8 := [181, 0, 13, 3, 61, 28, 27, 162, 0, 28, 42, 28, 154, 0, 8, 16, 40, 167, 0, 5, 16, 44]
abbrev dktX1_term_2 : List UInt8 := dkwX1_term_2 ++ dktX1_term_3
def dkwX1_term_1 : List UInt8 := [3, 182, 0, 35, 42, 180, 0, 1, 42, 182, 0, 31, 182, 0, 49, 42, 89, 180, 0, 13, 4, 96]
abbrev dktX1_term_1 : List UInt8 := dkwX1_term_1 ++ dktX1_term_2
def dkwX1_term_0 : List UInt8 := [42, 182, 0, 31, 42, 180, 0, 1, 180, 0, 39, 184, 0, 43, 60, 42, 27, 155, 0, 7, 4, 167, 0, 4]
abbrev dktX1_term_0 : List UInt8 := dkwX1_term_0 ++ dktX1_term_1
theorem dksX1_term_0 : cX1_term.data.toList.drop 0 = dktX1_term_0 := by decide +kernel
theorem dksX1_term_1 : cX1_term.data.toList.drop 24 = dktX1_term_1 := dk_seg dksX1_term_0 24 rfl rfl
theorem dksX1_term_2 : cX1_term.data.toList.drop 46 = dktX1_term_2 := dk_seg dksX1_term_1 22 rfl rfl
theorem dksX1_term_3 : cX1_term.data.toList.drop 68 = dktX1_term_3 := dk_seg dksX1_term_2 22 rfl rfl
theorem dX1_term_0 : decode cX1_term 0 = .ok (.aload_n 0, 1) := dk_42 (dk_at dksX1_term_0 0 rfl rfl)
theorem dX1_term_1 : decode cX1_term 1 = .ok (.invokevirtual 31, 3) := dk_182 0 31 (dk_at dksX1_term_0 1 rfl rfl)
theorem dX1_term_4 : decode cX1_term 4 = .ok (.aload_n 0, 1) := dk_42 (dk_at dksX1_term_0 4 rfl rfl)
theorem dX1_term_5 : decode cX1_term 5 = .ok (.getfield 1, 3) := dk_180 0 1 (dk_at dksX1_term_0 5 rfl rfl)
theorem dX1_term_8 : decode cX1_term 8 = .ok (.getfield 39, 3) := dk_180 0 39 (dk_at dksX1_term_0 8 rfl rfl)
theorem dX1_term_11 : decode cX1_term 11 = .ok (.invokestatic 43, 3) := dk_184 0 43 (dk_at dksX1_term_0 11 rfl rfl)
theorem dX1_term_14 : decode cX1_term 14 = .ok (.istore_n 1, 1) := dk_60 (dk_at dksX1_term_0 14 rfl rfl)
theorem dX1_term_15 : decode cX1_term 15 = .ok (.aload_n 0, 1) := dk_42 (dk_at dksX1_term_0 15 rfl rfl)
theorem dX1_term_16 : decode cX1_term 16 = .ok (.iload_n 1, 1) := dk_27 (dk_at dksX1_term_0 16 rfl rfl)
theorem dX1_term_17 : decode cX1_term 17 = .ok (.ifCond .lt 7, 3) := dk_155 0 7 (dk_at dksX1_term_0 17 rfl rfl)
theorem dX1_term_20 : decode cX1_term 20 = .ok (.iconst 1, 1) := dk_4 (dk_at dksX1_term_0 20 rfl rfl)
theorem dX1_term_21 : decode cX1_term 21 = .ok (.goto 4, 3) := dk_167 0 4 (dk_at dksX1_term_0 21 rfl rfl)
theorem dX1_term_24 : decode cX1_term 24 = .ok (.iconst 0, 1) := dk_3 (dk_at dksX1_term_1 0 rfl rfl)
theorem dX1_term_25 : decode cX1_term 25 = .ok (.invokevirtual 35, 3) := dk_182 0 35 (dk_at dksX1_term_1 1 rfl rfl)
theorem dX1_term_28 : decode cX1_term 28 = .ok (.aload_n 0, 1) := dk_42 (dk_at dksX1_term_1 4 rfl rfl)
theorem dX1_term_29 : decode cX1_term 29 = .ok (.getfield 1, 3) := dk_180 0 1 (dk_at dksX1_term_1 5 rfl rfl)
theorem dX1_term_32 : decode cX1_term 32 = .ok (.aload_n 0, 1) := dk_42 (dk_at dksX1_term_1 8 rfl rfl)
theorem dX1_term_33 : decode cX1_term 33 = .ok (.invokevirtual 31, 3) := dk_182 0 31 (dk_at dksX1_term_1 9 rfl rfl)
theorem dX1_term_36 : decode cX1_term 36 = .ok (.invokevirtual 49, 3) := dk_182 0 49 (dk_at dksX1_term_1 12 rfl rfl)
theorem dX1_term_39 : decode cX1_term 39 = .ok (.aload_n 0, 1) := dk_42 (dk_at dksX1_term_1 15 rfl rfl)
theorem dX1_term_40 : decode cX1_term 40 = .ok (.dup, 1) := dk_89 (dk_at dksX1_term_1 16 rfl rfl)
theorem dX1_term_41 : decode cX1_term 41 = .ok (.getfield 13, 3) := dk_180 0 13 (dk_at dksX1_term_1 17 rfl rfl)
theorem dX1_term_44 : decode cX1_term 44 = .ok (.iconst 1, 1) := dk_4 (dk_at dksX1_term_1 20 rfl rfl)
theorem dX1_term_45 : decode cX1_term 45 = .ok (.iadd, 1) := dk_96 (dk_at dksX1_term_1 21 rfl rfl)
theorem dX1_term_46 : decode cX1_term 46 = .ok (.putfield 13, 3) := dk_181 0 13 (dk_at dksX1_term_2 0 rfl rfl)
theorem dX1_term_49 : decode cX1_term 49 = .ok (.iconst 0, 1) := dk_3 (dk_at dksX1_term_2 3 rfl rfl)
theorem dX1_term_50 : decode cX1_term 50 = .ok (.istore_n 2, 1) := dk_61 (dk_at dksX1_term_2 4 rfl rfl)
theorem dX1_term_51 : decode cX1_term 51 = .ok (.iload_n 2, 1) := dk_28 (dk_at dksX1_term_2 5 rfl rfl)
theorem dX1_term_52 : decode cX1_term 52 = .ok (.iload_n 1, 1) := dk_27 (dk_at dksX1_term_2 6 rfl rfl)
theorem dX1_term_53 : decode cX1_term 53 = .ok (.if_icmp .ge 28, 3) := dk_162 0 28 (dk_at dksX1_term_2 7 rfl rfl)
theorem dX1_term_56 : decode cX1_term 56 = .ok (.aload_n 0, 1) := dk_42 (dk_at dksX1_term_2 10 rfl rfl)
theorem dX1_term_57 : decode cX1_term 57 = .ok (.iload_n 2, 1) := dk_28 (dk_at dksX1_term_2 11 rfl rfl)
theorem dX1_term_58 : decode cX1_term 58 = .ok (.ifCond .ne 8, 3) := dk_154 0 8 (dk_at dksX1_term_2 12 rfl rfl)
theorem dX1_term_61 : decode cX1_term 61 = .ok (.bipush 40, 2) := dk_16 40 (dk_at dksX1_term_2 15 rfl rfl)
theorem dX1_term_63 : decode cX1_term 63 = .ok (.goto 5, 3) := dk_167 0 5 (dk_at dksX1_term_2 17 rfl rfl)
theorem dX1_term_66 : decode cX1_term 66 = .ok (.bipush 44, 2) := dk_16 44 (dk_at dksX1_term_2 20 rfl rfl)
theorem dX1_term_68 : decode cX1_term 68 = .ok (.invokevirtual 52, 3) := dk_182 0 52 (dk_at dksX1_term_3 0 rfl rfl)
theorem dX1_term_71 : decode cX1_term 71 = .ok (.aload_n 0, 1) := dk_42 (dk_at dksX1_term_3 3 rfl rfl)
theorem dX1_term_72 : decode cX1_term 72 = .ok (.invokevirtual 55, 3) := dk_182 0 55 (dk_at dksX1_term_3 4 rfl rfl)
theorem dX1_term_75 : decode cX1_term 75 = .ok (.iinc 2 1, 3) := dk_132 2 1 (dk_at dksX1_term_3 7 rfl rfl)
theorem dX1_term_78 : decode cX1_term 78 = .ok (.goto (-27), 3) := dk_167 255 229 (dk_at dksX1_term_3 10 rfl rfl)
theorem dX1_term_81 : decode cX1_term 81 = .ok (.iload_n 1, 1) := dk_27 (dk_at dksX1_term_3 13 rfl rfl)
theorem dX1_term_82 : decode cX1_term 82 = .ok (.ifCond .le 9, 3) := dk_158 0 9 (dk_at dksX1_term_3 14 rfl rfl)
theorem dX1_term_85 : decode cX1_term 85 = .ok (.aload_n 0, 1) := dk_42 (dk_at dksX1_term_3 17 rfl rfl)
theorem dX1_term_86 : decode cX1_term 86 = .ok (.bipush 41, 2) := dk_16 41 (dk_at dksX1_term_3 18 rfl rfl)
theorem dX1_term_88 : decode cX1_term 88 = .ok (.invokevirtual 52, 3) := dk_182 0 52 (dk_at dksX1_term_3 20 rfl rfl)
theorem dX1_term_91 : decode cX1_term 91 = .ok (.return_, 1) := dk_177 (dk_at dksX1_term_3 23 rfl rfl)
abbrev cX1_current : ByteArray := prog_3_method_2_code
def yX1_current : MethodName := ⟨RX1, "current", "()I"⟩
def dkwX1_current_1 : List UInt8 := [180, 0, 13, 51, 167, 0, 4, 3, 172]
abbrev dktX1_current_1 : List UInt8 := dkwX1_current_1 ++ []
def dkwX1_current_0 : List UInt8 := [42, 180, 0, 13, 42, 180, 0, 1, 180, 0, 17, 162, 0, 18, 42, 180, 0, 1, 180, 0, 22, 42]
abbrev dktX1_current_0 : List UInt8 := dkwX1_current_0 ++ dktX1_current_1
theorem dksX1_current_0 : cX1_current.data.toList.drop 0 = dktX1_current_0 := by decide +kernel
theorem dksX1_current_1 : cX1_current.data.toList.drop 22 = dktX1_current_1 := dk_seg dksX1_current_0 22 rfl rfl
theorem dX1_current_0 : decode cX1_current 0 = .ok (.aload_n 0, 1) := dk_42 (dk_at dksX1_current_0 0 rfl rfl)
theorem dX1_current_1 : decode cX1_current 1 = .ok (.getfield 13, 3) := dk_180 0 13 (dk_at dksX1_current_0 1 rfl rfl)
theorem dX1_current_4 : decode cX1_current 4 = .ok (.aload_n 0, 1) := dk_42 (dk_at dksX1_current_0 4 rfl rfl)
theorem dX1_current_5 : decode cX1_current 5 = .ok (.getfield 1, 3) := dk_180 0 1 (dk_at dksX1_current_0 5 rfl rfl)
theorem dX1_current_8 : decode cX1_current 8 = .ok (.getfield 17, 3) := dk_180 0 17 (dk_at dksX1_current_0 8 rfl rfl)
theorem dX1_current_11 : decode cX1_current 11 = .ok (.if_icmp .ge 18, 3) := dk_162 0 18 (dk_at dksX1_current_0 11 rfl rfl)
theorem dX1_current_14 : decode cX1_current 14 = .ok (.aload_n 0, 1) := dk_42 (dk_at dksX1_current_0 14 rfl rfl)
theorem dX1_current_15 : decode cX1_current 15 = .ok (.getfield 1, 3) := dk_180 0 1 (dk_at dksX1_current_0 15 rfl rfl)
theorem dX1_current_18 : decode cX1_current 18 = .ok (.getfield 22, 3) := dk_180 0 22 (dk_at dksX1_current_0 18 rfl rfl)
theorem dX1_current_21 : decode cX1_current 21 = .ok (.aload_n 0, 1) := dk_42 (dk_at dksX1_current_0 21 rfl rfl)
theorem dX1_current_22 : decode cX1_current 22 = .ok (.getfield 13, 3) := dk_180 0 13 (dk_at dksX1_current_1 0 rfl rfl)
theorem dX1_current_25 : decode cX1_current 25 = .ok (.baload, 1) := dk_51 (dk_at dksX1_current_1 3 rfl rfl)
theorem dX1_current_26 : decode cX1_current 26 = .ok (.goto 4, 3) := dk_167 0 4 (dk_at dksX1_current_1 4 rfl rfl)
theorem dX1_current_29 : decode cX1_current 29 = .ok (.iconst 0, 1) := dk_3 (dk_at dksX1_current_1 7 rfl rfl)
theorem dX1_current_30 : decode cX1_current 30 = .ok (.ireturn, 1) := dk_172 (dk_at dksX1_current_1 8 rfl rfl)
abbrev cX1_require : ByteArray := prog_3_method_3_code
def yX1_require : MethodName := ⟨RX1, "require", "(Z)V"⟩
def dkwX1_require_0 : List UInt8 := [27, 154, 0, 15, 187, 0, 26, 89, 42, 180, 0, 13, 183, 0, 28, 191, 177]
abbrev dktX1_require_0 : List UInt8 := dkwX1_require_0 ++ []
theorem dksX1_require_0 : cX1_require.data.toList.drop 0 = dktX1_require_0 := by decide +kernel
theorem dX1_require_0 : decode cX1_require 0 = .ok (.iload_n 1, 1) := dk_27 (dk_at dksX1_require_0 0 rfl rfl)
theorem dX1_require_1 : decode cX1_require 1 = .ok (.ifCond .ne 15, 3) := dk_154 0 15 (dk_at dksX1_require_0 1 rfl rfl)
theorem dX1_require_4 : decode cX1_require 4 = .ok (.new 26, 3) := dk_187 0 26 (dk_at dksX1_require_0 4 rfl rfl)
theorem dX1_require_7 : decode cX1_require 7 = .ok (.dup, 1) := dk_89 (dk_at dksX1_require_0 7 rfl rfl)
theorem dX1_require_8 : decode cX1_require 8 = .ok (.aload_n 0, 1) := dk_42 (dk_at dksX1_require_0 8 rfl rfl)
theorem dX1_require_9 : decode cX1_require 9 = .ok (.getfield 13, 3) := dk_180 0 13 (dk_at dksX1_require_0 9 rfl rfl)
theorem dX1_require_12 : decode cX1_require 12 = .ok (.invokespecial 28, 3) := dk_183 0 28 (dk_at dksX1_require_0 12 rfl rfl)
theorem dX1_require_15 : decode cX1_require 15 = .ok (.athrow, 1) := dk_191 (dk_at dksX1_require_0 15 rfl rfl)
theorem dX1_require_16 : decode cX1_require 16 = .ok (.return_, 1) := dk_177 (dk_at dksX1_require_0 16 rfl rfl)
abbrev cX1_take : ByteArray := prog_3_method_4_code
def yX1_take : MethodName := ⟨RX1, "take", "(I)V"⟩
def dkwX1_take_1 : List UInt8 := [181, 0, 13, 177]
abbrev dktX1_take_1 : List UInt8 := dkwX1_take_1 ++ []
def dkwX1_take_0 : List UInt8 := [42, 42, 182, 0, 31, 27, 160, 0, 7, 4, 167, 0, 4, 3, 182, 0, 35, 42, 89, 180, 0, 13, 4, 96]
abbrev dktX1_take_0 : List UInt8 := dkwX1_take_0 ++ dktX1_take_1
theorem dksX1_take_0 : cX1_take.data.toList.drop 0 = dktX1_take_0 := by decide +kernel
theorem dksX1_take_1 : cX1_take.data.toList.drop 24 = dktX1_take_1 := dk_seg dksX1_take_0 24 rfl rfl
theorem dX1_take_0 : decode cX1_take 0 = .ok (.aload_n 0, 1) := dk_42 (dk_at dksX1_take_0 0 rfl rfl)
theorem dX1_take_1 : decode cX1_take 1 = .ok (.aload_n 0, 1) := dk_42 (dk_at dksX1_take_0 1 rfl rfl)
theorem dX1_take_2 : decode cX1_take 2 = .ok (.invokevirtual 31, 3) := dk_182 0 31 (dk_at dksX1_take_0 2 rfl rfl)
theorem dX1_take_5 : decode cX1_take 5 = .ok (.iload_n 1, 1) := dk_27 (dk_at dksX1_take_0 5 rfl rfl)
theorem dX1_take_6 : decode cX1_take 6 = .ok (.if_icmp .ne 7, 3) := dk_160 0 7 (dk_at dksX1_take_0 6 rfl rfl)
theorem dX1_take_9 : decode cX1_take 9 = .ok (.iconst 1, 1) := dk_4 (dk_at dksX1_take_0 9 rfl rfl)
theorem dX1_take_10 : decode cX1_take 10 = .ok (.goto 4, 3) := dk_167 0 4 (dk_at dksX1_take_0 10 rfl rfl)
theorem dX1_take_13 : decode cX1_take 13 = .ok (.iconst 0, 1) := dk_3 (dk_at dksX1_take_0 13 rfl rfl)
theorem dX1_take_14 : decode cX1_take 14 = .ok (.invokevirtual 35, 3) := dk_182 0 35 (dk_at dksX1_take_0 14 rfl rfl)
theorem dX1_take_17 : decode cX1_take 17 = .ok (.aload_n 0, 1) := dk_42 (dk_at dksX1_take_0 17 rfl rfl)
theorem dX1_take_18 : decode cX1_take 18 = .ok (.dup, 1) := dk_89 (dk_at dksX1_take_0 18 rfl rfl)
theorem dX1_take_19 : decode cX1_take 19 = .ok (.getfield 13, 3) := dk_180 0 13 (dk_at dksX1_take_0 19 rfl rfl)
theorem dX1_take_22 : decode cX1_take 22 = .ok (.iconst 1, 1) := dk_4 (dk_at dksX1_take_0 22 rfl rfl)
theorem dX1_take_23 : decode cX1_take 23 = .ok (.iadd, 1) := dk_96 (dk_at dksX1_take_0 23 rfl rfl)
theorem dX1_take_24 : decode cX1_take 24 = .ok (.putfield 13, 3) := dk_181 0 13 (dk_at dksX1_take_1 0 rfl rfl)
theorem dX1_take_27 : decode cX1_take 27 = .ok (.return_, 1) := dk_177 (dk_at dksX1_take_1 3 rfl rfl)
abbrev cX1_whole : ByteArray := prog_3_method_8_code
def yX1_whole : MethodName := ⟨RX1, "whole", "()LDependencyPairAnalyzer$Term;"⟩
def dkwX1_whole_1 : List UInt8 := [160, 0, 7, 4, 167, 0, 4, 3, 182, 0, 35, 43, 176]
abbrev dktX1_whole_1 : List UInt8 := dkwX1_whole_1 ++ []
def dkwX1_whole_0 : List UInt8 := [42, 3, 181, 0, 13, 42, 182, 0, 67, 76, 42, 42, 180, 0, 13, 42, 180, 0, 1, 180, 0, 17]
abbrev dktX1_whole_0 : List UInt8 := dkwX1_whole_0 ++ dktX1_whole_1
theorem dksX1_whole_0 : cX1_whole.data.toList.drop 0 = dktX1_whole_0 := by decide +kernel
theorem dksX1_whole_1 : cX1_whole.data.toList.drop 22 = dktX1_whole_1 := dk_seg dksX1_whole_0 22 rfl rfl
theorem dX1_whole_0 : decode cX1_whole 0 = .ok (.aload_n 0, 1) := dk_42 (dk_at dksX1_whole_0 0 rfl rfl)
theorem dX1_whole_1 : decode cX1_whole 1 = .ok (.iconst 0, 1) := dk_3 (dk_at dksX1_whole_0 1 rfl rfl)
theorem dX1_whole_2 : decode cX1_whole 2 = .ok (.putfield 13, 3) := dk_181 0 13 (dk_at dksX1_whole_0 2 rfl rfl)
theorem dX1_whole_5 : decode cX1_whole 5 = .ok (.aload_n 0, 1) := dk_42 (dk_at dksX1_whole_0 5 rfl rfl)
theorem dX1_whole_6 : decode cX1_whole 6 = .ok (.invokevirtual 67, 3) := dk_182 0 67 (dk_at dksX1_whole_0 6 rfl rfl)
theorem dX1_whole_9 : decode cX1_whole 9 = .ok (.astore_n 1, 1) := dk_76 (dk_at dksX1_whole_0 9 rfl rfl)
theorem dX1_whole_10 : decode cX1_whole 10 = .ok (.aload_n 0, 1) := dk_42 (dk_at dksX1_whole_0 10 rfl rfl)
theorem dX1_whole_11 : decode cX1_whole 11 = .ok (.aload_n 0, 1) := dk_42 (dk_at dksX1_whole_0 11 rfl rfl)
theorem dX1_whole_12 : decode cX1_whole 12 = .ok (.getfield 13, 3) := dk_180 0 13 (dk_at dksX1_whole_0 12 rfl rfl)
theorem dX1_whole_15 : decode cX1_whole 15 = .ok (.aload_n 0, 1) := dk_42 (dk_at dksX1_whole_0 15 rfl rfl)
theorem dX1_whole_16 : decode cX1_whole 16 = .ok (.getfield 1, 3) := dk_180 0 1 (dk_at dksX1_whole_0 16 rfl rfl)
theorem dX1_whole_19 : decode cX1_whole 19 = .ok (.getfield 17, 3) := dk_180 0 17 (dk_at dksX1_whole_0 19 rfl rfl)
theorem dX1_whole_22 : decode cX1_whole 22 = .ok (.if_icmp .ne 7, 3) := dk_160 0 7 (dk_at dksX1_whole_1 0 rfl rfl)
theorem dX1_whole_25 : decode cX1_whole 25 = .ok (.iconst 1, 1) := dk_4 (dk_at dksX1_whole_1 3 rfl rfl)
theorem dX1_whole_26 : decode cX1_whole 26 = .ok (.goto 4, 3) := dk_167 0 4 (dk_at dksX1_whole_1 4 rfl rfl)
theorem dX1_whole_29 : decode cX1_whole 29 = .ok (.iconst 0, 1) := dk_3 (dk_at dksX1_whole_1 7 rfl rfl)
theorem dX1_whole_30 : decode cX1_whole 30 = .ok (.invokevirtual 35, 3) := dk_182 0 35 (dk_at dksX1_whole_1 8 rfl rfl)
theorem dX1_whole_33 : decode cX1_whole 33 = .ok (.aload_n 1, 1) := dk_43 (dk_at dksX1_whole_1 11 rfl rfl)
theorem dX1_whole_34 : decode cX1_whole 34 = .ok (.areturn, 1) := dk_176 (dk_at dksX1_whole_1 12 rfl rfl)

/-! DependencyPairAnalyzer$SizeChangeGraph -/
set_option maxRecDepth 100000
def RX2 : String := "DependencyPairAnalyzer$SizeChangeGraph"
def TX2 : u_T := fun k => match k with
  | 0 => ("DependencyPairAnalyzer$SizeChangeGraph", "from", "I", false)
  | 1 => ("DependencyPairAnalyzer$SizeChangeGraph", "to", "I", false)
  | _ => ("DependencyPairAnalyzer$SizeChangeGraph", "relations", "[I", true)
def tyX2 : Nat → FieldType := fun k => match k with
  | 0 => .int
  | 1 => .int
  | _ => .array .int
abbrev wsX20 : List Cond := u_ws RX2 TX2 3
theorem nmX2 : ∀ a, a < 3 → ∀ b, b < 3 → a ≠ b → (TX2 a).2.1 ≠ (TX2 b).2.1 := by decide +kernel
theorem tyX2_ok : ∀ k, k < 3 → parseFieldDescriptor (TX2 k).2.2.1 = some (tyX2 k) := by decide +kernel
abbrev cX2_init : ByteArray := prog_5_method_1_code
def yX2_init : MethodName := ⟨RX2, "<init>", "(II[I)V"⟩
def dkwX2_init_0 : List UInt8 := [42, 183, 0, 3, 42, 27, 181, 0, 9, 42, 28, 181, 0, 15, 42, 45, 181, 0, 18, 177]
abbrev dktX2_init_0 : List UInt8 := dkwX2_init_0 ++ []
theorem dksX2_init_0 : cX2_init.data.toList.drop 0 = dktX2_init_0 := by decide +kernel
theorem dX2_init_0 : decode cX2_init 0 = .ok (.aload_n 0, 1) := dk_42 (dk_at dksX2_init_0 0 rfl rfl)
theorem dX2_init_1 : decode cX2_init 1 = .ok (.invokespecial 3, 3) := dk_183 0 3 (dk_at dksX2_init_0 1 rfl rfl)
theorem dX2_init_4 : decode cX2_init 4 = .ok (.aload_n 0, 1) := dk_42 (dk_at dksX2_init_0 4 rfl rfl)
theorem dX2_init_5 : decode cX2_init 5 = .ok (.iload_n 1, 1) := dk_27 (dk_at dksX2_init_0 5 rfl rfl)
theorem dX2_init_6 : decode cX2_init 6 = .ok (.putfield 9, 3) := dk_181 0 9 (dk_at dksX2_init_0 6 rfl rfl)
theorem dX2_init_9 : decode cX2_init 9 = .ok (.aload_n 0, 1) := dk_42 (dk_at dksX2_init_0 9 rfl rfl)
theorem dX2_init_10 : decode cX2_init 10 = .ok (.iload_n 2, 1) := dk_28 (dk_at dksX2_init_0 10 rfl rfl)
theorem dX2_init_11 : decode cX2_init 11 = .ok (.putfield 15, 3) := dk_181 0 15 (dk_at dksX2_init_0 11 rfl rfl)
theorem dX2_init_14 : decode cX2_init 14 = .ok (.aload_n 0, 1) := dk_42 (dk_at dksX2_init_0 14 rfl rfl)
theorem dX2_init_15 : decode cX2_init 15 = .ok (.aload_n 3, 1) := dk_45 (dk_at dksX2_init_0 15 rfl rfl)
theorem dX2_init_16 : decode cX2_init 16 = .ok (.putfield 18, 3) := dk_181 0 18 (dk_at dksX2_init_0 16 rfl rfl)
theorem dX2_init_19 : decode cX2_init 19 = .ok (.return_, 1) := dk_177 (dk_at dksX2_init_0 19 rfl rfl)
abbrev cX2_compareTo : ByteArray := prog_5_method_6_code
def yX2_compareTo : MethodName := ⟨RX2, "compareTo", "(Ljava/lang/Object;)I"⟩
def dkwX2_compareTo_0 : List UInt8 := [42, 43, 192, 0, 10, 182, 0, 36, 172]
abbrev dktX2_compareTo_0 : List UInt8 := dkwX2_compareTo_0 ++ []
theorem dksX2_compareTo_0 : cX2_compareTo.data.toList.drop 0 = dktX2_compareTo_0 := by decide +kernel
theorem dX2_compareTo_0 : decode cX2_compareTo 0 = .ok (.aload_n 0, 1) := dk_42 (dk_at dksX2_compareTo_0 0 rfl rfl)
theorem dX2_compareTo_1 : decode cX2_compareTo 1 = .ok (.aload_n 1, 1) := dk_43 (dk_at dksX2_compareTo_0 1 rfl rfl)
theorem dX2_compareTo_2 : decode cX2_compareTo 2 = .ok (.checkcast 10, 3) := dk_192 0 10 (dk_at dksX2_compareTo_0 2 rfl rfl)
theorem dX2_compareTo_5 : decode cX2_compareTo 5 = .ok (.invokevirtual 36, 3) := dk_182 0 36 (dk_at dksX2_compareTo_0 5 rfl rfl)
theorem dX2_compareTo_8 : decode cX2_compareTo 8 = .ok (.ireturn, 1) := dk_172 (dk_at dksX2_compareTo_0 8 rfl rfl)
abbrev cX2_compareTo_2 : ByteArray := prog_5_method_2_code
def yX2_compareTo_2 : MethodName := ⟨RX2, "compareTo", "(LDependencyPairAnalyzer$SizeChangeGraph;)I"⟩
def dkwX2_compareTo_2_3 : List UInt8 := [180, 0, 18, 28, 46, 43, 180, 0, 18, 28, 46, 100, 172, 132, 2, 1, 167, 255, 215, 3, 172]
abbrev dktX2_compareTo_2_3 : List UInt8 := dkwX2_compareTo_2_3 ++ []
def dkwX2_compareTo_2_2 : List UInt8 := [180, 0, 18, 190, 162, 0, 38, 42, 180, 0, 18, 28, 46, 43, 180, 0, 18, 28, 46, 159, 0, 17, 42]
abbrev dktX2_compareTo_2_2 : List UInt8 := dkwX2_compareTo_2_2 ++ dktX2_compareTo_2_3
def dkwX2_compareTo_2_1 : List UInt8 := [180, 0, 9, 43, 180, 0, 9, 100, 104, 42, 180, 0, 15, 96, 43, 180, 0, 15, 100, 172, 3, 61, 28, 42]
abbrev dktX2_compareTo_2_1 : List UInt8 := dkwX2_compareTo_2_1 ++ dktX2_compareTo_2_2
def dkwX2_compareTo_2_0 : List UInt8 := [42, 180, 0, 9, 43, 180, 0, 9, 160, 0, 14, 42, 180, 0, 15, 43, 180, 0, 15, 159, 0, 25, 6, 42]
abbrev dktX2_compareTo_2_0 : List UInt8 := dkwX2_compareTo_2_0 ++ dktX2_compareTo_2_1
theorem dksX2_compareTo_2_0 : cX2_compareTo_2.data.toList.drop 0 = dktX2_compareTo_2_0 := by decide +kernel
theorem dksX2_compareTo_2_1 : cX2_compareTo_2.data.toList.drop 24 = dktX2_compareTo_2_1 := dk_seg dksX2_compareTo_2_0 24 rfl rfl
theorem dksX2_compareTo_2_2 : cX2_compareTo_2.data.toList.drop 48 = dktX2_compareTo_2_2 := dk_seg dksX2_compareTo_2_1 24 rfl rfl
theorem dksX2_compareTo_2_3 : cX2_compareTo_2.data.toList.drop 71 = dktX2_compareTo_2_3 := dk_seg dksX2_compareTo_2_2 23 rfl rfl
theorem dX2_compareTo_2_0 : decode cX2_compareTo_2 0 = .ok (.aload_n 0, 1) := dk_42 (dk_at dksX2_compareTo_2_0 0 rfl rfl)
theorem dX2_compareTo_2_1 : decode cX2_compareTo_2 1 = .ok (.getfield 9, 3) := dk_180 0 9 (dk_at dksX2_compareTo_2_0 1 rfl rfl)
theorem dX2_compareTo_2_4 : decode cX2_compareTo_2 4 = .ok (.aload_n 1, 1) := dk_43 (dk_at dksX2_compareTo_2_0 4 rfl rfl)
theorem dX2_compareTo_2_5 : decode cX2_compareTo_2 5 = .ok (.getfield 9, 3) := dk_180 0 9 (dk_at dksX2_compareTo_2_0 5 rfl rfl)
theorem dX2_compareTo_2_8 : decode cX2_compareTo_2 8 = .ok (.if_icmp .ne 14, 3) := dk_160 0 14 (dk_at dksX2_compareTo_2_0 8 rfl rfl)
theorem dX2_compareTo_2_11 : decode cX2_compareTo_2 11 = .ok (.aload_n 0, 1) := dk_42 (dk_at dksX2_compareTo_2_0 11 rfl rfl)
theorem dX2_compareTo_2_12 : decode cX2_compareTo_2 12 = .ok (.getfield 15, 3) := dk_180 0 15 (dk_at dksX2_compareTo_2_0 12 rfl rfl)
theorem dX2_compareTo_2_15 : decode cX2_compareTo_2 15 = .ok (.aload_n 1, 1) := dk_43 (dk_at dksX2_compareTo_2_0 15 rfl rfl)
theorem dX2_compareTo_2_16 : decode cX2_compareTo_2 16 = .ok (.getfield 15, 3) := dk_180 0 15 (dk_at dksX2_compareTo_2_0 16 rfl rfl)
theorem dX2_compareTo_2_19 : decode cX2_compareTo_2 19 = .ok (.if_icmp .eq 25, 3) := dk_159 0 25 (dk_at dksX2_compareTo_2_0 19 rfl rfl)
theorem dX2_compareTo_2_22 : decode cX2_compareTo_2 22 = .ok (.iconst 3, 1) := dk_6 (dk_at dksX2_compareTo_2_0 22 rfl rfl)
theorem dX2_compareTo_2_23 : decode cX2_compareTo_2 23 = .ok (.aload_n 0, 1) := dk_42 (dk_at dksX2_compareTo_2_0 23 rfl rfl)
theorem dX2_compareTo_2_24 : decode cX2_compareTo_2 24 = .ok (.getfield 9, 3) := dk_180 0 9 (dk_at dksX2_compareTo_2_1 0 rfl rfl)
theorem dX2_compareTo_2_27 : decode cX2_compareTo_2 27 = .ok (.aload_n 1, 1) := dk_43 (dk_at dksX2_compareTo_2_1 3 rfl rfl)
theorem dX2_compareTo_2_28 : decode cX2_compareTo_2 28 = .ok (.getfield 9, 3) := dk_180 0 9 (dk_at dksX2_compareTo_2_1 4 rfl rfl)
theorem dX2_compareTo_2_31 : decode cX2_compareTo_2 31 = .ok (.isub, 1) := dk_100 (dk_at dksX2_compareTo_2_1 7 rfl rfl)
theorem dX2_compareTo_2_32 : decode cX2_compareTo_2 32 = .ok (.imul, 1) := dk_104 (dk_at dksX2_compareTo_2_1 8 rfl rfl)
theorem dX2_compareTo_2_33 : decode cX2_compareTo_2 33 = .ok (.aload_n 0, 1) := dk_42 (dk_at dksX2_compareTo_2_1 9 rfl rfl)
theorem dX2_compareTo_2_34 : decode cX2_compareTo_2 34 = .ok (.getfield 15, 3) := dk_180 0 15 (dk_at dksX2_compareTo_2_1 10 rfl rfl)
theorem dX2_compareTo_2_37 : decode cX2_compareTo_2 37 = .ok (.iadd, 1) := dk_96 (dk_at dksX2_compareTo_2_1 13 rfl rfl)
theorem dX2_compareTo_2_38 : decode cX2_compareTo_2 38 = .ok (.aload_n 1, 1) := dk_43 (dk_at dksX2_compareTo_2_1 14 rfl rfl)
theorem dX2_compareTo_2_39 : decode cX2_compareTo_2 39 = .ok (.getfield 15, 3) := dk_180 0 15 (dk_at dksX2_compareTo_2_1 15 rfl rfl)
theorem dX2_compareTo_2_42 : decode cX2_compareTo_2 42 = .ok (.isub, 1) := dk_100 (dk_at dksX2_compareTo_2_1 18 rfl rfl)
theorem dX2_compareTo_2_43 : decode cX2_compareTo_2 43 = .ok (.ireturn, 1) := dk_172 (dk_at dksX2_compareTo_2_1 19 rfl rfl)
theorem dX2_compareTo_2_44 : decode cX2_compareTo_2 44 = .ok (.iconst 0, 1) := dk_3 (dk_at dksX2_compareTo_2_1 20 rfl rfl)
theorem dX2_compareTo_2_45 : decode cX2_compareTo_2 45 = .ok (.istore_n 2, 1) := dk_61 (dk_at dksX2_compareTo_2_1 21 rfl rfl)
theorem dX2_compareTo_2_46 : decode cX2_compareTo_2 46 = .ok (.iload_n 2, 1) := dk_28 (dk_at dksX2_compareTo_2_1 22 rfl rfl)
theorem dX2_compareTo_2_47 : decode cX2_compareTo_2 47 = .ok (.aload_n 0, 1) := dk_42 (dk_at dksX2_compareTo_2_1 23 rfl rfl)
theorem dX2_compareTo_2_48 : decode cX2_compareTo_2 48 = .ok (.getfield 18, 3) := dk_180 0 18 (dk_at dksX2_compareTo_2_2 0 rfl rfl)
theorem dX2_compareTo_2_51 : decode cX2_compareTo_2 51 = .ok (.arraylength, 1) := dk_190 (dk_at dksX2_compareTo_2_2 3 rfl rfl)
theorem dX2_compareTo_2_52 : decode cX2_compareTo_2 52 = .ok (.if_icmp .ge 38, 3) := dk_162 0 38 (dk_at dksX2_compareTo_2_2 4 rfl rfl)
theorem dX2_compareTo_2_55 : decode cX2_compareTo_2 55 = .ok (.aload_n 0, 1) := dk_42 (dk_at dksX2_compareTo_2_2 7 rfl rfl)
theorem dX2_compareTo_2_56 : decode cX2_compareTo_2 56 = .ok (.getfield 18, 3) := dk_180 0 18 (dk_at dksX2_compareTo_2_2 8 rfl rfl)
theorem dX2_compareTo_2_59 : decode cX2_compareTo_2 59 = .ok (.iload_n 2, 1) := dk_28 (dk_at dksX2_compareTo_2_2 11 rfl rfl)
theorem dX2_compareTo_2_60 : decode cX2_compareTo_2 60 = .ok (.iaload, 1) := dk_46 (dk_at dksX2_compareTo_2_2 12 rfl rfl)
theorem dX2_compareTo_2_61 : decode cX2_compareTo_2 61 = .ok (.aload_n 1, 1) := dk_43 (dk_at dksX2_compareTo_2_2 13 rfl rfl)
theorem dX2_compareTo_2_62 : decode cX2_compareTo_2 62 = .ok (.getfield 18, 3) := dk_180 0 18 (dk_at dksX2_compareTo_2_2 14 rfl rfl)
theorem dX2_compareTo_2_65 : decode cX2_compareTo_2 65 = .ok (.iload_n 2, 1) := dk_28 (dk_at dksX2_compareTo_2_2 17 rfl rfl)
theorem dX2_compareTo_2_66 : decode cX2_compareTo_2 66 = .ok (.iaload, 1) := dk_46 (dk_at dksX2_compareTo_2_2 18 rfl rfl)
theorem dX2_compareTo_2_67 : decode cX2_compareTo_2 67 = .ok (.if_icmp .eq 17, 3) := dk_159 0 17 (dk_at dksX2_compareTo_2_2 19 rfl rfl)
theorem dX2_compareTo_2_70 : decode cX2_compareTo_2 70 = .ok (.aload_n 0, 1) := dk_42 (dk_at dksX2_compareTo_2_2 22 rfl rfl)
theorem dX2_compareTo_2_71 : decode cX2_compareTo_2 71 = .ok (.getfield 18, 3) := dk_180 0 18 (dk_at dksX2_compareTo_2_3 0 rfl rfl)
theorem dX2_compareTo_2_74 : decode cX2_compareTo_2 74 = .ok (.iload_n 2, 1) := dk_28 (dk_at dksX2_compareTo_2_3 3 rfl rfl)
theorem dX2_compareTo_2_75 : decode cX2_compareTo_2 75 = .ok (.iaload, 1) := dk_46 (dk_at dksX2_compareTo_2_3 4 rfl rfl)
theorem dX2_compareTo_2_76 : decode cX2_compareTo_2 76 = .ok (.aload_n 1, 1) := dk_43 (dk_at dksX2_compareTo_2_3 5 rfl rfl)
theorem dX2_compareTo_2_77 : decode cX2_compareTo_2 77 = .ok (.getfield 18, 3) := dk_180 0 18 (dk_at dksX2_compareTo_2_3 6 rfl rfl)
theorem dX2_compareTo_2_80 : decode cX2_compareTo_2 80 = .ok (.iload_n 2, 1) := dk_28 (dk_at dksX2_compareTo_2_3 9 rfl rfl)
theorem dX2_compareTo_2_81 : decode cX2_compareTo_2 81 = .ok (.iaload, 1) := dk_46 (dk_at dksX2_compareTo_2_3 10 rfl rfl)
theorem dX2_compareTo_2_82 : decode cX2_compareTo_2 82 = .ok (.isub, 1) := dk_100 (dk_at dksX2_compareTo_2_3 11 rfl rfl)
theorem dX2_compareTo_2_83 : decode cX2_compareTo_2 83 = .ok (.ireturn, 1) := dk_172 (dk_at dksX2_compareTo_2_3 12 rfl rfl)
theorem dX2_compareTo_2_84 : decode cX2_compareTo_2 84 = .ok (.iinc 2 1, 3) := dk_132 2 1 (dk_at dksX2_compareTo_2_3 13 rfl rfl)
theorem dX2_compareTo_2_87 : decode cX2_compareTo_2 87 = .ok (.goto (-41), 3) := dk_167 255 215 (dk_at dksX2_compareTo_2_3 16 rfl rfl)
theorem dX2_compareTo_2_90 : decode cX2_compareTo_2 90 = .ok (.iconst 0, 1) := dk_3 (dk_at dksX2_compareTo_2_3 19 rfl rfl)
theorem dX2_compareTo_2_91 : decode cX2_compareTo_2 91 = .ok (.ireturn, 1) := dk_172 (dk_at dksX2_compareTo_2_3 20 rfl rfl)
abbrev cX2_copy : ByteArray := prog_5_method_3_code
def yX2_copy : MethodName := ⟨RX2, "copy", "()LDependencyPairAnalyzer$SizeChangeGraph;"⟩
def dkwX2_copy_1 : List UInt8 := [183, 0, 27, 176]
abbrev dktX2_copy_1 : List UInt8 := dkwX2_copy_1 ++ []
def dkwX2_copy_0 : List UInt8 := [187, 0, 10, 89, 42, 180, 0, 9, 42, 180, 0, 15, 42, 180, 0, 18, 182, 0, 22, 192, 0, 23]
abbrev dktX2_copy_0 : List UInt8 := dkwX2_copy_0 ++ dktX2_copy_1
theorem dksX2_copy_0 : cX2_copy.data.toList.drop 0 = dktX2_copy_0 := by decide +kernel
theorem dksX2_copy_1 : cX2_copy.data.toList.drop 22 = dktX2_copy_1 := dk_seg dksX2_copy_0 22 rfl rfl
theorem dX2_copy_0 : decode cX2_copy 0 = .ok (.new 10, 3) := dk_187 0 10 (dk_at dksX2_copy_0 0 rfl rfl)
theorem dX2_copy_3 : decode cX2_copy 3 = .ok (.dup, 1) := dk_89 (dk_at dksX2_copy_0 3 rfl rfl)
theorem dX2_copy_4 : decode cX2_copy 4 = .ok (.aload_n 0, 1) := dk_42 (dk_at dksX2_copy_0 4 rfl rfl)
theorem dX2_copy_5 : decode cX2_copy 5 = .ok (.getfield 9, 3) := dk_180 0 9 (dk_at dksX2_copy_0 5 rfl rfl)
theorem dX2_copy_8 : decode cX2_copy 8 = .ok (.aload_n 0, 1) := dk_42 (dk_at dksX2_copy_0 8 rfl rfl)
theorem dX2_copy_9 : decode cX2_copy 9 = .ok (.getfield 15, 3) := dk_180 0 15 (dk_at dksX2_copy_0 9 rfl rfl)
theorem dX2_copy_12 : decode cX2_copy 12 = .ok (.aload_n 0, 1) := dk_42 (dk_at dksX2_copy_0 12 rfl rfl)
theorem dX2_copy_13 : decode cX2_copy 13 = .ok (.getfield 18, 3) := dk_180 0 18 (dk_at dksX2_copy_0 13 rfl rfl)
theorem dX2_copy_16 : decode cX2_copy 16 = .ok (.invokevirtual 22, 3) := dk_182 0 22 (dk_at dksX2_copy_0 16 rfl rfl)
theorem dX2_copy_19 : decode cX2_copy 19 = .ok (.checkcast 23, 3) := dk_192 0 23 (dk_at dksX2_copy_0 19 rfl rfl)
theorem dX2_copy_22 : decode cX2_copy 22 = .ok (.invokespecial 27, 3) := dk_183 0 27 (dk_at dksX2_copy_1 0 rfl rfl)
theorem dX2_copy_25 : decode cX2_copy 25 = .ok (.areturn, 1) := dk_176 (dk_at dksX2_copy_1 3 rfl rfl)
abbrev cX2_compose : ByteArray := prog_5_method_4_code
def yX2_compose : MethodName := ⟨RX2, "compose", "(LDependencyPairAnalyzer$SizeChangeGraph;LDependencyPairAnalyzer$SizeChangeGraph;)V"⟩
def dkwX2_compose_5 : List UInt8 := [184, 0, 30, 79, 132, 6, 1, 167, 255, 181, 132, 3, 1, 167, 255, 144, 177]
abbrev dktX2_compose_5 : List UInt8 := dkwX2_compose_5 ++ []
def dkwX2_compose_4 : List UInt8 := [21, 7, 21, 8, 184, 0, 30, 54, 9, 42, 180, 0, 18, 29, 42, 180, 0, 18, 29, 46, 21, 9]
abbrev dktX2_compose_4 : List UInt8 := dkwX2_compose_4 ++ dktX2_compose_5
def dkwX2_compose_3 : List UInt8 := [6, 21, 6, 104, 21, 5, 96, 46, 54, 8, 21, 7, 153, 0, 8, 21, 8, 154, 0, 7, 3, 167, 0, 10]
abbrev dktX2_compose_3 : List UInt8 := dkwX2_compose_3 ++ dktX2_compose_4
def dkwX2_compose_2 : List UInt8 := [54, 6, 21, 6, 6, 162, 0, 75, 43, 180, 0, 18, 21, 4, 21, 6, 96, 46, 54, 7, 44, 180, 0, 18]
abbrev dktX2_compose_2 : List UInt8 := dkwX2_compose_2 ++ dktX2_compose_3
def dkwX2_compose_1 : List UInt8 := [162, 0, 109, 29, 6, 108, 6, 104, 54, 4, 29, 6, 112, 54, 5, 42, 180, 0, 18, 29, 3, 79, 3]
abbrev dktX2_compose_1 : List UInt8 := dkwX2_compose_1 ++ dktX2_compose_2
def dkwX2_compose_0 : List UInt8 := [42, 43, 180, 0, 9, 181, 0, 9, 42, 44, 180, 0, 15, 181, 0, 15, 3, 62, 29, 42, 180, 0, 18, 190]
abbrev dktX2_compose_0 : List UInt8 := dkwX2_compose_0 ++ dktX2_compose_1
theorem dksX2_compose_0 : cX2_compose.data.toList.drop 0 = dktX2_compose_0 := by decide +kernel
theorem dksX2_compose_1 : cX2_compose.data.toList.drop 24 = dktX2_compose_1 := dk_seg dksX2_compose_0 24 rfl rfl
theorem dksX2_compose_2 : cX2_compose.data.toList.drop 47 = dktX2_compose_2 := dk_seg dksX2_compose_1 23 rfl rfl
theorem dksX2_compose_3 : cX2_compose.data.toList.drop 71 = dktX2_compose_3 := dk_seg dksX2_compose_2 24 rfl rfl
theorem dksX2_compose_4 : cX2_compose.data.toList.drop 95 = dktX2_compose_4 := dk_seg dksX2_compose_3 24 rfl rfl
theorem dksX2_compose_5 : cX2_compose.data.toList.drop 117 = dktX2_compose_5 := dk_seg dksX2_compose_4 22 rfl rfl
theorem dX2_compose_0 : decode cX2_compose 0 = .ok (.aload_n 0, 1) := dk_42 (dk_at dksX2_compose_0 0 rfl rfl)
theorem dX2_compose_1 : decode cX2_compose 1 = .ok (.aload_n 1, 1) := dk_43 (dk_at dksX2_compose_0 1 rfl rfl)
theorem dX2_compose_2 : decode cX2_compose 2 = .ok (.getfield 9, 3) := dk_180 0 9 (dk_at dksX2_compose_0 2 rfl rfl)
theorem dX2_compose_5 : decode cX2_compose 5 = .ok (.putfield 9, 3) := dk_181 0 9 (dk_at dksX2_compose_0 5 rfl rfl)
theorem dX2_compose_8 : decode cX2_compose 8 = .ok (.aload_n 0, 1) := dk_42 (dk_at dksX2_compose_0 8 rfl rfl)
theorem dX2_compose_9 : decode cX2_compose 9 = .ok (.aload_n 2, 1) := dk_44 (dk_at dksX2_compose_0 9 rfl rfl)
theorem dX2_compose_10 : decode cX2_compose 10 = .ok (.getfield 15, 3) := dk_180 0 15 (dk_at dksX2_compose_0 10 rfl rfl)
theorem dX2_compose_13 : decode cX2_compose 13 = .ok (.putfield 15, 3) := dk_181 0 15 (dk_at dksX2_compose_0 13 rfl rfl)
theorem dX2_compose_16 : decode cX2_compose 16 = .ok (.iconst 0, 1) := dk_3 (dk_at dksX2_compose_0 16 rfl rfl)
theorem dX2_compose_17 : decode cX2_compose 17 = .ok (.istore_n 3, 1) := dk_62 (dk_at dksX2_compose_0 17 rfl rfl)
theorem dX2_compose_18 : decode cX2_compose 18 = .ok (.iload_n 3, 1) := dk_29 (dk_at dksX2_compose_0 18 rfl rfl)
theorem dX2_compose_19 : decode cX2_compose 19 = .ok (.aload_n 0, 1) := dk_42 (dk_at dksX2_compose_0 19 rfl rfl)
theorem dX2_compose_20 : decode cX2_compose 20 = .ok (.getfield 18, 3) := dk_180 0 18 (dk_at dksX2_compose_0 20 rfl rfl)
theorem dX2_compose_23 : decode cX2_compose 23 = .ok (.arraylength, 1) := dk_190 (dk_at dksX2_compose_0 23 rfl rfl)
theorem dX2_compose_24 : decode cX2_compose 24 = .ok (.if_icmp .ge 109, 3) := dk_162 0 109 (dk_at dksX2_compose_1 0 rfl rfl)
theorem dX2_compose_27 : decode cX2_compose 27 = .ok (.iload_n 3, 1) := dk_29 (dk_at dksX2_compose_1 3 rfl rfl)
theorem dX2_compose_28 : decode cX2_compose 28 = .ok (.iconst 3, 1) := dk_6 (dk_at dksX2_compose_1 4 rfl rfl)
theorem dX2_compose_29 : decode cX2_compose 29 = .ok (.idiv, 1) := dk_108 (dk_at dksX2_compose_1 5 rfl rfl)
theorem dX2_compose_30 : decode cX2_compose 30 = .ok (.iconst 3, 1) := dk_6 (dk_at dksX2_compose_1 6 rfl rfl)
theorem dX2_compose_31 : decode cX2_compose 31 = .ok (.imul, 1) := dk_104 (dk_at dksX2_compose_1 7 rfl rfl)
theorem dX2_compose_32 : decode cX2_compose 32 = .ok (.istore 4, 2) := dk_54 4 (dk_at dksX2_compose_1 8 rfl rfl)
theorem dX2_compose_34 : decode cX2_compose 34 = .ok (.iload_n 3, 1) := dk_29 (dk_at dksX2_compose_1 10 rfl rfl)
theorem dX2_compose_35 : decode cX2_compose 35 = .ok (.iconst 3, 1) := dk_6 (dk_at dksX2_compose_1 11 rfl rfl)
theorem dX2_compose_36 : decode cX2_compose 36 = .ok (.irem, 1) := dk_112 (dk_at dksX2_compose_1 12 rfl rfl)
theorem dX2_compose_37 : decode cX2_compose 37 = .ok (.istore 5, 2) := dk_54 5 (dk_at dksX2_compose_1 13 rfl rfl)
theorem dX2_compose_39 : decode cX2_compose 39 = .ok (.aload_n 0, 1) := dk_42 (dk_at dksX2_compose_1 15 rfl rfl)
theorem dX2_compose_40 : decode cX2_compose 40 = .ok (.getfield 18, 3) := dk_180 0 18 (dk_at dksX2_compose_1 16 rfl rfl)
theorem dX2_compose_43 : decode cX2_compose 43 = .ok (.iload_n 3, 1) := dk_29 (dk_at dksX2_compose_1 19 rfl rfl)
theorem dX2_compose_44 : decode cX2_compose 44 = .ok (.iconst 0, 1) := dk_3 (dk_at dksX2_compose_1 20 rfl rfl)
theorem dX2_compose_45 : decode cX2_compose 45 = .ok (.iastore, 1) := dk_79 (dk_at dksX2_compose_1 21 rfl rfl)
theorem dX2_compose_46 : decode cX2_compose 46 = .ok (.iconst 0, 1) := dk_3 (dk_at dksX2_compose_1 22 rfl rfl)
theorem dX2_compose_47 : decode cX2_compose 47 = .ok (.istore 6, 2) := dk_54 6 (dk_at dksX2_compose_2 0 rfl rfl)
theorem dX2_compose_49 : decode cX2_compose 49 = .ok (.iload 6, 2) := dk_21 6 (dk_at dksX2_compose_2 2 rfl rfl)
theorem dX2_compose_51 : decode cX2_compose 51 = .ok (.iconst 3, 1) := dk_6 (dk_at dksX2_compose_2 4 rfl rfl)
theorem dX2_compose_52 : decode cX2_compose 52 = .ok (.if_icmp .ge 75, 3) := dk_162 0 75 (dk_at dksX2_compose_2 5 rfl rfl)
theorem dX2_compose_55 : decode cX2_compose 55 = .ok (.aload_n 1, 1) := dk_43 (dk_at dksX2_compose_2 8 rfl rfl)
theorem dX2_compose_56 : decode cX2_compose 56 = .ok (.getfield 18, 3) := dk_180 0 18 (dk_at dksX2_compose_2 9 rfl rfl)
theorem dX2_compose_59 : decode cX2_compose 59 = .ok (.iload 4, 2) := dk_21 4 (dk_at dksX2_compose_2 12 rfl rfl)
theorem dX2_compose_61 : decode cX2_compose 61 = .ok (.iload 6, 2) := dk_21 6 (dk_at dksX2_compose_2 14 rfl rfl)
theorem dX2_compose_63 : decode cX2_compose 63 = .ok (.iadd, 1) := dk_96 (dk_at dksX2_compose_2 16 rfl rfl)
theorem dX2_compose_64 : decode cX2_compose 64 = .ok (.iaload, 1) := dk_46 (dk_at dksX2_compose_2 17 rfl rfl)
theorem dX2_compose_65 : decode cX2_compose 65 = .ok (.istore 7, 2) := dk_54 7 (dk_at dksX2_compose_2 18 rfl rfl)
theorem dX2_compose_67 : decode cX2_compose 67 = .ok (.aload_n 2, 1) := dk_44 (dk_at dksX2_compose_2 20 rfl rfl)
theorem dX2_compose_68 : decode cX2_compose 68 = .ok (.getfield 18, 3) := dk_180 0 18 (dk_at dksX2_compose_2 21 rfl rfl)
theorem dX2_compose_71 : decode cX2_compose 71 = .ok (.iconst 3, 1) := dk_6 (dk_at dksX2_compose_3 0 rfl rfl)
theorem dX2_compose_72 : decode cX2_compose 72 = .ok (.iload 6, 2) := dk_21 6 (dk_at dksX2_compose_3 1 rfl rfl)
theorem dX2_compose_74 : decode cX2_compose 74 = .ok (.imul, 1) := dk_104 (dk_at dksX2_compose_3 3 rfl rfl)
theorem dX2_compose_75 : decode cX2_compose 75 = .ok (.iload 5, 2) := dk_21 5 (dk_at dksX2_compose_3 4 rfl rfl)
theorem dX2_compose_77 : decode cX2_compose 77 = .ok (.iadd, 1) := dk_96 (dk_at dksX2_compose_3 6 rfl rfl)
theorem dX2_compose_78 : decode cX2_compose 78 = .ok (.iaload, 1) := dk_46 (dk_at dksX2_compose_3 7 rfl rfl)
theorem dX2_compose_79 : decode cX2_compose 79 = .ok (.istore 8, 2) := dk_54 8 (dk_at dksX2_compose_3 8 rfl rfl)
theorem dX2_compose_81 : decode cX2_compose 81 = .ok (.iload 7, 2) := dk_21 7 (dk_at dksX2_compose_3 10 rfl rfl)
theorem dX2_compose_83 : decode cX2_compose 83 = .ok (.ifCond .eq 8, 3) := dk_153 0 8 (dk_at dksX2_compose_3 12 rfl rfl)
theorem dX2_compose_86 : decode cX2_compose 86 = .ok (.iload 8, 2) := dk_21 8 (dk_at dksX2_compose_3 15 rfl rfl)
theorem dX2_compose_88 : decode cX2_compose 88 = .ok (.ifCond .ne 7, 3) := dk_154 0 7 (dk_at dksX2_compose_3 17 rfl rfl)
theorem dX2_compose_91 : decode cX2_compose 91 = .ok (.iconst 0, 1) := dk_3 (dk_at dksX2_compose_3 20 rfl rfl)
theorem dX2_compose_92 : decode cX2_compose 92 = .ok (.goto 10, 3) := dk_167 0 10 (dk_at dksX2_compose_3 21 rfl rfl)
theorem dX2_compose_95 : decode cX2_compose 95 = .ok (.iload 7, 2) := dk_21 7 (dk_at dksX2_compose_4 0 rfl rfl)
theorem dX2_compose_97 : decode cX2_compose 97 = .ok (.iload 8, 2) := dk_21 8 (dk_at dksX2_compose_4 2 rfl rfl)
theorem dX2_compose_99 : decode cX2_compose 99 = .ok (.invokestatic 30, 3) := dk_184 0 30 (dk_at dksX2_compose_4 4 rfl rfl)
theorem dX2_compose_102 : decode cX2_compose 102 = .ok (.istore 9, 2) := dk_54 9 (dk_at dksX2_compose_4 7 rfl rfl)
theorem dX2_compose_104 : decode cX2_compose 104 = .ok (.aload_n 0, 1) := dk_42 (dk_at dksX2_compose_4 9 rfl rfl)
theorem dX2_compose_105 : decode cX2_compose 105 = .ok (.getfield 18, 3) := dk_180 0 18 (dk_at dksX2_compose_4 10 rfl rfl)
theorem dX2_compose_108 : decode cX2_compose 108 = .ok (.iload_n 3, 1) := dk_29 (dk_at dksX2_compose_4 13 rfl rfl)
theorem dX2_compose_109 : decode cX2_compose 109 = .ok (.aload_n 0, 1) := dk_42 (dk_at dksX2_compose_4 14 rfl rfl)
theorem dX2_compose_110 : decode cX2_compose 110 = .ok (.getfield 18, 3) := dk_180 0 18 (dk_at dksX2_compose_4 15 rfl rfl)
theorem dX2_compose_113 : decode cX2_compose 113 = .ok (.iload_n 3, 1) := dk_29 (dk_at dksX2_compose_4 18 rfl rfl)
theorem dX2_compose_114 : decode cX2_compose 114 = .ok (.iaload, 1) := dk_46 (dk_at dksX2_compose_4 19 rfl rfl)
theorem dX2_compose_115 : decode cX2_compose 115 = .ok (.iload 9, 2) := dk_21 9 (dk_at dksX2_compose_4 20 rfl rfl)
theorem dX2_compose_117 : decode cX2_compose 117 = .ok (.invokestatic 30, 3) := dk_184 0 30 (dk_at dksX2_compose_5 0 rfl rfl)
theorem dX2_compose_120 : decode cX2_compose 120 = .ok (.iastore, 1) := dk_79 (dk_at dksX2_compose_5 3 rfl rfl)
theorem dX2_compose_121 : decode cX2_compose 121 = .ok (.iinc 6 1, 3) := dk_132 6 1 (dk_at dksX2_compose_5 4 rfl rfl)
theorem dX2_compose_124 : decode cX2_compose 124 = .ok (.goto (-75), 3) := dk_167 255 181 (dk_at dksX2_compose_5 7 rfl rfl)
theorem dX2_compose_127 : decode cX2_compose 127 = .ok (.iinc 3 1, 3) := dk_132 3 1 (dk_at dksX2_compose_5 10 rfl rfl)
theorem dX2_compose_130 : decode cX2_compose 130 = .ok (.goto (-112), 3) := dk_167 255 144 (dk_at dksX2_compose_5 13 rfl rfl)
theorem dX2_compose_133 : decode cX2_compose 133 = .ok (.return_, 1) := dk_177 (dk_at dksX2_compose_5 16 rfl rfl)
abbrev cX2_decreases : ByteArray := prog_5_method_5_code
def yX2_decreases : MethodName := ⟨RX2, "decreases", "()Z"⟩
def dkwX2_decreases_1 : List UInt8 := [16, 8, 46, 5, 160, 0, 7, 4, 167, 0, 4, 3, 172]
abbrev dktX2_decreases_1 : List UInt8 := dkwX2_decreases_1 ++ []
def dkwX2_decreases_0 : List UInt8 := [42, 180, 0, 18, 3, 46, 5, 159, 0, 24, 42, 180, 0, 18, 7, 46, 5, 159, 0, 14, 42, 180, 0, 18]
abbrev dktX2_decreases_0 : List UInt8 := dkwX2_decreases_0 ++ dktX2_decreases_1
theorem dksX2_decreases_0 : cX2_decreases.data.toList.drop 0 = dktX2_decreases_0 := by decide +kernel
theorem dksX2_decreases_1 : cX2_decreases.data.toList.drop 24 = dktX2_decreases_1 := dk_seg dksX2_decreases_0 24 rfl rfl
theorem dX2_decreases_0 : decode cX2_decreases 0 = .ok (.aload_n 0, 1) := dk_42 (dk_at dksX2_decreases_0 0 rfl rfl)
theorem dX2_decreases_1 : decode cX2_decreases 1 = .ok (.getfield 18, 3) := dk_180 0 18 (dk_at dksX2_decreases_0 1 rfl rfl)
theorem dX2_decreases_4 : decode cX2_decreases 4 = .ok (.iconst 0, 1) := dk_3 (dk_at dksX2_decreases_0 4 rfl rfl)
theorem dX2_decreases_5 : decode cX2_decreases 5 = .ok (.iaload, 1) := dk_46 (dk_at dksX2_decreases_0 5 rfl rfl)
theorem dX2_decreases_6 : decode cX2_decreases 6 = .ok (.iconst 2, 1) := dk_5 (dk_at dksX2_decreases_0 6 rfl rfl)
theorem dX2_decreases_7 : decode cX2_decreases 7 = .ok (.if_icmp .eq 24, 3) := dk_159 0 24 (dk_at dksX2_decreases_0 7 rfl rfl)
theorem dX2_decreases_10 : decode cX2_decreases 10 = .ok (.aload_n 0, 1) := dk_42 (dk_at dksX2_decreases_0 10 rfl rfl)
theorem dX2_decreases_11 : decode cX2_decreases 11 = .ok (.getfield 18, 3) := dk_180 0 18 (dk_at dksX2_decreases_0 11 rfl rfl)
theorem dX2_decreases_14 : decode cX2_decreases 14 = .ok (.iconst 4, 1) := dk_7 (dk_at dksX2_decreases_0 14 rfl rfl)
theorem dX2_decreases_15 : decode cX2_decreases 15 = .ok (.iaload, 1) := dk_46 (dk_at dksX2_decreases_0 15 rfl rfl)
theorem dX2_decreases_16 : decode cX2_decreases 16 = .ok (.iconst 2, 1) := dk_5 (dk_at dksX2_decreases_0 16 rfl rfl)
theorem dX2_decreases_17 : decode cX2_decreases 17 = .ok (.if_icmp .eq 14, 3) := dk_159 0 14 (dk_at dksX2_decreases_0 17 rfl rfl)
theorem dX2_decreases_20 : decode cX2_decreases 20 = .ok (.aload_n 0, 1) := dk_42 (dk_at dksX2_decreases_0 20 rfl rfl)
theorem dX2_decreases_21 : decode cX2_decreases 21 = .ok (.getfield 18, 3) := dk_180 0 18 (dk_at dksX2_decreases_0 21 rfl rfl)
theorem dX2_decreases_24 : decode cX2_decreases 24 = .ok (.bipush 8, 2) := dk_16 8 (dk_at dksX2_decreases_1 0 rfl rfl)
theorem dX2_decreases_26 : decode cX2_decreases 26 = .ok (.iaload, 1) := dk_46 (dk_at dksX2_decreases_1 2 rfl rfl)
theorem dX2_decreases_27 : decode cX2_decreases 27 = .ok (.iconst 2, 1) := dk_5 (dk_at dksX2_decreases_1 3 rfl rfl)
theorem dX2_decreases_28 : decode cX2_decreases 28 = .ok (.if_icmp .ne 7, 3) := dk_160 0 7 (dk_at dksX2_decreases_1 4 rfl rfl)
theorem dX2_decreases_31 : decode cX2_decreases 31 = .ok (.iconst 1, 1) := dk_4 (dk_at dksX2_decreases_1 7 rfl rfl)
theorem dX2_decreases_32 : decode cX2_decreases 32 = .ok (.goto 4, 3) := dk_167 0 4 (dk_at dksX2_decreases_1 8 rfl rfl)
theorem dX2_decreases_35 : decode cX2_decreases 35 = .ok (.iconst 0, 1) := dk_3 (dk_at dksX2_decreases_1 11 rfl rfl)
theorem dX2_decreases_36 : decode cX2_decreases 36 = .ok (.ireturn, 1) := dk_172 (dk_at dksX2_decreases_1 12 rfl rfl)

/-! DependencyPairAnalyzer$Term -/
set_option maxRecDepth 100000
def RX3 : String := "DependencyPairAnalyzer$Term"
def TX3 : u_T := fun k => match k with
  | 0 => ("DependencyPairAnalyzer$Term", "symbols", "[B", true)
  | _ => ("DependencyPairAnalyzer$Term", "ends", "[I", true)
def tyX3 : Nat → FieldType := fun k => match k with
  | 0 => .array .byte
  | _ => .array .int
abbrev wsX30 : List Cond := u_ws RX3 TX3 2
theorem nmX3 : ∀ a, a < 2 → ∀ b, b < 2 → a ≠ b → (TX3 a).2.1 ≠ (TX3 b).2.1 := by decide +kernel
theorem tyX3_ok : ∀ k, k < 2 → parseFieldDescriptor (TX3 k).2.2.1 = some (tyX3 k) := by decide +kernel
abbrev cX3_init : ByteArray := prog_7_method_1_code
def yX3_init : MethodName := ⟨RX3, "<init>", "([BI[I)V"⟩
def dkwX3_init_4 : List UInt8 := [167, 255, 194, 177]
abbrev dktX3_init_4 : List UInt8 := dkwX3_init_4 ++ []
def dkwX3_init_3 : List UInt8 := [21, 4, 42, 180, 0, 15, 42, 180, 0, 15, 21, 4, 46, 46, 79, 132, 5, 255, 167, 255, 229, 132, 4, 255]
abbrev dktX3_init_3 : List UInt8 := dkwX3_init_3 ++ dktX3_init_4
def dkwX3_init_2 : List UInt8 := [96, 79, 42, 180, 0, 9, 21, 4, 51, 45, 184, 0, 25, 54, 5, 21, 5, 158, 0, 28, 42, 180, 0, 15]
abbrev dktX3_init_2 : List UInt8 := dkwX3_init_2 ++ dktX3_init_3
def dkwX3_init_1 : List UInt8 := [3, 28, 184, 0, 19, 28, 4, 100, 54, 4, 21, 4, 155, 0, 63, 42, 180, 0, 15, 21, 4, 21, 4, 4]
abbrev dktX3_init_1 : List UInt8 := dkwX3_init_1 ++ dktX3_init_2
def dkwX3_init_0 : List UInt8 := [42, 183, 0, 3, 42, 28, 188, 8, 181, 0, 9, 42, 28, 188, 10, 181, 0, 15, 43, 3, 42, 180, 0, 9]
abbrev dktX3_init_0 : List UInt8 := dkwX3_init_0 ++ dktX3_init_1
theorem dksX3_init_0 : cX3_init.data.toList.drop 0 = dktX3_init_0 := by decide +kernel
theorem dksX3_init_1 : cX3_init.data.toList.drop 24 = dktX3_init_1 := dk_seg dksX3_init_0 24 rfl rfl
theorem dksX3_init_2 : cX3_init.data.toList.drop 48 = dktX3_init_2 := dk_seg dksX3_init_1 24 rfl rfl
theorem dksX3_init_3 : cX3_init.data.toList.drop 72 = dktX3_init_3 := dk_seg dksX3_init_2 24 rfl rfl
theorem dksX3_init_4 : cX3_init.data.toList.drop 96 = dktX3_init_4 := dk_seg dksX3_init_3 24 rfl rfl
theorem dX3_init_0 : decode cX3_init 0 = .ok (.aload_n 0, 1) := dk_42 (dk_at dksX3_init_0 0 rfl rfl)
theorem dX3_init_1 : decode cX3_init 1 = .ok (.invokespecial 3, 3) := dk_183 0 3 (dk_at dksX3_init_0 1 rfl rfl)
theorem dX3_init_4 : decode cX3_init 4 = .ok (.aload_n 0, 1) := dk_42 (dk_at dksX3_init_0 4 rfl rfl)
theorem dX3_init_5 : decode cX3_init 5 = .ok (.iload_n 2, 1) := dk_28 (dk_at dksX3_init_0 5 rfl rfl)
theorem dX3_init_6 : decode cX3_init 6 = .ok (.newarray .byte, 2) := dk_188_8 (dk_at dksX3_init_0 6 rfl rfl)
theorem dX3_init_8 : decode cX3_init 8 = .ok (.putfield 9, 3) := dk_181 0 9 (dk_at dksX3_init_0 8 rfl rfl)
theorem dX3_init_11 : decode cX3_init 11 = .ok (.aload_n 0, 1) := dk_42 (dk_at dksX3_init_0 11 rfl rfl)
theorem dX3_init_12 : decode cX3_init 12 = .ok (.iload_n 2, 1) := dk_28 (dk_at dksX3_init_0 12 rfl rfl)
theorem dX3_init_13 : decode cX3_init 13 = .ok (.newarray .int, 2) := dk_188_10 (dk_at dksX3_init_0 13 rfl rfl)
theorem dX3_init_15 : decode cX3_init 15 = .ok (.putfield 15, 3) := dk_181 0 15 (dk_at dksX3_init_0 15 rfl rfl)
theorem dX3_init_18 : decode cX3_init 18 = .ok (.aload_n 1, 1) := dk_43 (dk_at dksX3_init_0 18 rfl rfl)
theorem dX3_init_19 : decode cX3_init 19 = .ok (.iconst 0, 1) := dk_3 (dk_at dksX3_init_0 19 rfl rfl)
theorem dX3_init_20 : decode cX3_init 20 = .ok (.aload_n 0, 1) := dk_42 (dk_at dksX3_init_0 20 rfl rfl)
theorem dX3_init_21 : decode cX3_init 21 = .ok (.getfield 9, 3) := dk_180 0 9 (dk_at dksX3_init_0 21 rfl rfl)
theorem dX3_init_24 : decode cX3_init 24 = .ok (.iconst 0, 1) := dk_3 (dk_at dksX3_init_1 0 rfl rfl)
theorem dX3_init_25 : decode cX3_init 25 = .ok (.iload_n 2, 1) := dk_28 (dk_at dksX3_init_1 1 rfl rfl)
theorem dX3_init_26 : decode cX3_init 26 = .ok (.invokestatic 19, 3) := dk_184 0 19 (dk_at dksX3_init_1 2 rfl rfl)
theorem dX3_init_29 : decode cX3_init 29 = .ok (.iload_n 2, 1) := dk_28 (dk_at dksX3_init_1 5 rfl rfl)
theorem dX3_init_30 : decode cX3_init 30 = .ok (.iconst 1, 1) := dk_4 (dk_at dksX3_init_1 6 rfl rfl)
theorem dX3_init_31 : decode cX3_init 31 = .ok (.isub, 1) := dk_100 (dk_at dksX3_init_1 7 rfl rfl)
theorem dX3_init_32 : decode cX3_init 32 = .ok (.istore 4, 2) := dk_54 4 (dk_at dksX3_init_1 8 rfl rfl)
theorem dX3_init_34 : decode cX3_init 34 = .ok (.iload 4, 2) := dk_21 4 (dk_at dksX3_init_1 10 rfl rfl)
theorem dX3_init_36 : decode cX3_init 36 = .ok (.ifCond .lt 63, 3) := dk_155 0 63 (dk_at dksX3_init_1 12 rfl rfl)
theorem dX3_init_39 : decode cX3_init 39 = .ok (.aload_n 0, 1) := dk_42 (dk_at dksX3_init_1 15 rfl rfl)
theorem dX3_init_40 : decode cX3_init 40 = .ok (.getfield 15, 3) := dk_180 0 15 (dk_at dksX3_init_1 16 rfl rfl)
theorem dX3_init_43 : decode cX3_init 43 = .ok (.iload 4, 2) := dk_21 4 (dk_at dksX3_init_1 19 rfl rfl)
theorem dX3_init_45 : decode cX3_init 45 = .ok (.iload 4, 2) := dk_21 4 (dk_at dksX3_init_1 21 rfl rfl)
theorem dX3_init_47 : decode cX3_init 47 = .ok (.iconst 1, 1) := dk_4 (dk_at dksX3_init_1 23 rfl rfl)
theorem dX3_init_48 : decode cX3_init 48 = .ok (.iadd, 1) := dk_96 (dk_at dksX3_init_2 0 rfl rfl)
theorem dX3_init_49 : decode cX3_init 49 = .ok (.iastore, 1) := dk_79 (dk_at dksX3_init_2 1 rfl rfl)
theorem dX3_init_50 : decode cX3_init 50 = .ok (.aload_n 0, 1) := dk_42 (dk_at dksX3_init_2 2 rfl rfl)
theorem dX3_init_51 : decode cX3_init 51 = .ok (.getfield 9, 3) := dk_180 0 9 (dk_at dksX3_init_2 3 rfl rfl)
theorem dX3_init_54 : decode cX3_init 54 = .ok (.iload 4, 2) := dk_21 4 (dk_at dksX3_init_2 6 rfl rfl)
theorem dX3_init_56 : decode cX3_init 56 = .ok (.baload, 1) := dk_51 (dk_at dksX3_init_2 8 rfl rfl)
theorem dX3_init_57 : decode cX3_init 57 = .ok (.aload_n 3, 1) := dk_45 (dk_at dksX3_init_2 9 rfl rfl)
theorem dX3_init_58 : decode cX3_init 58 = .ok (.invokestatic 25, 3) := dk_184 0 25 (dk_at dksX3_init_2 10 rfl rfl)
theorem dX3_init_61 : decode cX3_init 61 = .ok (.istore 5, 2) := dk_54 5 (dk_at dksX3_init_2 13 rfl rfl)
theorem dX3_init_63 : decode cX3_init 63 = .ok (.iload 5, 2) := dk_21 5 (dk_at dksX3_init_2 15 rfl rfl)
theorem dX3_init_65 : decode cX3_init 65 = .ok (.ifCond .le 28, 3) := dk_158 0 28 (dk_at dksX3_init_2 17 rfl rfl)
theorem dX3_init_68 : decode cX3_init 68 = .ok (.aload_n 0, 1) := dk_42 (dk_at dksX3_init_2 20 rfl rfl)
theorem dX3_init_69 : decode cX3_init 69 = .ok (.getfield 15, 3) := dk_180 0 15 (dk_at dksX3_init_2 21 rfl rfl)
theorem dX3_init_72 : decode cX3_init 72 = .ok (.iload 4, 2) := dk_21 4 (dk_at dksX3_init_3 0 rfl rfl)
theorem dX3_init_74 : decode cX3_init 74 = .ok (.aload_n 0, 1) := dk_42 (dk_at dksX3_init_3 2 rfl rfl)
theorem dX3_init_75 : decode cX3_init 75 = .ok (.getfield 15, 3) := dk_180 0 15 (dk_at dksX3_init_3 3 rfl rfl)
theorem dX3_init_78 : decode cX3_init 78 = .ok (.aload_n 0, 1) := dk_42 (dk_at dksX3_init_3 6 rfl rfl)
theorem dX3_init_79 : decode cX3_init 79 = .ok (.getfield 15, 3) := dk_180 0 15 (dk_at dksX3_init_3 7 rfl rfl)
theorem dX3_init_82 : decode cX3_init 82 = .ok (.iload 4, 2) := dk_21 4 (dk_at dksX3_init_3 10 rfl rfl)
theorem dX3_init_84 : decode cX3_init 84 = .ok (.iaload, 1) := dk_46 (dk_at dksX3_init_3 12 rfl rfl)
theorem dX3_init_85 : decode cX3_init 85 = .ok (.iaload, 1) := dk_46 (dk_at dksX3_init_3 13 rfl rfl)
theorem dX3_init_86 : decode cX3_init 86 = .ok (.iastore, 1) := dk_79 (dk_at dksX3_init_3 14 rfl rfl)
theorem dX3_init_87 : decode cX3_init 87 = .ok (.iinc 5 (-1), 3) := dk_132 5 255 (dk_at dksX3_init_3 15 rfl rfl)
theorem dX3_init_90 : decode cX3_init 90 = .ok (.goto (-27), 3) := dk_167 255 229 (dk_at dksX3_init_3 18 rfl rfl)
theorem dX3_init_93 : decode cX3_init 93 = .ok (.iinc 4 (-1), 3) := dk_132 4 255 (dk_at dksX3_init_3 21 rfl rfl)
theorem dX3_init_96 : decode cX3_init 96 = .ok (.goto (-62), 3) := dk_167 255 194 (dk_at dksX3_init_4 0 rfl rfl)
theorem dX3_init_99 : decode cX3_init 99 = .ok (.return_, 1) := dk_177 (dk_at dksX3_init_4 3 rfl rfl)
abbrev cX3_argumentCount : ByteArray := prog_7_method_3_code
def yX3_argumentCount : MethodName := ⟨RX3, "argumentCount", "(I[I)I"⟩
def dkwX3_argumentCount_2 : List UInt8 := [3, 172, 4, 172, 5, 172, 26, 184, 0, 29, 153, 0, 12, 43, 26, 16, 102, 100, 46, 167, 0, 4, 2, 172]
abbrev dktX3_argumentCount_2 : List UInt8 := dkwX3_argumentCount_2 ++ []
def dkwX3_argumentCount_1 : List UInt8 := [171, 0, 0, 0, 0, 0, 65, 0, 0, 0, 6, 0, 0, 0, 99, 0, 0, 0, 63, 0, 0, 0, 115, 0, 0, 0, 61, 0, 0, 0, 119, 0, 0, 0, 59, 0, 0, 0, 120, 0, 0, 0, 59, 0, 0, 0, 121, 0, 0, 0, 59, 0, 0, 0, 122, 0, 0, 0, 59]
abbrev dktX3_argumentCount_1 : List UInt8 := dkwX3_argumentCount_1 ++ dktX3_argumentCount_2
def dkwX3_argumentCount_0 : List UInt8 := [26]
abbrev dktX3_argumentCount_0 : List UInt8 := dkwX3_argumentCount_0 ++ dktX3_argumentCount_1
theorem dksX3_argumentCount_0 : cX3_argumentCount.data.toList.drop 0 = dktX3_argumentCount_0 := by decide +kernel
theorem dksX3_argumentCount_1 : cX3_argumentCount.data.toList.drop 1 = dktX3_argumentCount_1 := dk_seg dksX3_argumentCount_0 1 rfl rfl
theorem dksX3_argumentCount_2 : cX3_argumentCount.data.toList.drop 60 = dktX3_argumentCount_2 := dk_seg dksX3_argumentCount_1 59 rfl rfl
theorem dX3_argumentCount_0 : decode cX3_argumentCount 0 = .ok (.iload_n 0, 1) := dk_26 (dk_at dksX3_argumentCount_0 0 rfl rfl)
theorem dX3_argumentCount_1 : decode cX3_argumentCount 1 = .ok (.lookupswitch 65 #[(99, 63), (115, 61), (119, 59), (120, 59), (121, 59), (122, 59)], 59) := by decide +kernel
theorem dX3_argumentCount_60 : decode cX3_argumentCount 60 = .ok (.iconst 0, 1) := dk_3 (dk_at dksX3_argumentCount_2 0 rfl rfl)
theorem dX3_argumentCount_61 : decode cX3_argumentCount 61 = .ok (.ireturn, 1) := dk_172 (dk_at dksX3_argumentCount_2 1 rfl rfl)
theorem dX3_argumentCount_62 : decode cX3_argumentCount 62 = .ok (.iconst 1, 1) := dk_4 (dk_at dksX3_argumentCount_2 2 rfl rfl)
theorem dX3_argumentCount_63 : decode cX3_argumentCount 63 = .ok (.ireturn, 1) := dk_172 (dk_at dksX3_argumentCount_2 3 rfl rfl)
theorem dX3_argumentCount_64 : decode cX3_argumentCount 64 = .ok (.iconst 2, 1) := dk_5 (dk_at dksX3_argumentCount_2 4 rfl rfl)
theorem dX3_argumentCount_65 : decode cX3_argumentCount 65 = .ok (.ireturn, 1) := dk_172 (dk_at dksX3_argumentCount_2 5 rfl rfl)
theorem dX3_argumentCount_66 : decode cX3_argumentCount 66 = .ok (.iload_n 0, 1) := dk_26 (dk_at dksX3_argumentCount_2 6 rfl rfl)
theorem dX3_argumentCount_67 : decode cX3_argumentCount 67 = .ok (.invokestatic 29, 3) := dk_184 0 29 (dk_at dksX3_argumentCount_2 7 rfl rfl)
theorem dX3_argumentCount_70 : decode cX3_argumentCount 70 = .ok (.ifCond .eq 12, 3) := dk_153 0 12 (dk_at dksX3_argumentCount_2 10 rfl rfl)
theorem dX3_argumentCount_73 : decode cX3_argumentCount 73 = .ok (.aload_n 1, 1) := dk_43 (dk_at dksX3_argumentCount_2 13 rfl rfl)
theorem dX3_argumentCount_74 : decode cX3_argumentCount 74 = .ok (.iload_n 0, 1) := dk_26 (dk_at dksX3_argumentCount_2 14 rfl rfl)
theorem dX3_argumentCount_75 : decode cX3_argumentCount 75 = .ok (.bipush 102, 2) := dk_16 102 (dk_at dksX3_argumentCount_2 15 rfl rfl)
theorem dX3_argumentCount_77 : decode cX3_argumentCount 77 = .ok (.isub, 1) := dk_100 (dk_at dksX3_argumentCount_2 17 rfl rfl)
theorem dX3_argumentCount_78 : decode cX3_argumentCount 78 = .ok (.iaload, 1) := dk_46 (dk_at dksX3_argumentCount_2 18 rfl rfl)
theorem dX3_argumentCount_79 : decode cX3_argumentCount 79 = .ok (.goto 4, 3) := dk_167 0 4 (dk_at dksX3_argumentCount_2 19 rfl rfl)
theorem dX3_argumentCount_82 : decode cX3_argumentCount 82 = .ok (.iconst (-1), 1) := dk_2 (dk_at dksX3_argumentCount_2 22 rfl rfl)
theorem dX3_argumentCount_83 : decode cX3_argumentCount 83 = .ok (.ireturn, 1) := dk_172 (dk_at dksX3_argumentCount_2 23 rfl rfl)
abbrev cX3_isFunctionSymbol : ByteArray := prog_7_method_4_code
def yX3_isFunctionSymbol : MethodName := ⟨RX3, "isFunctionSymbol", "(I)Z"⟩
def dkwX3_isFunctionSymbol_0 : List UInt8 := [26, 133, 20, 0, 33, 20, 0, 35, 184, 0, 37, 172]
abbrev dktX3_isFunctionSymbol_0 : List UInt8 := dkwX3_isFunctionSymbol_0 ++ []
theorem dksX3_isFunctionSymbol_0 : cX3_isFunctionSymbol.data.toList.drop 0 = dktX3_isFunctionSymbol_0 := by decide +kernel
theorem dX3_isFunctionSymbol_0 : decode cX3_isFunctionSymbol 0 = .ok (.iload_n 0, 1) := dk_26 (dk_at dksX3_isFunctionSymbol_0 0 rfl rfl)
theorem dX3_isFunctionSymbol_1 : decode cX3_isFunctionSymbol 1 = .ok (.i2l, 1) := dk_133 (dk_at dksX3_isFunctionSymbol_0 1 rfl rfl)
theorem dX3_isFunctionSymbol_2 : decode cX3_isFunctionSymbol 2 = .ok (.ldc2_w 33, 3) := dk_20 0 33 (dk_at dksX3_isFunctionSymbol_0 2 rfl rfl)
theorem dX3_isFunctionSymbol_5 : decode cX3_isFunctionSymbol 5 = .ok (.ldc2_w 35, 3) := dk_20 0 35 (dk_at dksX3_isFunctionSymbol_0 5 rfl rfl)
theorem dX3_isFunctionSymbol_8 : decode cX3_isFunctionSymbol 8 = .ok (.invokestatic 37, 3) := dk_184 0 37 (dk_at dksX3_isFunctionSymbol_0 8 rfl rfl)
theorem dX3_isFunctionSymbol_11 : decode cX3_isFunctionSymbol 11 = .ok (.ireturn, 1) := dk_172 (dk_at dksX3_isFunctionSymbol_0 11 rfl rfl)
abbrev cX3_containsFunction : ByteArray := prog_7_method_11_code
def yX3_containsFunction : MethodName := ⟨RX3, "containsFunction", "(I)Z"⟩
def dkwX3_containsFunction_1 : List UInt8 := [160, 0, 7, 4, 167, 0, 4, 3, 128, 61, 132, 3, 1, 167, 255, 224, 28, 172]
abbrev dktX3_containsFunction_1 : List UInt8 := dkwX3_containsFunction_1 ++ []
def dkwX3_containsFunction_0 : List UInt8 := [3, 61, 3, 62, 29, 42, 182, 0, 53, 162, 0, 30, 28, 42, 180, 0, 9, 29, 51, 16, 102, 27, 96]
abbrev dktX3_containsFunction_0 : List UInt8 := dkwX3_containsFunction_0 ++ dktX3_containsFunction_1
theorem dksX3_containsFunction_0 : cX3_containsFunction.data.toList.drop 0 = dktX3_containsFunction_0 := by decide +kernel
theorem dksX3_containsFunction_1 : cX3_containsFunction.data.toList.drop 23 = dktX3_containsFunction_1 := dk_seg dksX3_containsFunction_0 23 rfl rfl
theorem dX3_containsFunction_0 : decode cX3_containsFunction 0 = .ok (.iconst 0, 1) := dk_3 (dk_at dksX3_containsFunction_0 0 rfl rfl)
theorem dX3_containsFunction_1 : decode cX3_containsFunction 1 = .ok (.istore_n 2, 1) := dk_61 (dk_at dksX3_containsFunction_0 1 rfl rfl)
theorem dX3_containsFunction_2 : decode cX3_containsFunction 2 = .ok (.iconst 0, 1) := dk_3 (dk_at dksX3_containsFunction_0 2 rfl rfl)
theorem dX3_containsFunction_3 : decode cX3_containsFunction 3 = .ok (.istore_n 3, 1) := dk_62 (dk_at dksX3_containsFunction_0 3 rfl rfl)
theorem dX3_containsFunction_4 : decode cX3_containsFunction 4 = .ok (.iload_n 3, 1) := dk_29 (dk_at dksX3_containsFunction_0 4 rfl rfl)
theorem dX3_containsFunction_5 : decode cX3_containsFunction 5 = .ok (.aload_n 0, 1) := dk_42 (dk_at dksX3_containsFunction_0 5 rfl rfl)
theorem dX3_containsFunction_6 : decode cX3_containsFunction 6 = .ok (.invokevirtual 53, 3) := dk_182 0 53 (dk_at dksX3_containsFunction_0 6 rfl rfl)
theorem dX3_containsFunction_9 : decode cX3_containsFunction 9 = .ok (.if_icmp .ge 30, 3) := dk_162 0 30 (dk_at dksX3_containsFunction_0 9 rfl rfl)
theorem dX3_containsFunction_12 : decode cX3_containsFunction 12 = .ok (.iload_n 2, 1) := dk_28 (dk_at dksX3_containsFunction_0 12 rfl rfl)
theorem dX3_containsFunction_13 : decode cX3_containsFunction 13 = .ok (.aload_n 0, 1) := dk_42 (dk_at dksX3_containsFunction_0 13 rfl rfl)
theorem dX3_containsFunction_14 : decode cX3_containsFunction 14 = .ok (.getfield 9, 3) := dk_180 0 9 (dk_at dksX3_containsFunction_0 14 rfl rfl)
theorem dX3_containsFunction_17 : decode cX3_containsFunction 17 = .ok (.iload_n 3, 1) := dk_29 (dk_at dksX3_containsFunction_0 17 rfl rfl)
theorem dX3_containsFunction_18 : decode cX3_containsFunction 18 = .ok (.baload, 1) := dk_51 (dk_at dksX3_containsFunction_0 18 rfl rfl)
theorem dX3_containsFunction_19 : decode cX3_containsFunction 19 = .ok (.bipush 102, 2) := dk_16 102 (dk_at dksX3_containsFunction_0 19 rfl rfl)
theorem dX3_containsFunction_21 : decode cX3_containsFunction 21 = .ok (.iload_n 1, 1) := dk_27 (dk_at dksX3_containsFunction_0 21 rfl rfl)
theorem dX3_containsFunction_22 : decode cX3_containsFunction 22 = .ok (.iadd, 1) := dk_96 (dk_at dksX3_containsFunction_0 22 rfl rfl)
theorem dX3_containsFunction_23 : decode cX3_containsFunction 23 = .ok (.if_icmp .ne 7, 3) := dk_160 0 7 (dk_at dksX3_containsFunction_1 0 rfl rfl)
theorem dX3_containsFunction_26 : decode cX3_containsFunction 26 = .ok (.iconst 1, 1) := dk_4 (dk_at dksX3_containsFunction_1 3 rfl rfl)
theorem dX3_containsFunction_27 : decode cX3_containsFunction 27 = .ok (.goto 4, 3) := dk_167 0 4 (dk_at dksX3_containsFunction_1 4 rfl rfl)
theorem dX3_containsFunction_30 : decode cX3_containsFunction 30 = .ok (.iconst 0, 1) := dk_3 (dk_at dksX3_containsFunction_1 7 rfl rfl)
theorem dX3_containsFunction_31 : decode cX3_containsFunction 31 = .ok (.ior, 1) := dk_128 (dk_at dksX3_containsFunction_1 8 rfl rfl)
theorem dX3_containsFunction_32 : decode cX3_containsFunction 32 = .ok (.istore_n 2, 1) := dk_61 (dk_at dksX3_containsFunction_1 9 rfl rfl)
theorem dX3_containsFunction_33 : decode cX3_containsFunction 33 = .ok (.iinc 3 1, 3) := dk_132 3 1 (dk_at dksX3_containsFunction_1 10 rfl rfl)
theorem dX3_containsFunction_36 : decode cX3_containsFunction 36 = .ok (.goto (-32), 3) := dk_167 255 224 (dk_at dksX3_containsFunction_1 13 rfl rfl)
theorem dX3_containsFunction_39 : decode cX3_containsFunction 39 = .ok (.iload_n 2, 1) := dk_28 (dk_at dksX3_containsFunction_1 16 rfl rfl)
theorem dX3_containsFunction_40 : decode cX3_containsFunction 40 = .ok (.ireturn, 1) := dk_172 (dk_at dksX3_containsFunction_1 17 rfl rfl)
abbrev cX3_size : ByteArray := prog_7_method_2_code
def yX3_size : MethodName := ⟨RX3, "size", "()I"⟩
def dkwX3_size_0 : List UInt8 := [42, 180, 0, 9, 190, 172]
abbrev dktX3_size_0 : List UInt8 := dkwX3_size_0 ++ []
theorem dksX3_size_0 : cX3_size.data.toList.drop 0 = dktX3_size_0 := by decide +kernel
theorem dX3_size_0 : decode cX3_size 0 = .ok (.aload_n 0, 1) := dk_42 (dk_at dksX3_size_0 0 rfl rfl)
theorem dX3_size_1 : decode cX3_size 1 = .ok (.getfield 9, 3) := dk_180 0 9 (dk_at dksX3_size_0 1 rfl rfl)
theorem dX3_size_4 : decode cX3_size 4 = .ok (.arraylength, 1) := dk_190 (dk_at dksX3_size_0 4 rfl rfl)
theorem dX3_size_5 : decode cX3_size 5 = .ok (.ireturn, 1) := dk_172 (dk_at dksX3_size_0 5 rfl rfl)
abbrev cX3_isFunction : ByteArray := prog_7_method_6_code
def yX3_isFunction : MethodName := ⟨RX3, "isFunction", "(I)Z"⟩
def dkwX3_isFunction_0 : List UInt8 := [42, 180, 0, 9, 27, 51, 184, 0, 29, 172]
abbrev dktX3_isFunction_0 : List UInt8 := dkwX3_isFunction_0 ++ []
theorem dksX3_isFunction_0 : cX3_isFunction.data.toList.drop 0 = dktX3_isFunction_0 := by decide +kernel
theorem dX3_isFunction_0 : decode cX3_isFunction 0 = .ok (.aload_n 0, 1) := dk_42 (dk_at dksX3_isFunction_0 0 rfl rfl)
theorem dX3_isFunction_1 : decode cX3_isFunction 1 = .ok (.getfield 9, 3) := dk_180 0 9 (dk_at dksX3_isFunction_0 1 rfl rfl)
theorem dX3_isFunction_4 : decode cX3_isFunction 4 = .ok (.iload_n 1, 1) := dk_27 (dk_at dksX3_isFunction_0 4 rfl rfl)
theorem dX3_isFunction_5 : decode cX3_isFunction 5 = .ok (.baload, 1) := dk_51 (dk_at dksX3_isFunction_0 5 rfl rfl)
theorem dX3_isFunction_6 : decode cX3_isFunction 6 = .ok (.invokestatic 29, 3) := dk_184 0 29 (dk_at dksX3_isFunction_0 6 rfl rfl)
theorem dX3_isFunction_9 : decode cX3_isFunction 9 = .ok (.ireturn, 1) := dk_172 (dk_at dksX3_isFunction_0 9 rfl rfl)
abbrev cX3_isVariable : ByteArray := prog_7_method_5_code
def yX3_isVariable : MethodName := ⟨RX3, "isVariable", "(I)Z"⟩
def dkwX3_isVariable_0 : List UInt8 := [42, 180, 0, 9, 27, 51, 133, 20, 0, 41, 20, 0, 43, 184, 0, 37, 172]
abbrev dktX3_isVariable_0 : List UInt8 := dkwX3_isVariable_0 ++ []
theorem dksX3_isVariable_0 : cX3_isVariable.data.toList.drop 0 = dktX3_isVariable_0 := by decide +kernel
theorem dX3_isVariable_0 : decode cX3_isVariable 0 = .ok (.aload_n 0, 1) := dk_42 (dk_at dksX3_isVariable_0 0 rfl rfl)
theorem dX3_isVariable_1 : decode cX3_isVariable 1 = .ok (.getfield 9, 3) := dk_180 0 9 (dk_at dksX3_isVariable_0 1 rfl rfl)
theorem dX3_isVariable_4 : decode cX3_isVariable 4 = .ok (.iload_n 1, 1) := dk_27 (dk_at dksX3_isVariable_0 4 rfl rfl)
theorem dX3_isVariable_5 : decode cX3_isVariable 5 = .ok (.baload, 1) := dk_51 (dk_at dksX3_isVariable_0 5 rfl rfl)
theorem dX3_isVariable_6 : decode cX3_isVariable 6 = .ok (.i2l, 1) := dk_133 (dk_at dksX3_isVariable_0 6 rfl rfl)
theorem dX3_isVariable_7 : decode cX3_isVariable 7 = .ok (.ldc2_w 41, 3) := dk_20 0 41 (dk_at dksX3_isVariable_0 7 rfl rfl)
theorem dX3_isVariable_10 : decode cX3_isVariable 10 = .ok (.ldc2_w 43, 3) := dk_20 0 43 (dk_at dksX3_isVariable_0 10 rfl rfl)
theorem dX3_isVariable_13 : decode cX3_isVariable 13 = .ok (.invokestatic 37, 3) := dk_184 0 37 (dk_at dksX3_isVariable_0 13 rfl rfl)
theorem dX3_isVariable_16 : decode cX3_isVariable 16 = .ok (.ireturn, 1) := dk_172 (dk_at dksX3_isVariable_0 16 rfl rfl)
abbrev cX3_containsAt : ByteArray := prog_7_method_10_code
def yX3_containsAt : MethodName := ⟨RX3, "containsAt", "(ILDependencyPairAnalyzer$Term;I)Z"⟩
def dkwX3_containsAt_1 : List UInt8 := [153, 0, 5, 4, 172, 132, 4, 1, 167, 255, 229, 3, 172]
abbrev dktX3_containsAt_1 : List UInt8 := dkwX3_containsAt_1 ++ []
def dkwX3_containsAt_0 : List UInt8 := [27, 54, 4, 21, 4, 42, 180, 0, 15, 27, 46, 162, 0, 22, 42, 21, 4, 44, 29, 182, 0, 49]
abbrev dktX3_containsAt_0 : List UInt8 := dkwX3_containsAt_0 ++ dktX3_containsAt_1
theorem dksX3_containsAt_0 : cX3_containsAt.data.toList.drop 0 = dktX3_containsAt_0 := by decide +kernel
theorem dksX3_containsAt_1 : cX3_containsAt.data.toList.drop 22 = dktX3_containsAt_1 := dk_seg dksX3_containsAt_0 22 rfl rfl
theorem dX3_containsAt_0 : decode cX3_containsAt 0 = .ok (.iload_n 1, 1) := dk_27 (dk_at dksX3_containsAt_0 0 rfl rfl)
theorem dX3_containsAt_1 : decode cX3_containsAt 1 = .ok (.istore 4, 2) := dk_54 4 (dk_at dksX3_containsAt_0 1 rfl rfl)
theorem dX3_containsAt_3 : decode cX3_containsAt 3 = .ok (.iload 4, 2) := dk_21 4 (dk_at dksX3_containsAt_0 3 rfl rfl)
theorem dX3_containsAt_5 : decode cX3_containsAt 5 = .ok (.aload_n 0, 1) := dk_42 (dk_at dksX3_containsAt_0 5 rfl rfl)
theorem dX3_containsAt_6 : decode cX3_containsAt 6 = .ok (.getfield 15, 3) := dk_180 0 15 (dk_at dksX3_containsAt_0 6 rfl rfl)
theorem dX3_containsAt_9 : decode cX3_containsAt 9 = .ok (.iload_n 1, 1) := dk_27 (dk_at dksX3_containsAt_0 9 rfl rfl)
theorem dX3_containsAt_10 : decode cX3_containsAt 10 = .ok (.iaload, 1) := dk_46 (dk_at dksX3_containsAt_0 10 rfl rfl)
theorem dX3_containsAt_11 : decode cX3_containsAt 11 = .ok (.if_icmp .ge 22, 3) := dk_162 0 22 (dk_at dksX3_containsAt_0 11 rfl rfl)
theorem dX3_containsAt_14 : decode cX3_containsAt 14 = .ok (.aload_n 0, 1) := dk_42 (dk_at dksX3_containsAt_0 14 rfl rfl)
theorem dX3_containsAt_15 : decode cX3_containsAt 15 = .ok (.iload 4, 2) := dk_21 4 (dk_at dksX3_containsAt_0 15 rfl rfl)
theorem dX3_containsAt_17 : decode cX3_containsAt 17 = .ok (.aload_n 2, 1) := dk_44 (dk_at dksX3_containsAt_0 17 rfl rfl)
theorem dX3_containsAt_18 : decode cX3_containsAt 18 = .ok (.iload_n 3, 1) := dk_29 (dk_at dksX3_containsAt_0 18 rfl rfl)
theorem dX3_containsAt_19 : decode cX3_containsAt 19 = .ok (.invokevirtual 49, 3) := dk_182 0 49 (dk_at dksX3_containsAt_0 19 rfl rfl)
theorem dX3_containsAt_22 : decode cX3_containsAt 22 = .ok (.ifCond .eq 5, 3) := dk_153 0 5 (dk_at dksX3_containsAt_1 0 rfl rfl)
theorem dX3_containsAt_25 : decode cX3_containsAt 25 = .ok (.iconst 1, 1) := dk_4 (dk_at dksX3_containsAt_1 3 rfl rfl)
theorem dX3_containsAt_26 : decode cX3_containsAt 26 = .ok (.ireturn, 1) := dk_172 (dk_at dksX3_containsAt_1 4 rfl rfl)
theorem dX3_containsAt_27 : decode cX3_containsAt 27 = .ok (.iinc 4 1, 3) := dk_132 4 1 (dk_at dksX3_containsAt_1 5 rfl rfl)
theorem dX3_containsAt_30 : decode cX3_containsAt 30 = .ok (.goto (-27), 3) := dk_167 255 229 (dk_at dksX3_containsAt_1 8 rfl rfl)
theorem dX3_containsAt_33 : decode cX3_containsAt 33 = .ok (.iconst 0, 1) := dk_3 (dk_at dksX3_containsAt_1 11 rfl rfl)
theorem dX3_containsAt_34 : decode cX3_containsAt 34 = .ok (.ireturn, 1) := dk_172 (dk_at dksX3_containsAt_1 12 rfl rfl)
abbrev cX3_isEqualAt : ByteArray := prog_7_method_9_code
def yX3_isEqualAt : MethodName := ⟨RX3, "isEqualAt", "(ILDependencyPairAnalyzer$Term;I)Z"⟩
def dkwX3_isEqualAt_3 : List UInt8 := [167, 255, 210, 21, 4, 172]
abbrev dktX3_isEqualAt_3 : List UInt8 := dkwX3_isEqualAt_3 ++ []
def dkwX3_isEqualAt_2 : List UInt8 := [44, 180, 0, 9, 29, 21, 5, 96, 51, 160, 0, 7, 4, 167, 0, 4, 3, 54, 4, 132, 5, 1]
abbrev dktX3_isEqualAt_2 : List UInt8 := dkwX3_isEqualAt_2 ++ dktX3_isEqualAt_3
def dkwX3_isEqualAt_1 : List UInt8 := [21, 4, 153, 0, 47, 21, 5, 42, 27, 182, 0, 45, 162, 0, 37, 42, 180, 0, 9, 27, 21, 5, 96, 51]
abbrev dktX3_isEqualAt_1 : List UInt8 := dkwX3_isEqualAt_1 ++ dktX3_isEqualAt_2
def dkwX3_isEqualAt_0 : List UInt8 := [42, 27, 182, 0, 45, 44, 29, 182, 0, 45, 160, 0, 7, 4, 167, 0, 4, 3, 54, 4, 3, 54, 5]
abbrev dktX3_isEqualAt_0 : List UInt8 := dkwX3_isEqualAt_0 ++ dktX3_isEqualAt_1
theorem dksX3_isEqualAt_0 : cX3_isEqualAt.data.toList.drop 0 = dktX3_isEqualAt_0 := by decide +kernel
theorem dksX3_isEqualAt_1 : cX3_isEqualAt.data.toList.drop 23 = dktX3_isEqualAt_1 := dk_seg dksX3_isEqualAt_0 23 rfl rfl
theorem dksX3_isEqualAt_2 : cX3_isEqualAt.data.toList.drop 47 = dktX3_isEqualAt_2 := dk_seg dksX3_isEqualAt_1 24 rfl rfl
theorem dksX3_isEqualAt_3 : cX3_isEqualAt.data.toList.drop 69 = dktX3_isEqualAt_3 := dk_seg dksX3_isEqualAt_2 22 rfl rfl
theorem dX3_isEqualAt_0 : decode cX3_isEqualAt 0 = .ok (.aload_n 0, 1) := dk_42 (dk_at dksX3_isEqualAt_0 0 rfl rfl)
theorem dX3_isEqualAt_1 : decode cX3_isEqualAt 1 = .ok (.iload_n 1, 1) := dk_27 (dk_at dksX3_isEqualAt_0 1 rfl rfl)
theorem dX3_isEqualAt_2 : decode cX3_isEqualAt 2 = .ok (.invokevirtual 45, 3) := dk_182 0 45 (dk_at dksX3_isEqualAt_0 2 rfl rfl)
theorem dX3_isEqualAt_5 : decode cX3_isEqualAt 5 = .ok (.aload_n 2, 1) := dk_44 (dk_at dksX3_isEqualAt_0 5 rfl rfl)
theorem dX3_isEqualAt_6 : decode cX3_isEqualAt 6 = .ok (.iload_n 3, 1) := dk_29 (dk_at dksX3_isEqualAt_0 6 rfl rfl)
theorem dX3_isEqualAt_7 : decode cX3_isEqualAt 7 = .ok (.invokevirtual 45, 3) := dk_182 0 45 (dk_at dksX3_isEqualAt_0 7 rfl rfl)
theorem dX3_isEqualAt_10 : decode cX3_isEqualAt 10 = .ok (.if_icmp .ne 7, 3) := dk_160 0 7 (dk_at dksX3_isEqualAt_0 10 rfl rfl)
theorem dX3_isEqualAt_13 : decode cX3_isEqualAt 13 = .ok (.iconst 1, 1) := dk_4 (dk_at dksX3_isEqualAt_0 13 rfl rfl)
theorem dX3_isEqualAt_14 : decode cX3_isEqualAt 14 = .ok (.goto 4, 3) := dk_167 0 4 (dk_at dksX3_isEqualAt_0 14 rfl rfl)
theorem dX3_isEqualAt_17 : decode cX3_isEqualAt 17 = .ok (.iconst 0, 1) := dk_3 (dk_at dksX3_isEqualAt_0 17 rfl rfl)
theorem dX3_isEqualAt_18 : decode cX3_isEqualAt 18 = .ok (.istore 4, 2) := dk_54 4 (dk_at dksX3_isEqualAt_0 18 rfl rfl)
theorem dX3_isEqualAt_20 : decode cX3_isEqualAt 20 = .ok (.iconst 0, 1) := dk_3 (dk_at dksX3_isEqualAt_0 20 rfl rfl)
theorem dX3_isEqualAt_21 : decode cX3_isEqualAt 21 = .ok (.istore 5, 2) := dk_54 5 (dk_at dksX3_isEqualAt_0 21 rfl rfl)
theorem dX3_isEqualAt_23 : decode cX3_isEqualAt 23 = .ok (.iload 4, 2) := dk_21 4 (dk_at dksX3_isEqualAt_1 0 rfl rfl)
theorem dX3_isEqualAt_25 : decode cX3_isEqualAt 25 = .ok (.ifCond .eq 47, 3) := dk_153 0 47 (dk_at dksX3_isEqualAt_1 2 rfl rfl)
theorem dX3_isEqualAt_28 : decode cX3_isEqualAt 28 = .ok (.iload 5, 2) := dk_21 5 (dk_at dksX3_isEqualAt_1 5 rfl rfl)
theorem dX3_isEqualAt_30 : decode cX3_isEqualAt 30 = .ok (.aload_n 0, 1) := dk_42 (dk_at dksX3_isEqualAt_1 7 rfl rfl)
theorem dX3_isEqualAt_31 : decode cX3_isEqualAt 31 = .ok (.iload_n 1, 1) := dk_27 (dk_at dksX3_isEqualAt_1 8 rfl rfl)
theorem dX3_isEqualAt_32 : decode cX3_isEqualAt 32 = .ok (.invokevirtual 45, 3) := dk_182 0 45 (dk_at dksX3_isEqualAt_1 9 rfl rfl)
theorem dX3_isEqualAt_35 : decode cX3_isEqualAt 35 = .ok (.if_icmp .ge 37, 3) := dk_162 0 37 (dk_at dksX3_isEqualAt_1 12 rfl rfl)
theorem dX3_isEqualAt_38 : decode cX3_isEqualAt 38 = .ok (.aload_n 0, 1) := dk_42 (dk_at dksX3_isEqualAt_1 15 rfl rfl)
theorem dX3_isEqualAt_39 : decode cX3_isEqualAt 39 = .ok (.getfield 9, 3) := dk_180 0 9 (dk_at dksX3_isEqualAt_1 16 rfl rfl)
theorem dX3_isEqualAt_42 : decode cX3_isEqualAt 42 = .ok (.iload_n 1, 1) := dk_27 (dk_at dksX3_isEqualAt_1 19 rfl rfl)
theorem dX3_isEqualAt_43 : decode cX3_isEqualAt 43 = .ok (.iload 5, 2) := dk_21 5 (dk_at dksX3_isEqualAt_1 20 rfl rfl)
theorem dX3_isEqualAt_45 : decode cX3_isEqualAt 45 = .ok (.iadd, 1) := dk_96 (dk_at dksX3_isEqualAt_1 22 rfl rfl)
theorem dX3_isEqualAt_46 : decode cX3_isEqualAt 46 = .ok (.baload, 1) := dk_51 (dk_at dksX3_isEqualAt_1 23 rfl rfl)
theorem dX3_isEqualAt_47 : decode cX3_isEqualAt 47 = .ok (.aload_n 2, 1) := dk_44 (dk_at dksX3_isEqualAt_2 0 rfl rfl)
theorem dX3_isEqualAt_48 : decode cX3_isEqualAt 48 = .ok (.getfield 9, 3) := dk_180 0 9 (dk_at dksX3_isEqualAt_2 1 rfl rfl)
theorem dX3_isEqualAt_51 : decode cX3_isEqualAt 51 = .ok (.iload_n 3, 1) := dk_29 (dk_at dksX3_isEqualAt_2 4 rfl rfl)
theorem dX3_isEqualAt_52 : decode cX3_isEqualAt 52 = .ok (.iload 5, 2) := dk_21 5 (dk_at dksX3_isEqualAt_2 5 rfl rfl)
theorem dX3_isEqualAt_54 : decode cX3_isEqualAt 54 = .ok (.iadd, 1) := dk_96 (dk_at dksX3_isEqualAt_2 7 rfl rfl)
theorem dX3_isEqualAt_55 : decode cX3_isEqualAt 55 = .ok (.baload, 1) := dk_51 (dk_at dksX3_isEqualAt_2 8 rfl rfl)
theorem dX3_isEqualAt_56 : decode cX3_isEqualAt 56 = .ok (.if_icmp .ne 7, 3) := dk_160 0 7 (dk_at dksX3_isEqualAt_2 9 rfl rfl)
theorem dX3_isEqualAt_59 : decode cX3_isEqualAt 59 = .ok (.iconst 1, 1) := dk_4 (dk_at dksX3_isEqualAt_2 12 rfl rfl)
theorem dX3_isEqualAt_60 : decode cX3_isEqualAt 60 = .ok (.goto 4, 3) := dk_167 0 4 (dk_at dksX3_isEqualAt_2 13 rfl rfl)
theorem dX3_isEqualAt_63 : decode cX3_isEqualAt 63 = .ok (.iconst 0, 1) := dk_3 (dk_at dksX3_isEqualAt_2 16 rfl rfl)
theorem dX3_isEqualAt_64 : decode cX3_isEqualAt 64 = .ok (.istore 4, 2) := dk_54 4 (dk_at dksX3_isEqualAt_2 17 rfl rfl)
theorem dX3_isEqualAt_66 : decode cX3_isEqualAt 66 = .ok (.iinc 5 1, 3) := dk_132 5 1 (dk_at dksX3_isEqualAt_2 19 rfl rfl)
theorem dX3_isEqualAt_69 : decode cX3_isEqualAt 69 = .ok (.goto (-46), 3) := dk_167 255 210 (dk_at dksX3_isEqualAt_3 0 rfl rfl)
theorem dX3_isEqualAt_72 : decode cX3_isEqualAt 72 = .ok (.iload 4, 2) := dk_21 4 (dk_at dksX3_isEqualAt_3 3 rfl rfl)
theorem dX3_isEqualAt_74 : decode cX3_isEqualAt 74 = .ok (.ireturn, 1) := dk_172 (dk_at dksX3_isEqualAt_3 5 rfl rfl)
abbrev cX3_sizeAt : ByteArray := prog_7_method_8_code
def yX3_sizeAt : MethodName := ⟨RX3, "sizeAt", "(I)I"⟩
def dkwX3_sizeAt_0 : List UInt8 := [42, 180, 0, 15, 27, 46, 27, 100, 172]
abbrev dktX3_sizeAt_0 : List UInt8 := dkwX3_sizeAt_0 ++ []
theorem dksX3_sizeAt_0 : cX3_sizeAt.data.toList.drop 0 = dktX3_sizeAt_0 := by decide +kernel
theorem dX3_sizeAt_0 : decode cX3_sizeAt 0 = .ok (.aload_n 0, 1) := dk_42 (dk_at dksX3_sizeAt_0 0 rfl rfl)
theorem dX3_sizeAt_1 : decode cX3_sizeAt 1 = .ok (.getfield 15, 3) := dk_180 0 15 (dk_at dksX3_sizeAt_0 1 rfl rfl)
theorem dX3_sizeAt_4 : decode cX3_sizeAt 4 = .ok (.iload_n 1, 1) := dk_27 (dk_at dksX3_sizeAt_0 4 rfl rfl)
theorem dX3_sizeAt_5 : decode cX3_sizeAt 5 = .ok (.iaload, 1) := dk_46 (dk_at dksX3_sizeAt_0 5 rfl rfl)
theorem dX3_sizeAt_6 : decode cX3_sizeAt 6 = .ok (.iload_n 1, 1) := dk_27 (dk_at dksX3_sizeAt_0 6 rfl rfl)
theorem dX3_sizeAt_7 : decode cX3_sizeAt 7 = .ok (.isub, 1) := dk_100 (dk_at dksX3_sizeAt_0 7 rfl rfl)
theorem dX3_sizeAt_8 : decode cX3_sizeAt 8 = .ok (.ireturn, 1) := dk_172 (dk_at dksX3_sizeAt_0 8 rfl rfl)
abbrev cX3_function : ByteArray := prog_7_method_7_code
def yX3_function : MethodName := ⟨RX3, "function", "(I)I"⟩
def dkwX3_function_0 : List UInt8 := [42, 180, 0, 9, 27, 51, 16, 102, 100, 172]
abbrev dktX3_function_0 : List UInt8 := dkwX3_function_0 ++ []
theorem dksX3_function_0 : cX3_function.data.toList.drop 0 = dktX3_function_0 := by decide +kernel
theorem dX3_function_0 : decode cX3_function 0 = .ok (.aload_n 0, 1) := dk_42 (dk_at dksX3_function_0 0 rfl rfl)
theorem dX3_function_1 : decode cX3_function 1 = .ok (.getfield 9, 3) := dk_180 0 9 (dk_at dksX3_function_0 1 rfl rfl)
theorem dX3_function_4 : decode cX3_function 4 = .ok (.iload_n 1, 1) := dk_27 (dk_at dksX3_function_0 4 rfl rfl)
theorem dX3_function_5 : decode cX3_function 5 = .ok (.baload, 1) := dk_51 (dk_at dksX3_function_0 5 rfl rfl)
theorem dX3_function_6 : decode cX3_function 6 = .ok (.bipush 102, 2) := dk_16 102 (dk_at dksX3_function_0 6 rfl rfl)
theorem dX3_function_8 : decode cX3_function 8 = .ok (.isub, 1) := dk_100 (dk_at dksX3_function_0 8 rfl rfl)
theorem dX3_function_9 : decode cX3_function 9 = .ok (.ireturn, 1) := dk_172 (dk_at dksX3_function_0 9 rfl rfl)
abbrev cX3_compareTo : ByteArray := prog_7_method_15_code
def yX3_compareTo : MethodName := ⟨RX3, "compareTo", "(Ljava/lang/Object;)I"⟩
def dkwX3_compareTo_0 : List UInt8 := [42, 43, 192, 0, 10, 182, 0, 67, 172]
abbrev dktX3_compareTo_0 : List UInt8 := dkwX3_compareTo_0 ++ []
theorem dksX3_compareTo_0 : cX3_compareTo.data.toList.drop 0 = dktX3_compareTo_0 := by decide +kernel
theorem dX3_compareTo_0 : decode cX3_compareTo 0 = .ok (.aload_n 0, 1) := dk_42 (dk_at dksX3_compareTo_0 0 rfl rfl)
theorem dX3_compareTo_1 : decode cX3_compareTo 1 = .ok (.aload_n 1, 1) := dk_43 (dk_at dksX3_compareTo_0 1 rfl rfl)
theorem dX3_compareTo_2 : decode cX3_compareTo 2 = .ok (.checkcast 10, 3) := dk_192 0 10 (dk_at dksX3_compareTo_0 2 rfl rfl)
theorem dX3_compareTo_5 : decode cX3_compareTo 5 = .ok (.invokevirtual 67, 3) := dk_182 0 67 (dk_at dksX3_compareTo_0 5 rfl rfl)
theorem dX3_compareTo_8 : decode cX3_compareTo 8 = .ok (.ireturn, 1) := dk_172 (dk_at dksX3_compareTo_0 8 rfl rfl)
abbrev cX3_compareTo_2 : ByteArray := prog_7_method_13_code
def yX3_compareTo_2 : MethodName := ⟨RX3, "compareTo", "(LDependencyPairAnalyzer$Term;)I"⟩
def dkwX3_compareTo_2_2 : List UInt8 := [180, 0, 9, 28, 51, 43, 180, 0, 9, 28, 51, 100, 172, 132, 2, 1, 167, 255, 216, 3, 172]
abbrev dktX3_compareTo_2_2 : List UInt8 := dkwX3_compareTo_2_2 ++ []
def dkwX3_compareTo_2_1 : List UInt8 := [42, 182, 0, 53, 162, 0, 38, 42, 180, 0, 9, 28, 51, 43, 180, 0, 9, 28, 51, 159, 0, 17, 42]
abbrev dktX3_compareTo_2_1 : List UInt8 := dkwX3_compareTo_2_1 ++ dktX3_compareTo_2_2
def dkwX3_compareTo_2_0 : List UInt8 := [42, 182, 0, 53, 43, 182, 0, 53, 159, 0, 13, 42, 182, 0, 53, 43, 182, 0, 53, 100, 172, 3, 61, 28]
abbrev dktX3_compareTo_2_0 : List UInt8 := dkwX3_compareTo_2_0 ++ dktX3_compareTo_2_1
theorem dksX3_compareTo_2_0 : cX3_compareTo_2.data.toList.drop 0 = dktX3_compareTo_2_0 := by decide +kernel
theorem dksX3_compareTo_2_1 : cX3_compareTo_2.data.toList.drop 24 = dktX3_compareTo_2_1 := dk_seg dksX3_compareTo_2_0 24 rfl rfl
theorem dksX3_compareTo_2_2 : cX3_compareTo_2.data.toList.drop 47 = dktX3_compareTo_2_2 := dk_seg dksX3_compareTo_2_1 23 rfl rfl
theorem dX3_compareTo_2_0 : decode cX3_compareTo_2 0 = .ok (.aload_n 0, 1) := dk_42 (dk_at dksX3_compareTo_2_0 0 rfl rfl)
theorem dX3_compareTo_2_1 : decode cX3_compareTo_2 1 = .ok (.invokevirtual 53, 3) := dk_182 0 53 (dk_at dksX3_compareTo_2_0 1 rfl rfl)
theorem dX3_compareTo_2_4 : decode cX3_compareTo_2 4 = .ok (.aload_n 1, 1) := dk_43 (dk_at dksX3_compareTo_2_0 4 rfl rfl)
theorem dX3_compareTo_2_5 : decode cX3_compareTo_2 5 = .ok (.invokevirtual 53, 3) := dk_182 0 53 (dk_at dksX3_compareTo_2_0 5 rfl rfl)
theorem dX3_compareTo_2_8 : decode cX3_compareTo_2 8 = .ok (.if_icmp .eq 13, 3) := dk_159 0 13 (dk_at dksX3_compareTo_2_0 8 rfl rfl)
theorem dX3_compareTo_2_11 : decode cX3_compareTo_2 11 = .ok (.aload_n 0, 1) := dk_42 (dk_at dksX3_compareTo_2_0 11 rfl rfl)
theorem dX3_compareTo_2_12 : decode cX3_compareTo_2 12 = .ok (.invokevirtual 53, 3) := dk_182 0 53 (dk_at dksX3_compareTo_2_0 12 rfl rfl)
theorem dX3_compareTo_2_15 : decode cX3_compareTo_2 15 = .ok (.aload_n 1, 1) := dk_43 (dk_at dksX3_compareTo_2_0 15 rfl rfl)
theorem dX3_compareTo_2_16 : decode cX3_compareTo_2 16 = .ok (.invokevirtual 53, 3) := dk_182 0 53 (dk_at dksX3_compareTo_2_0 16 rfl rfl)
theorem dX3_compareTo_2_19 : decode cX3_compareTo_2 19 = .ok (.isub, 1) := dk_100 (dk_at dksX3_compareTo_2_0 19 rfl rfl)
theorem dX3_compareTo_2_20 : decode cX3_compareTo_2 20 = .ok (.ireturn, 1) := dk_172 (dk_at dksX3_compareTo_2_0 20 rfl rfl)
theorem dX3_compareTo_2_21 : decode cX3_compareTo_2 21 = .ok (.iconst 0, 1) := dk_3 (dk_at dksX3_compareTo_2_0 21 rfl rfl)
theorem dX3_compareTo_2_22 : decode cX3_compareTo_2 22 = .ok (.istore_n 2, 1) := dk_61 (dk_at dksX3_compareTo_2_0 22 rfl rfl)
theorem dX3_compareTo_2_23 : decode cX3_compareTo_2 23 = .ok (.iload_n 2, 1) := dk_28 (dk_at dksX3_compareTo_2_0 23 rfl rfl)
theorem dX3_compareTo_2_24 : decode cX3_compareTo_2 24 = .ok (.aload_n 0, 1) := dk_42 (dk_at dksX3_compareTo_2_1 0 rfl rfl)
theorem dX3_compareTo_2_25 : decode cX3_compareTo_2 25 = .ok (.invokevirtual 53, 3) := dk_182 0 53 (dk_at dksX3_compareTo_2_1 1 rfl rfl)
theorem dX3_compareTo_2_28 : decode cX3_compareTo_2 28 = .ok (.if_icmp .ge 38, 3) := dk_162 0 38 (dk_at dksX3_compareTo_2_1 4 rfl rfl)
theorem dX3_compareTo_2_31 : decode cX3_compareTo_2 31 = .ok (.aload_n 0, 1) := dk_42 (dk_at dksX3_compareTo_2_1 7 rfl rfl)
theorem dX3_compareTo_2_32 : decode cX3_compareTo_2 32 = .ok (.getfield 9, 3) := dk_180 0 9 (dk_at dksX3_compareTo_2_1 8 rfl rfl)
theorem dX3_compareTo_2_35 : decode cX3_compareTo_2 35 = .ok (.iload_n 2, 1) := dk_28 (dk_at dksX3_compareTo_2_1 11 rfl rfl)
theorem dX3_compareTo_2_36 : decode cX3_compareTo_2 36 = .ok (.baload, 1) := dk_51 (dk_at dksX3_compareTo_2_1 12 rfl rfl)
theorem dX3_compareTo_2_37 : decode cX3_compareTo_2 37 = .ok (.aload_n 1, 1) := dk_43 (dk_at dksX3_compareTo_2_1 13 rfl rfl)
theorem dX3_compareTo_2_38 : decode cX3_compareTo_2 38 = .ok (.getfield 9, 3) := dk_180 0 9 (dk_at dksX3_compareTo_2_1 14 rfl rfl)
theorem dX3_compareTo_2_41 : decode cX3_compareTo_2 41 = .ok (.iload_n 2, 1) := dk_28 (dk_at dksX3_compareTo_2_1 17 rfl rfl)
theorem dX3_compareTo_2_42 : decode cX3_compareTo_2 42 = .ok (.baload, 1) := dk_51 (dk_at dksX3_compareTo_2_1 18 rfl rfl)
theorem dX3_compareTo_2_43 : decode cX3_compareTo_2 43 = .ok (.if_icmp .eq 17, 3) := dk_159 0 17 (dk_at dksX3_compareTo_2_1 19 rfl rfl)
theorem dX3_compareTo_2_46 : decode cX3_compareTo_2 46 = .ok (.aload_n 0, 1) := dk_42 (dk_at dksX3_compareTo_2_1 22 rfl rfl)
theorem dX3_compareTo_2_47 : decode cX3_compareTo_2 47 = .ok (.getfield 9, 3) := dk_180 0 9 (dk_at dksX3_compareTo_2_2 0 rfl rfl)
theorem dX3_compareTo_2_50 : decode cX3_compareTo_2 50 = .ok (.iload_n 2, 1) := dk_28 (dk_at dksX3_compareTo_2_2 3 rfl rfl)
theorem dX3_compareTo_2_51 : decode cX3_compareTo_2 51 = .ok (.baload, 1) := dk_51 (dk_at dksX3_compareTo_2_2 4 rfl rfl)
theorem dX3_compareTo_2_52 : decode cX3_compareTo_2 52 = .ok (.aload_n 1, 1) := dk_43 (dk_at dksX3_compareTo_2_2 5 rfl rfl)
theorem dX3_compareTo_2_53 : decode cX3_compareTo_2 53 = .ok (.getfield 9, 3) := dk_180 0 9 (dk_at dksX3_compareTo_2_2 6 rfl rfl)
theorem dX3_compareTo_2_56 : decode cX3_compareTo_2 56 = .ok (.iload_n 2, 1) := dk_28 (dk_at dksX3_compareTo_2_2 9 rfl rfl)
theorem dX3_compareTo_2_57 : decode cX3_compareTo_2 57 = .ok (.baload, 1) := dk_51 (dk_at dksX3_compareTo_2_2 10 rfl rfl)
theorem dX3_compareTo_2_58 : decode cX3_compareTo_2 58 = .ok (.isub, 1) := dk_100 (dk_at dksX3_compareTo_2_2 11 rfl rfl)
theorem dX3_compareTo_2_59 : decode cX3_compareTo_2 59 = .ok (.ireturn, 1) := dk_172 (dk_at dksX3_compareTo_2_2 12 rfl rfl)
theorem dX3_compareTo_2_60 : decode cX3_compareTo_2 60 = .ok (.iinc 2 1, 3) := dk_132 2 1 (dk_at dksX3_compareTo_2_2 13 rfl rfl)
theorem dX3_compareTo_2_63 : decode cX3_compareTo_2 63 = .ok (.goto (-40), 3) := dk_167 255 216 (dk_at dksX3_compareTo_2_2 16 rfl rfl)
theorem dX3_compareTo_2_66 : decode cX3_compareTo_2 66 = .ok (.iconst 0, 1) := dk_3 (dk_at dksX3_compareTo_2_2 19 rfl rfl)
theorem dX3_compareTo_2_67 : decode cX3_compareTo_2 67 = .ok (.ireturn, 1) := dk_172 (dk_at dksX3_compareTo_2_2 20 rfl rfl)
abbrev cX3_write : ByteArray := prog_7_method_14_code
def yX3_write : MethodName := ⟨RX3, "write", "(ILjava/lang/StringBuilder;)V"⟩
def dkwX3_write_3 : List UInt8 := [164, 0, 10, 44, 16, 41, 182, 0, 57, 87, 177]
abbrev dktX3_write_3 : List UInt8 := dkwX3_write_3 ++ []
def dkwX3_write_2 : List UInt8 := [44, 182, 0, 63, 42, 180, 0, 15, 29, 46, 62, 167, 255, 214, 42, 180, 0, 15, 27, 46, 27, 4, 96]
abbrev dktX3_write_2 : List UInt8 := dkwX3_write_2 ++ dktX3_write_3
def dkwX3_write_1 : List UInt8 := [162, 0, 38, 44, 29, 27, 4, 96, 160, 0, 8, 16, 40, 167, 0, 5, 16, 44, 182, 0, 57, 87, 42, 29]
abbrev dktX3_write_1 : List UInt8 := dkwX3_write_1 ++ dktX3_write_2
def dkwX3_write_0 : List UInt8 := [44, 42, 180, 0, 9, 27, 51, 146, 182, 0, 57, 87, 27, 4, 96, 62, 29, 42, 180, 0, 15, 27, 46]
abbrev dktX3_write_0 : List UInt8 := dkwX3_write_0 ++ dktX3_write_1
theorem dksX3_write_0 : cX3_write.data.toList.drop 0 = dktX3_write_0 := by decide +kernel
theorem dksX3_write_1 : cX3_write.data.toList.drop 23 = dktX3_write_1 := dk_seg dksX3_write_0 23 rfl rfl
theorem dksX3_write_2 : cX3_write.data.toList.drop 47 = dktX3_write_2 := dk_seg dksX3_write_1 24 rfl rfl
theorem dksX3_write_3 : cX3_write.data.toList.drop 70 = dktX3_write_3 := dk_seg dksX3_write_2 23 rfl rfl
theorem dX3_write_0 : decode cX3_write 0 = .ok (.aload_n 2, 1) := dk_44 (dk_at dksX3_write_0 0 rfl rfl)
theorem dX3_write_1 : decode cX3_write 1 = .ok (.aload_n 0, 1) := dk_42 (dk_at dksX3_write_0 1 rfl rfl)
theorem dX3_write_2 : decode cX3_write 2 = .ok (.getfield 9, 3) := dk_180 0 9 (dk_at dksX3_write_0 2 rfl rfl)
theorem dX3_write_5 : decode cX3_write 5 = .ok (.iload_n 1, 1) := dk_27 (dk_at dksX3_write_0 5 rfl rfl)
theorem dX3_write_6 : decode cX3_write 6 = .ok (.baload, 1) := dk_51 (dk_at dksX3_write_0 6 rfl rfl)
theorem dX3_write_7 : decode cX3_write 7 = .ok (.i2c, 1) := dk_146 (dk_at dksX3_write_0 7 rfl rfl)
theorem dX3_write_8 : decode cX3_write 8 = .ok (.invokevirtual 57, 3) := dk_182 0 57 (dk_at dksX3_write_0 8 rfl rfl)
theorem dX3_write_11 : decode cX3_write 11 = .ok (.pop, 1) := dk_87 (dk_at dksX3_write_0 11 rfl rfl)
theorem dX3_write_12 : decode cX3_write 12 = .ok (.iload_n 1, 1) := dk_27 (dk_at dksX3_write_0 12 rfl rfl)
theorem dX3_write_13 : decode cX3_write 13 = .ok (.iconst 1, 1) := dk_4 (dk_at dksX3_write_0 13 rfl rfl)
theorem dX3_write_14 : decode cX3_write 14 = .ok (.iadd, 1) := dk_96 (dk_at dksX3_write_0 14 rfl rfl)
theorem dX3_write_15 : decode cX3_write 15 = .ok (.istore_n 3, 1) := dk_62 (dk_at dksX3_write_0 15 rfl rfl)
theorem dX3_write_16 : decode cX3_write 16 = .ok (.iload_n 3, 1) := dk_29 (dk_at dksX3_write_0 16 rfl rfl)
theorem dX3_write_17 : decode cX3_write 17 = .ok (.aload_n 0, 1) := dk_42 (dk_at dksX3_write_0 17 rfl rfl)
theorem dX3_write_18 : decode cX3_write 18 = .ok (.getfield 15, 3) := dk_180 0 15 (dk_at dksX3_write_0 18 rfl rfl)
theorem dX3_write_21 : decode cX3_write 21 = .ok (.iload_n 1, 1) := dk_27 (dk_at dksX3_write_0 21 rfl rfl)
theorem dX3_write_22 : decode cX3_write 22 = .ok (.iaload, 1) := dk_46 (dk_at dksX3_write_0 22 rfl rfl)
theorem dX3_write_23 : decode cX3_write 23 = .ok (.if_icmp .ge 38, 3) := dk_162 0 38 (dk_at dksX3_write_1 0 rfl rfl)
theorem dX3_write_26 : decode cX3_write 26 = .ok (.aload_n 2, 1) := dk_44 (dk_at dksX3_write_1 3 rfl rfl)
theorem dX3_write_27 : decode cX3_write 27 = .ok (.iload_n 3, 1) := dk_29 (dk_at dksX3_write_1 4 rfl rfl)
theorem dX3_write_28 : decode cX3_write 28 = .ok (.iload_n 1, 1) := dk_27 (dk_at dksX3_write_1 5 rfl rfl)
theorem dX3_write_29 : decode cX3_write 29 = .ok (.iconst 1, 1) := dk_4 (dk_at dksX3_write_1 6 rfl rfl)
theorem dX3_write_30 : decode cX3_write 30 = .ok (.iadd, 1) := dk_96 (dk_at dksX3_write_1 7 rfl rfl)
theorem dX3_write_31 : decode cX3_write 31 = .ok (.if_icmp .ne 8, 3) := dk_160 0 8 (dk_at dksX3_write_1 8 rfl rfl)
theorem dX3_write_34 : decode cX3_write 34 = .ok (.bipush 40, 2) := dk_16 40 (dk_at dksX3_write_1 11 rfl rfl)
theorem dX3_write_36 : decode cX3_write 36 = .ok (.goto 5, 3) := dk_167 0 5 (dk_at dksX3_write_1 13 rfl rfl)
theorem dX3_write_39 : decode cX3_write 39 = .ok (.bipush 44, 2) := dk_16 44 (dk_at dksX3_write_1 16 rfl rfl)
theorem dX3_write_41 : decode cX3_write 41 = .ok (.invokevirtual 57, 3) := dk_182 0 57 (dk_at dksX3_write_1 18 rfl rfl)
theorem dX3_write_44 : decode cX3_write 44 = .ok (.pop, 1) := dk_87 (dk_at dksX3_write_1 21 rfl rfl)
theorem dX3_write_45 : decode cX3_write 45 = .ok (.aload_n 0, 1) := dk_42 (dk_at dksX3_write_1 22 rfl rfl)
theorem dX3_write_46 : decode cX3_write 46 = .ok (.iload_n 3, 1) := dk_29 (dk_at dksX3_write_1 23 rfl rfl)
theorem dX3_write_47 : decode cX3_write 47 = .ok (.aload_n 2, 1) := dk_44 (dk_at dksX3_write_2 0 rfl rfl)
theorem dX3_write_48 : decode cX3_write 48 = .ok (.invokevirtual 63, 3) := dk_182 0 63 (dk_at dksX3_write_2 1 rfl rfl)
theorem dX3_write_51 : decode cX3_write 51 = .ok (.aload_n 0, 1) := dk_42 (dk_at dksX3_write_2 4 rfl rfl)
theorem dX3_write_52 : decode cX3_write 52 = .ok (.getfield 15, 3) := dk_180 0 15 (dk_at dksX3_write_2 5 rfl rfl)
theorem dX3_write_55 : decode cX3_write 55 = .ok (.iload_n 3, 1) := dk_29 (dk_at dksX3_write_2 8 rfl rfl)
theorem dX3_write_56 : decode cX3_write 56 = .ok (.iaload, 1) := dk_46 (dk_at dksX3_write_2 9 rfl rfl)
theorem dX3_write_57 : decode cX3_write 57 = .ok (.istore_n 3, 1) := dk_62 (dk_at dksX3_write_2 10 rfl rfl)
theorem dX3_write_58 : decode cX3_write 58 = .ok (.goto (-42), 3) := dk_167 255 214 (dk_at dksX3_write_2 11 rfl rfl)
theorem dX3_write_61 : decode cX3_write 61 = .ok (.aload_n 0, 1) := dk_42 (dk_at dksX3_write_2 14 rfl rfl)
theorem dX3_write_62 : decode cX3_write 62 = .ok (.getfield 15, 3) := dk_180 0 15 (dk_at dksX3_write_2 15 rfl rfl)
theorem dX3_write_65 : decode cX3_write 65 = .ok (.iload_n 1, 1) := dk_27 (dk_at dksX3_write_2 18 rfl rfl)
theorem dX3_write_66 : decode cX3_write 66 = .ok (.iaload, 1) := dk_46 (dk_at dksX3_write_2 19 rfl rfl)
theorem dX3_write_67 : decode cX3_write 67 = .ok (.iload_n 1, 1) := dk_27 (dk_at dksX3_write_2 20 rfl rfl)
theorem dX3_write_68 : decode cX3_write 68 = .ok (.iconst 1, 1) := dk_4 (dk_at dksX3_write_2 21 rfl rfl)
theorem dX3_write_69 : decode cX3_write 69 = .ok (.iadd, 1) := dk_96 (dk_at dksX3_write_2 22 rfl rfl)
theorem dX3_write_70 : decode cX3_write 70 = .ok (.if_icmp .le 10, 3) := dk_164 0 10 (dk_at dksX3_write_3 0 rfl rfl)
theorem dX3_write_73 : decode cX3_write 73 = .ok (.aload_n 2, 1) := dk_44 (dk_at dksX3_write_3 3 rfl rfl)
theorem dX3_write_74 : decode cX3_write 74 = .ok (.bipush 41, 2) := dk_16 41 (dk_at dksX3_write_3 4 rfl rfl)
theorem dX3_write_76 : decode cX3_write 76 = .ok (.invokevirtual 57, 3) := dk_182 0 57 (dk_at dksX3_write_3 6 rfl rfl)
theorem dX3_write_79 : decode cX3_write 79 = .ok (.pop, 1) := dk_87 (dk_at dksX3_write_3 9 rfl rfl)
theorem dX3_write_80 : decode cX3_write 80 = .ok (.return_, 1) := dk_177 (dk_at dksX3_write_3 10 rfl rfl)
abbrev cX3_isEqual : ByteArray := prog_7_method_12_code
def yX3_isEqual : MethodName := ⟨RX3, "isEqual", "(LDependencyPairAnalyzer$Term;)Z"⟩
def dkwX3_isEqual_0 : List UInt8 := [42, 3, 43, 3, 182, 0, 49, 172]
abbrev dktX3_isEqual_0 : List UInt8 := dkwX3_isEqual_0 ++ []
theorem dksX3_isEqual_0 : cX3_isEqual.data.toList.drop 0 = dktX3_isEqual_0 := by decide +kernel
theorem dX3_isEqual_0 : decode cX3_isEqual 0 = .ok (.aload_n 0, 1) := dk_42 (dk_at dksX3_isEqual_0 0 rfl rfl)
theorem dX3_isEqual_1 : decode cX3_isEqual 1 = .ok (.iconst 0, 1) := dk_3 (dk_at dksX3_isEqual_0 1 rfl rfl)
theorem dX3_isEqual_2 : decode cX3_isEqual 2 = .ok (.aload_n 1, 1) := dk_43 (dk_at dksX3_isEqual_0 2 rfl rfl)
theorem dX3_isEqual_3 : decode cX3_isEqual 3 = .ok (.iconst 0, 1) := dk_3 (dk_at dksX3_isEqual_0 3 rfl rfl)
theorem dX3_isEqual_4 : decode cX3_isEqual 4 = .ok (.invokevirtual 49, 3) := dk_182 0 49 (dk_at dksX3_isEqual_0 4 rfl rfl)
theorem dX3_isEqual_7 : decode cX3_isEqual 7 = .ok (.ireturn, 1) := dk_172 (dk_at dksX3_isEqual_0 7 rfl rfl)

/-! DependencyPairAnalyzer$SyntaxException -/
set_option maxRecDepth 100000
def RX5 : String := "DependencyPairAnalyzer$SyntaxException"
def TX5 : u_T := fun k => match k with
  | 0 => ("java/lang/Throwable", "cause", "Ljava/lang/Throwable;", false)
  | 1 => ("java/lang/Throwable", "stackTrace", "[Ljava/lang/StackTraceElement;", false)
  | 2 => ("java/lang/Throwable", "suppressedExceptions", "Ljava/util/List;", false)
  | 3 => ("java/lang/Throwable", "detailMessage", "Ljava/lang/String;", false)
  | 4 => ("java/lang/Throwable", "backtrace", "Ljava/lang/Object;", false)
  | 5 => ("java/lang/Throwable", "depth", "I", false)
  | _ => ("DependencyPairAnalyzer$SyntaxException", "position", "I", true)
def tyX5 : Nat → FieldType := fun k => match k with
  | 0 => .object "java/lang/Throwable"
  | 1 => .array (.object "java/lang/StackTraceElement")
  | 2 => .object "java/util/List"
  | 3 => .object "java/lang/String"
  | 4 => .object "java/lang/Object"
  | 5 => .int
  | _ => .int
abbrev wsX50 : List Cond := u_ws RX5 TX5 7
theorem nmX5 : ∀ a, a < 7 → ∀ b, b < 7 → a ≠ b → (TX5 a).2.1 ≠ (TX5 b).2.1 := by decide +kernel
theorem tyX5_ok : ∀ k, k < 7 → parseFieldDescriptor (TX5 k).2.2.1 = some (tyX5 k) := by decide +kernel
abbrev cX5_init : ByteArray := prog_6_method_1_code
def yX5_init : MethodName := ⟨RX5, "<init>", "(I)V"⟩
def dkwX5_init_0 : List UInt8 := [42, 1, 1, 3, 3, 183, 0, 1, 42, 27, 181, 0, 7, 177]
abbrev dktX5_init_0 : List UInt8 := dkwX5_init_0 ++ []
theorem dksX5_init_0 : cX5_init.data.toList.drop 0 = dktX5_init_0 := by decide +kernel
theorem dX5_init_0 : decode cX5_init 0 = .ok (.aload_n 0, 1) := dk_42 (dk_at dksX5_init_0 0 rfl rfl)
theorem dX5_init_1 : decode cX5_init 1 = .ok (.aconst_null, 1) := dk_1 (dk_at dksX5_init_0 1 rfl rfl)
theorem dX5_init_2 : decode cX5_init 2 = .ok (.aconst_null, 1) := dk_1 (dk_at dksX5_init_0 2 rfl rfl)
theorem dX5_init_3 : decode cX5_init 3 = .ok (.iconst 0, 1) := dk_3 (dk_at dksX5_init_0 3 rfl rfl)
theorem dX5_init_4 : decode cX5_init 4 = .ok (.iconst 0, 1) := dk_3 (dk_at dksX5_init_0 4 rfl rfl)
theorem dX5_init_5 : decode cX5_init 5 = .ok (.invokespecial 1, 3) := dk_183 0 1 (dk_at dksX5_init_0 5 rfl rfl)
theorem dX5_init_8 : decode cX5_init 8 = .ok (.aload_n 0, 1) := dk_42 (dk_at dksX5_init_0 8 rfl rfl)
theorem dX5_init_9 : decode cX5_init 9 = .ok (.iload_n 1, 1) := dk_27 (dk_at dksX5_init_0 9 rfl rfl)
theorem dX5_init_10 : decode cX5_init 10 = .ok (.putfield 7, 3) := dk_181 0 7 (dk_at dksX5_init_0 10 rfl rfl)
theorem dX5_init_13 : decode cX5_init 13 = .ok (.return_, 1) := dk_177 (dk_at dksX5_init_0 13 rfl rfl)

/-! DependencyPairAnalyzer$Rule -/
set_option maxRecDepth 100000
def RX6 : String := "DependencyPairAnalyzer$Rule"
def TX6 : u_T := fun k => match k with
  | 0 => ("DependencyPairAnalyzer$Rule", "left", "LDependencyPairAnalyzer$Term;", true)
  | _ => ("DependencyPairAnalyzer$Rule", "right", "LDependencyPairAnalyzer$Term;", true)
def tyX6 : Nat → FieldType := fun k => match k with
  | 0 => .object "DependencyPairAnalyzer$Term"
  | _ => .object "DependencyPairAnalyzer$Term"
abbrev wsX60 : List Cond := u_ws RX6 TX6 2
theorem nmX6 : ∀ a, a < 2 → ∀ b, b < 2 → a ≠ b → (TX6 a).2.1 ≠ (TX6 b).2.1 := by decide +kernel
theorem tyX6_ok : ∀ k, k < 2 → parseFieldDescriptor (TX6 k).2.2.1 = some (tyX6 k) := by decide +kernel
abbrev cX6_init : ByteArray := prog_4_method_1_code
def yX6_init : MethodName := ⟨RX6, "<init>", "(LDependencyPairAnalyzer$Term;LDependencyPairAnalyzer$Term;)V"⟩
def dkwX6_init_0 : List UInt8 := [42, 183, 0, 1, 42, 43, 181, 0, 7, 42, 44, 181, 0, 13, 177]
abbrev dktX6_init_0 : List UInt8 := dkwX6_init_0 ++ []
theorem dksX6_init_0 : cX6_init.data.toList.drop 0 = dktX6_init_0 := by decide +kernel
theorem dX6_init_0 : decode cX6_init 0 = .ok (.aload_n 0, 1) := dk_42 (dk_at dksX6_init_0 0 rfl rfl)
theorem dX6_init_1 : decode cX6_init 1 = .ok (.invokespecial 1, 3) := dk_183 0 1 (dk_at dksX6_init_0 1 rfl rfl)
theorem dX6_init_4 : decode cX6_init 4 = .ok (.aload_n 0, 1) := dk_42 (dk_at dksX6_init_0 4 rfl rfl)
theorem dX6_init_5 : decode cX6_init 5 = .ok (.aload_n 1, 1) := dk_43 (dk_at dksX6_init_0 5 rfl rfl)
theorem dX6_init_6 : decode cX6_init 6 = .ok (.putfield 7, 3) := dk_181 0 7 (dk_at dksX6_init_0 6 rfl rfl)
theorem dX6_init_9 : decode cX6_init 9 = .ok (.aload_n 0, 1) := dk_42 (dk_at dksX6_init_0 9 rfl rfl)
theorem dX6_init_10 : decode cX6_init 10 = .ok (.aload_n 2, 1) := dk_44 (dk_at dksX6_init_0 10 rfl rfl)
theorem dX6_init_11 : decode cX6_init 11 = .ok (.putfield 13, 3) := dk_181 0 13 (dk_at dksX6_init_0 11 rfl rfl)
theorem dX6_init_14 : decode cX6_init 14 = .ok (.return_, 1) := dk_177 (dk_at dksX6_init_0 14 rfl rfl)

/-! DependencyPairAnalyzer$Pair -/
set_option maxRecDepth 100000
def RX7 : String := "DependencyPairAnalyzer$Pair"
def TX7 : u_T := fun k => match k with
  | 0 => ("DependencyPairAnalyzer$Pair", "rule", "I", true)
  | 1 => ("DependencyPairAnalyzer$Pair", "position", "I", true)
  | 2 => ("DependencyPairAnalyzer$Pair", "source", "LDependencyPairAnalyzer$Term;", true)
  | 3 => ("DependencyPairAnalyzer$Pair", "right", "LDependencyPairAnalyzer$Term;", true)
  | _ => ("DependencyPairAnalyzer$Pair", "graph", "LDependencyPairAnalyzer$SizeChangeGraph;", true)
def tyX7 : Nat → FieldType := fun k => match k with
  | 0 => .int
  | 1 => .int
  | 2 => .object "DependencyPairAnalyzer$Term"
  | 3 => .object "DependencyPairAnalyzer$Term"
  | _ => .object "DependencyPairAnalyzer$SizeChangeGraph"
abbrev wsX70 : List Cond := u_ws RX7 TX7 5
theorem nmX7 : ∀ a, a < 5 → ∀ b, b < 5 → a ≠ b → (TX7 a).2.1 ≠ (TX7 b).2.1 := by decide +kernel
theorem tyX7_ok : ∀ k, k < 5 → parseFieldDescriptor (TX7 k).2.2.1 = some (tyX7 k) := by decide +kernel
abbrev cX7_init : ByteArray := prog_2_method_1_code
def yX7_init : MethodName := ⟨RX7, "<init>", "(IILDependencyPairAnalyzer$Term;LDependencyPairAnalyzer$Term;)V"⟩
def dkwX7_init_7 : List UInt8 := [25, 5, 183, 0, 48, 181, 0, 51, 177]
abbrev dktX7_init_7 : List UInt8 := dkwX7_init_7 ++ []
def dkwX7_init_6 : List UInt8 := [21, 7, 46, 54, 7, 167, 255, 150, 42, 187, 0, 42, 89, 45, 3, 182, 0, 44, 25, 4, 28, 182, 0, 44]
abbrev dktX7_init_6 : List UInt8 := dkwX7_init_6 ++ dktX7_init_7
def dkwX7_init_5 : List UInt8 := [132, 8, 1, 25, 4, 180, 0, 31, 21, 9, 46, 54, 9, 167, 255, 182, 132, 6, 1, 45, 180, 0, 31]
abbrev dktX7_init_5 : List UInt8 := dkwX7_init_5 ++ dktX7_init_6
def dkwX7_init_4 : List UInt8 := [167, 0, 21, 45, 21, 7, 25, 4, 21, 9, 182, 0, 39, 153, 0, 7, 5, 167, 0, 4, 3, 79]
abbrev dktX7_init_4 : List UInt8 := dkwX7_init_4 ++ dktX7_init_5
def dkwX7_init_3 : List UInt8 := [25, 4, 21, 9, 182, 0, 35, 54, 10, 25, 5, 6, 21, 6, 104, 21, 8, 96, 21, 10, 153, 0, 7, 4]
abbrev dktX7_init_3 : List UInt8 := dkwX7_init_3 ++ dktX7_init_4
def dkwX7_init_2 : List UInt8 := [3, 54, 8, 28, 4, 96, 54, 9, 21, 9, 25, 4, 180, 0, 31, 28, 46, 162, 0, 68, 45, 21, 7]
abbrev dktX7_init_2 : List UInt8 := dkwX7_init_2 ++ dktX7_init_3
def dkwX7_init_1 : List UInt8 := [181, 0, 22, 16, 9, 188, 10, 58, 5, 3, 54, 6, 4, 54, 7, 21, 7, 45, 182, 0, 25, 162, 0, 103]
abbrev dktX7_init_1 : List UInt8 := dkwX7_init_1 ++ dktX7_init_2
def dkwX7_init_0 : List UInt8 := [42, 183, 0, 3, 42, 27, 181, 0, 9, 42, 28, 181, 0, 15, 42, 45, 181, 0, 18, 42, 25, 4]
abbrev dktX7_init_0 : List UInt8 := dkwX7_init_0 ++ dktX7_init_1
theorem dksX7_init_0 : cX7_init.data.toList.drop 0 = dktX7_init_0 := by decide +kernel
theorem dksX7_init_1 : cX7_init.data.toList.drop 22 = dktX7_init_1 := dk_seg dksX7_init_0 22 rfl rfl
theorem dksX7_init_2 : cX7_init.data.toList.drop 46 = dktX7_init_2 := dk_seg dksX7_init_1 24 rfl rfl
theorem dksX7_init_3 : cX7_init.data.toList.drop 69 = dktX7_init_3 := dk_seg dksX7_init_2 23 rfl rfl
theorem dksX7_init_4 : cX7_init.data.toList.drop 93 = dktX7_init_4 := dk_seg dksX7_init_3 24 rfl rfl
theorem dksX7_init_5 : cX7_init.data.toList.drop 115 = dktX7_init_5 := dk_seg dksX7_init_4 22 rfl rfl
theorem dksX7_init_6 : cX7_init.data.toList.drop 138 = dktX7_init_6 := dk_seg dksX7_init_5 23 rfl rfl
theorem dksX7_init_7 : cX7_init.data.toList.drop 162 = dktX7_init_7 := dk_seg dksX7_init_6 24 rfl rfl
theorem dX7_init_0 : decode cX7_init 0 = .ok (.aload_n 0, 1) := dk_42 (dk_at dksX7_init_0 0 rfl rfl)
theorem dX7_init_1 : decode cX7_init 1 = .ok (.invokespecial 3, 3) := dk_183 0 3 (dk_at dksX7_init_0 1 rfl rfl)
theorem dX7_init_4 : decode cX7_init 4 = .ok (.aload_n 0, 1) := dk_42 (dk_at dksX7_init_0 4 rfl rfl)
theorem dX7_init_5 : decode cX7_init 5 = .ok (.iload_n 1, 1) := dk_27 (dk_at dksX7_init_0 5 rfl rfl)
theorem dX7_init_6 : decode cX7_init 6 = .ok (.putfield 9, 3) := dk_181 0 9 (dk_at dksX7_init_0 6 rfl rfl)
theorem dX7_init_9 : decode cX7_init 9 = .ok (.aload_n 0, 1) := dk_42 (dk_at dksX7_init_0 9 rfl rfl)
theorem dX7_init_10 : decode cX7_init 10 = .ok (.iload_n 2, 1) := dk_28 (dk_at dksX7_init_0 10 rfl rfl)
theorem dX7_init_11 : decode cX7_init 11 = .ok (.putfield 15, 3) := dk_181 0 15 (dk_at dksX7_init_0 11 rfl rfl)
theorem dX7_init_14 : decode cX7_init 14 = .ok (.aload_n 0, 1) := dk_42 (dk_at dksX7_init_0 14 rfl rfl)
theorem dX7_init_15 : decode cX7_init 15 = .ok (.aload_n 3, 1) := dk_45 (dk_at dksX7_init_0 15 rfl rfl)
theorem dX7_init_16 : decode cX7_init 16 = .ok (.putfield 18, 3) := dk_181 0 18 (dk_at dksX7_init_0 16 rfl rfl)
theorem dX7_init_19 : decode cX7_init 19 = .ok (.aload_n 0, 1) := dk_42 (dk_at dksX7_init_0 19 rfl rfl)
theorem dX7_init_20 : decode cX7_init 20 = .ok (.aload 4, 2) := dk_25 4 (dk_at dksX7_init_0 20 rfl rfl)
theorem dX7_init_22 : decode cX7_init 22 = .ok (.putfield 22, 3) := dk_181 0 22 (dk_at dksX7_init_1 0 rfl rfl)
theorem dX7_init_25 : decode cX7_init 25 = .ok (.bipush 9, 2) := dk_16 9 (dk_at dksX7_init_1 3 rfl rfl)
theorem dX7_init_27 : decode cX7_init 27 = .ok (.newarray .int, 2) := dk_188_10 (dk_at dksX7_init_1 5 rfl rfl)
theorem dX7_init_29 : decode cX7_init 29 = .ok (.astore 5, 2) := dk_58 5 (dk_at dksX7_init_1 7 rfl rfl)
theorem dX7_init_31 : decode cX7_init 31 = .ok (.iconst 0, 1) := dk_3 (dk_at dksX7_init_1 9 rfl rfl)
theorem dX7_init_32 : decode cX7_init 32 = .ok (.istore 6, 2) := dk_54 6 (dk_at dksX7_init_1 10 rfl rfl)
theorem dX7_init_34 : decode cX7_init 34 = .ok (.iconst 1, 1) := dk_4 (dk_at dksX7_init_1 12 rfl rfl)
theorem dX7_init_35 : decode cX7_init 35 = .ok (.istore 7, 2) := dk_54 7 (dk_at dksX7_init_1 13 rfl rfl)
theorem dX7_init_37 : decode cX7_init 37 = .ok (.iload 7, 2) := dk_21 7 (dk_at dksX7_init_1 15 rfl rfl)
theorem dX7_init_39 : decode cX7_init 39 = .ok (.aload_n 3, 1) := dk_45 (dk_at dksX7_init_1 17 rfl rfl)
theorem dX7_init_40 : decode cX7_init 40 = .ok (.invokevirtual 25, 3) := dk_182 0 25 (dk_at dksX7_init_1 18 rfl rfl)
theorem dX7_init_43 : decode cX7_init 43 = .ok (.if_icmp .ge 103, 3) := dk_162 0 103 (dk_at dksX7_init_1 21 rfl rfl)
theorem dX7_init_46 : decode cX7_init 46 = .ok (.iconst 0, 1) := dk_3 (dk_at dksX7_init_2 0 rfl rfl)
theorem dX7_init_47 : decode cX7_init 47 = .ok (.istore 8, 2) := dk_54 8 (dk_at dksX7_init_2 1 rfl rfl)
theorem dX7_init_49 : decode cX7_init 49 = .ok (.iload_n 2, 1) := dk_28 (dk_at dksX7_init_2 3 rfl rfl)
theorem dX7_init_50 : decode cX7_init 50 = .ok (.iconst 1, 1) := dk_4 (dk_at dksX7_init_2 4 rfl rfl)
theorem dX7_init_51 : decode cX7_init 51 = .ok (.iadd, 1) := dk_96 (dk_at dksX7_init_2 5 rfl rfl)
theorem dX7_init_52 : decode cX7_init 52 = .ok (.istore 9, 2) := dk_54 9 (dk_at dksX7_init_2 6 rfl rfl)
theorem dX7_init_54 : decode cX7_init 54 = .ok (.iload 9, 2) := dk_21 9 (dk_at dksX7_init_2 8 rfl rfl)
theorem dX7_init_56 : decode cX7_init 56 = .ok (.aload 4, 2) := dk_25 4 (dk_at dksX7_init_2 10 rfl rfl)
theorem dX7_init_58 : decode cX7_init 58 = .ok (.getfield 31, 3) := dk_180 0 31 (dk_at dksX7_init_2 12 rfl rfl)
theorem dX7_init_61 : decode cX7_init 61 = .ok (.iload_n 2, 1) := dk_28 (dk_at dksX7_init_2 15 rfl rfl)
theorem dX7_init_62 : decode cX7_init 62 = .ok (.iaload, 1) := dk_46 (dk_at dksX7_init_2 16 rfl rfl)
theorem dX7_init_63 : decode cX7_init 63 = .ok (.if_icmp .ge 68, 3) := dk_162 0 68 (dk_at dksX7_init_2 17 rfl rfl)
theorem dX7_init_66 : decode cX7_init 66 = .ok (.aload_n 3, 1) := dk_45 (dk_at dksX7_init_2 20 rfl rfl)
theorem dX7_init_67 : decode cX7_init 67 = .ok (.iload 7, 2) := dk_21 7 (dk_at dksX7_init_2 21 rfl rfl)
theorem dX7_init_69 : decode cX7_init 69 = .ok (.aload 4, 2) := dk_25 4 (dk_at dksX7_init_3 0 rfl rfl)
theorem dX7_init_71 : decode cX7_init 71 = .ok (.iload 9, 2) := dk_21 9 (dk_at dksX7_init_3 2 rfl rfl)
theorem dX7_init_73 : decode cX7_init 73 = .ok (.invokevirtual 35, 3) := dk_182 0 35 (dk_at dksX7_init_3 4 rfl rfl)
theorem dX7_init_76 : decode cX7_init 76 = .ok (.istore 10, 2) := dk_54 10 (dk_at dksX7_init_3 7 rfl rfl)
theorem dX7_init_78 : decode cX7_init 78 = .ok (.aload 5, 2) := dk_25 5 (dk_at dksX7_init_3 9 rfl rfl)
theorem dX7_init_80 : decode cX7_init 80 = .ok (.iconst 3, 1) := dk_6 (dk_at dksX7_init_3 11 rfl rfl)
theorem dX7_init_81 : decode cX7_init 81 = .ok (.iload 6, 2) := dk_21 6 (dk_at dksX7_init_3 12 rfl rfl)
theorem dX7_init_83 : decode cX7_init 83 = .ok (.imul, 1) := dk_104 (dk_at dksX7_init_3 14 rfl rfl)
theorem dX7_init_84 : decode cX7_init 84 = .ok (.iload 8, 2) := dk_21 8 (dk_at dksX7_init_3 15 rfl rfl)
theorem dX7_init_86 : decode cX7_init 86 = .ok (.iadd, 1) := dk_96 (dk_at dksX7_init_3 17 rfl rfl)
theorem dX7_init_87 : decode cX7_init 87 = .ok (.iload 10, 2) := dk_21 10 (dk_at dksX7_init_3 18 rfl rfl)
theorem dX7_init_89 : decode cX7_init 89 = .ok (.ifCond .eq 7, 3) := dk_153 0 7 (dk_at dksX7_init_3 20 rfl rfl)
theorem dX7_init_92 : decode cX7_init 92 = .ok (.iconst 1, 1) := dk_4 (dk_at dksX7_init_3 23 rfl rfl)
theorem dX7_init_93 : decode cX7_init 93 = .ok (.goto 21, 3) := dk_167 0 21 (dk_at dksX7_init_4 0 rfl rfl)
theorem dX7_init_96 : decode cX7_init 96 = .ok (.aload_n 3, 1) := dk_45 (dk_at dksX7_init_4 3 rfl rfl)
theorem dX7_init_97 : decode cX7_init 97 = .ok (.iload 7, 2) := dk_21 7 (dk_at dksX7_init_4 4 rfl rfl)
theorem dX7_init_99 : decode cX7_init 99 = .ok (.aload 4, 2) := dk_25 4 (dk_at dksX7_init_4 6 rfl rfl)
theorem dX7_init_101 : decode cX7_init 101 = .ok (.iload 9, 2) := dk_21 9 (dk_at dksX7_init_4 8 rfl rfl)
theorem dX7_init_103 : decode cX7_init 103 = .ok (.invokevirtual 39, 3) := dk_182 0 39 (dk_at dksX7_init_4 10 rfl rfl)
theorem dX7_init_106 : decode cX7_init 106 = .ok (.ifCond .eq 7, 3) := dk_153 0 7 (dk_at dksX7_init_4 13 rfl rfl)
theorem dX7_init_109 : decode cX7_init 109 = .ok (.iconst 2, 1) := dk_5 (dk_at dksX7_init_4 16 rfl rfl)
theorem dX7_init_110 : decode cX7_init 110 = .ok (.goto 4, 3) := dk_167 0 4 (dk_at dksX7_init_4 17 rfl rfl)
theorem dX7_init_113 : decode cX7_init 113 = .ok (.iconst 0, 1) := dk_3 (dk_at dksX7_init_4 20 rfl rfl)
theorem dX7_init_114 : decode cX7_init 114 = .ok (.iastore, 1) := dk_79 (dk_at dksX7_init_4 21 rfl rfl)
theorem dX7_init_115 : decode cX7_init 115 = .ok (.iinc 8 1, 3) := dk_132 8 1 (dk_at dksX7_init_5 0 rfl rfl)
theorem dX7_init_118 : decode cX7_init 118 = .ok (.aload 4, 2) := dk_25 4 (dk_at dksX7_init_5 3 rfl rfl)
theorem dX7_init_120 : decode cX7_init 120 = .ok (.getfield 31, 3) := dk_180 0 31 (dk_at dksX7_init_5 5 rfl rfl)
theorem dX7_init_123 : decode cX7_init 123 = .ok (.iload 9, 2) := dk_21 9 (dk_at dksX7_init_5 8 rfl rfl)
theorem dX7_init_125 : decode cX7_init 125 = .ok (.iaload, 1) := dk_46 (dk_at dksX7_init_5 10 rfl rfl)
theorem dX7_init_126 : decode cX7_init 126 = .ok (.istore 9, 2) := dk_54 9 (dk_at dksX7_init_5 11 rfl rfl)
theorem dX7_init_128 : decode cX7_init 128 = .ok (.goto (-74), 3) := dk_167 255 182 (dk_at dksX7_init_5 13 rfl rfl)
theorem dX7_init_131 : decode cX7_init 131 = .ok (.iinc 6 1, 3) := dk_132 6 1 (dk_at dksX7_init_5 16 rfl rfl)
theorem dX7_init_134 : decode cX7_init 134 = .ok (.aload_n 3, 1) := dk_45 (dk_at dksX7_init_5 19 rfl rfl)
theorem dX7_init_135 : decode cX7_init 135 = .ok (.getfield 31, 3) := dk_180 0 31 (dk_at dksX7_init_5 20 rfl rfl)
theorem dX7_init_138 : decode cX7_init 138 = .ok (.iload 7, 2) := dk_21 7 (dk_at dksX7_init_6 0 rfl rfl)
theorem dX7_init_140 : decode cX7_init 140 = .ok (.iaload, 1) := dk_46 (dk_at dksX7_init_6 2 rfl rfl)
theorem dX7_init_141 : decode cX7_init 141 = .ok (.istore 7, 2) := dk_54 7 (dk_at dksX7_init_6 3 rfl rfl)
theorem dX7_init_143 : decode cX7_init 143 = .ok (.goto (-106), 3) := dk_167 255 150 (dk_at dksX7_init_6 5 rfl rfl)
theorem dX7_init_146 : decode cX7_init 146 = .ok (.aload_n 0, 1) := dk_42 (dk_at dksX7_init_6 8 rfl rfl)
theorem dX7_init_147 : decode cX7_init 147 = .ok (.new 42, 3) := dk_187 0 42 (dk_at dksX7_init_6 9 rfl rfl)
theorem dX7_init_150 : decode cX7_init 150 = .ok (.dup, 1) := dk_89 (dk_at dksX7_init_6 12 rfl rfl)
theorem dX7_init_151 : decode cX7_init 151 = .ok (.aload_n 3, 1) := dk_45 (dk_at dksX7_init_6 13 rfl rfl)
theorem dX7_init_152 : decode cX7_init 152 = .ok (.iconst 0, 1) := dk_3 (dk_at dksX7_init_6 14 rfl rfl)
theorem dX7_init_153 : decode cX7_init 153 = .ok (.invokevirtual 44, 3) := dk_182 0 44 (dk_at dksX7_init_6 15 rfl rfl)
theorem dX7_init_156 : decode cX7_init 156 = .ok (.aload 4, 2) := dk_25 4 (dk_at dksX7_init_6 18 rfl rfl)
theorem dX7_init_158 : decode cX7_init 158 = .ok (.iload_n 2, 1) := dk_28 (dk_at dksX7_init_6 20 rfl rfl)
theorem dX7_init_159 : decode cX7_init 159 = .ok (.invokevirtual 44, 3) := dk_182 0 44 (dk_at dksX7_init_6 21 rfl rfl)
theorem dX7_init_162 : decode cX7_init 162 = .ok (.aload 5, 2) := dk_25 5 (dk_at dksX7_init_7 0 rfl rfl)
theorem dX7_init_164 : decode cX7_init 164 = .ok (.invokespecial 48, 3) := dk_183 0 48 (dk_at dksX7_init_7 2 rfl rfl)
theorem dX7_init_167 : decode cX7_init 167 = .ok (.putfield 51, 3) := dk_181 0 51 (dk_at dksX7_init_7 5 rfl rfl)
theorem dX7_init_170 : decode cX7_init 170 = .ok (.return_, 1) := dk_177 (dk_at dksX7_init_7 8 rfl rfl)
abbrev cX7_relation : ByteArray := prog_2_method_2_code
def yX7_relation : MethodName := ⟨RX7, "relation", "(II)I"⟩
def dkwX7_relation_0 : List UInt8 := [42, 180, 0, 51, 180, 0, 55, 6, 27, 104, 28, 96, 46, 172]
abbrev dktX7_relation_0 : List UInt8 := dkwX7_relation_0 ++ []
theorem dksX7_relation_0 : cX7_relation.data.toList.drop 0 = dktX7_relation_0 := by decide +kernel
theorem dX7_relation_0 : decode cX7_relation 0 = .ok (.aload_n 0, 1) := dk_42 (dk_at dksX7_relation_0 0 rfl rfl)
theorem dX7_relation_1 : decode cX7_relation 1 = .ok (.getfield 51, 3) := dk_180 0 51 (dk_at dksX7_relation_0 1 rfl rfl)
theorem dX7_relation_4 : decode cX7_relation 4 = .ok (.getfield 55, 3) := dk_180 0 55 (dk_at dksX7_relation_0 4 rfl rfl)
theorem dX7_relation_7 : decode cX7_relation 7 = .ok (.iconst 3, 1) := dk_6 (dk_at dksX7_relation_0 7 rfl rfl)
theorem dX7_relation_8 : decode cX7_relation 8 = .ok (.iload_n 1, 1) := dk_27 (dk_at dksX7_relation_0 8 rfl rfl)
theorem dX7_relation_9 : decode cX7_relation 9 = .ok (.imul, 1) := dk_104 (dk_at dksX7_relation_0 9 rfl rfl)
theorem dX7_relation_10 : decode cX7_relation 10 = .ok (.iload_n 2, 1) := dk_28 (dk_at dksX7_relation_0 10 rfl rfl)
theorem dX7_relation_11 : decode cX7_relation 11 = .ok (.iadd, 1) := dk_96 (dk_at dksX7_relation_0 11 rfl rfl)
theorem dX7_relation_12 : decode cX7_relation 12 = .ok (.iaload, 1) := dk_46 (dk_at dksX7_relation_0 12 rfl rfl)
theorem dX7_relation_13 : decode cX7_relation 13 = .ok (.ireturn, 1) := dk_172 (dk_at dksX7_relation_0 13 rfl rfl)

/-! DependencyPairAnalyzer$TermComparator -/
set_option maxRecDepth 100000
def RX8 : String := "DependencyPairAnalyzer$TermComparator"
abbrev cX8_compare : ByteArray := prog_8_method_3_code
def yX8_compare : MethodName := ⟨RX8, "compare", "(Ljava/lang/Object;Ljava/lang/Object;)I"⟩
def dkwX8_compare_0 : List UInt8 := [42, 43, 192, 0, 8, 44, 192, 0, 8, 182, 0, 13, 172]
abbrev dktX8_compare_0 : List UInt8 := dkwX8_compare_0 ++ []
theorem dksX8_compare_0 : cX8_compare.data.toList.drop 0 = dktX8_compare_0 := by decide +kernel
theorem dX8_compare_0 : decode cX8_compare 0 = .ok (.aload_n 0, 1) := dk_42 (dk_at dksX8_compare_0 0 rfl rfl)
theorem dX8_compare_1 : decode cX8_compare 1 = .ok (.aload_n 1, 1) := dk_43 (dk_at dksX8_compare_0 1 rfl rfl)
theorem dX8_compare_2 : decode cX8_compare 2 = .ok (.checkcast 8, 3) := dk_192 0 8 (dk_at dksX8_compare_0 2 rfl rfl)
theorem dX8_compare_5 : decode cX8_compare 5 = .ok (.aload_n 2, 1) := dk_44 (dk_at dksX8_compare_0 5 rfl rfl)
theorem dX8_compare_6 : decode cX8_compare 6 = .ok (.checkcast 8, 3) := dk_192 0 8 (dk_at dksX8_compare_0 6 rfl rfl)
theorem dX8_compare_9 : decode cX8_compare 9 = .ok (.invokevirtual 13, 3) := dk_182 0 13 (dk_at dksX8_compare_0 9 rfl rfl)
theorem dX8_compare_12 : decode cX8_compare 12 = .ok (.ireturn, 1) := dk_172 (dk_at dksX8_compare_0 12 rfl rfl)
abbrev cX8_compare_2 : ByteArray := prog_8_method_2_code
def yX8_compare_2 : MethodName := ⟨RX8, "compare", "(LDependencyPairAnalyzer$Term;LDependencyPairAnalyzer$Term;)I"⟩
def dkwX8_compare_2_0 : List UInt8 := [43, 44, 182, 0, 7, 172]
abbrev dktX8_compare_2_0 : List UInt8 := dkwX8_compare_2_0 ++ []
theorem dksX8_compare_2_0 : cX8_compare_2.data.toList.drop 0 = dktX8_compare_2_0 := by decide +kernel
theorem dX8_compare_2_0 : decode cX8_compare_2 0 = .ok (.aload_n 1, 1) := dk_43 (dk_at dksX8_compare_2_0 0 rfl rfl)
theorem dX8_compare_2_1 : decode cX8_compare_2 1 = .ok (.aload_n 2, 1) := dk_44 (dk_at dksX8_compare_2_0 1 rfl rfl)
theorem dX8_compare_2_2 : decode cX8_compare_2 2 = .ok (.invokevirtual 7, 3) := dk_182 0 7 (dk_at dksX8_compare_2_0 2 rfl rfl)
theorem dX8_compare_2_5 : decode cX8_compare_2 5 = .ok (.ireturn, 1) := dk_172 (dk_at dksX8_compare_2_0 5 rfl rfl)
abbrev cX8_init : ByteArray := prog_8_method_1_code
def yX8_init : MethodName := ⟨RX8, "<init>", "()V"⟩
theorem dX8_init_0 : decode cX8_init 0 = .ok (.aload_n 0, 1) := by decide +kernel
theorem dX8_init_1 : decode cX8_init 1 = .ok (.invokespecial 1, 3) := by decide +kernel
theorem dX8_init_4 : decode cX8_init 4 = .ok (.return_, 1) := by decide +kernel

/-! the law's own entry -/
set_option maxRecDepth 100000
abbrev cL_law : ByteArray := code
def dkwL_law_52 : List UInt8 := [172, 132, 3, 4, 167, 250, 150, 4, 172]
abbrev dktL_law_52 : List UInt8 := dkwL_law_52 ++ []
def dkwL_law_51 : List UInt8 := [182, 0, 205, 44, 182, 0, 208, 159, 0, 18, 3, 172, 43, 182, 0, 209, 44, 182, 0, 212, 159, 0, 5, 3]
abbrev dktL_law_51 : List UInt8 := dkwL_law_51 ++ dktL_law_52
def dkwL_law_50 : List UInt8 := [182, 0, 200, 159, 0, 44, 3, 172, 43, 182, 0, 201, 44, 182, 0, 204, 159, 0, 31, 3, 172, 43]
abbrev dktL_law_50 : List UInt8 := dkwL_law_50 ++ dktL_law_51
def dkwL_law_49 : List UInt8 := [182, 0, 193, 44, 42, 29, 4, 96, 46, 182, 0, 196, 159, 0, 57, 3, 172, 43, 182, 0, 197, 44]
abbrev dktL_law_49 : List UInt8 := dkwL_law_49 ++ dktL_law_50
def dkwL_law_48 : List UInt8 := [159, 0, 93, 3, 172, 43, 182, 0, 189, 44, 182, 0, 192, 159, 0, 80, 3, 172, 43, 42, 29, 4, 96, 46]
abbrev dktL_law_48 : List UInt8 := dkwL_law_48 ++ dktL_law_49
def dkwL_law_47 : List UInt8 := [182, 0, 185, 44, 42, 29, 4, 96, 46, 42, 29, 5, 96, 46, 42, 29, 6, 96, 46, 182, 0, 188]
abbrev dktL_law_47 : List UInt8 := dkwL_law_47 ++ dktL_law_48
def dkwL_law_46 : List UInt8 := [182, 0, 184, 159, 0, 136, 3, 172, 43, 42, 29, 4, 96, 46, 42, 29, 5, 96, 46, 42, 29, 6, 96, 46]
abbrev dktL_law_46 : List UInt8 := dkwL_law_46 ++ dktL_law_47
def dkwL_law_45 : List UInt8 := [29, 4, 96, 46, 42, 29, 5, 96, 46, 182, 0, 181, 44, 42, 29, 4, 96, 46, 42, 29, 5, 96, 46]
abbrev dktL_law_45 : List UInt8 := dkwL_law_45 ++ dktL_law_46
def dkwL_law_44 : List UInt8 := [182, 0, 177, 44, 42, 29, 4, 96, 46, 42, 29, 5, 96, 46, 182, 0, 180, 159, 0, 169, 3, 172, 43, 42]
abbrev dktL_law_44 : List UInt8 := dkwL_law_44 ++ dktL_law_45
def dkwL_law_43 : List UInt8 := [5, 96, 46, 182, 0, 176, 159, 0, 202, 3, 172, 43, 42, 29, 4, 96, 46, 42, 29, 5, 96, 46]
abbrev dktL_law_43 : List UInt8 := dkwL_law_43 ++ dktL_law_44
def dkwL_law_42 : List UInt8 := [3, 172, 43, 42, 29, 4, 96, 46, 42, 29, 5, 96, 46, 182, 0, 173, 44, 42, 29, 4, 96, 46, 42, 29]
abbrev dktL_law_42 : List UInt8 := dkwL_law_42 ++ dktL_law_43
def dkwL_law_41 : List UInt8 := [29, 5, 96, 46, 182, 0, 169, 44, 42, 29, 4, 96, 46, 42, 29, 5, 96, 46, 182, 0, 172, 159, 0, 235]
abbrev dktL_law_41 : List UInt8 := dkwL_law_41 ++ dktL_law_42
def dkwL_law_40 : List UInt8 := [29, 4, 96, 46, 42, 29, 5, 96, 46, 182, 0, 168, 159, 1, 12, 3, 172, 43, 42, 29, 4, 96, 46, 42]
abbrev dktL_law_40 : List UInt8 := dkwL_law_40 ++ dktL_law_41
def dkwL_law_39 : List UInt8 := [182, 0, 164, 159, 1, 45, 3, 172, 43, 42, 29, 4, 96, 46, 42, 29, 5, 96, 46, 182, 0, 165, 44, 42]
abbrev dktL_law_39 : List UInt8 := dkwL_law_39 ++ dktL_law_40
def dkwL_law_38 : List UInt8 := [29, 4, 96, 46, 42, 29, 5, 96, 46, 182, 0, 161, 44, 42, 29, 4, 96, 46, 42, 29, 5, 96, 46]
abbrev dktL_law_38 : List UInt8 := dkwL_law_38 ++ dktL_law_39
def dkwL_law_37 : List UInt8 := [182, 0, 157, 44, 42, 29, 4, 96, 46, 42, 29, 5, 96, 46, 182, 0, 160, 159, 1, 78, 3, 172, 43, 42]
abbrev dktL_law_37 : List UInt8 := dkwL_law_37 ++ dktL_law_38
def dkwL_law_36 : List UInt8 := [4, 96, 46, 182, 0, 156, 159, 1, 111, 3, 172, 43, 42, 29, 4, 96, 46, 42, 29, 5, 96, 46]
abbrev dktL_law_36 : List UInt8 := dkwL_law_36 ++ dktL_law_37
def dkwL_law_35 : List UInt8 := [29, 6, 96, 46, 182, 0, 152, 159, 1, 134, 3, 172, 43, 42, 29, 4, 96, 46, 182, 0, 153, 44, 42, 29]
abbrev dktL_law_35 : List UInt8 := dkwL_law_35 ++ dktL_law_36
def dkwL_law_34 : List UInt8 := [29, 5, 96, 46, 42, 29, 6, 96, 46, 182, 0, 149, 44, 42, 29, 4, 96, 46, 42, 29, 5, 96, 46, 42]
abbrev dktL_law_34 : List UInt8 := dkwL_law_34 ++ dktL_law_35
def dkwL_law_33 : List UInt8 := [29, 4, 96, 46, 42, 29, 5, 96, 46, 182, 0, 148, 159, 1, 177, 3, 172, 43, 42, 29, 4, 96, 46, 42]
abbrev dktL_law_33 : List UInt8 := dkwL_law_33 ++ dktL_law_34
def dkwL_law_32 : List UInt8 := [182, 0, 144, 159, 1, 210, 3, 172, 43, 42, 29, 4, 96, 46, 42, 29, 5, 96, 46, 182, 0, 145, 44, 42]
abbrev dktL_law_32 : List UInt8 := dkwL_law_32 ++ dktL_law_33
def dkwL_law_31 : List UInt8 := [42, 29, 4, 96, 46, 42, 29, 5, 96, 46, 182, 0, 141, 44, 42, 29, 4, 96, 46, 42, 29, 5, 96, 46]
abbrev dktL_law_31 : List UInt8 := dkwL_law_31 ++ dktL_law_32
def dkwL_law_30 : List UInt8 := [46, 182, 0, 137, 44, 42, 29, 4, 96, 46, 42, 29, 5, 96, 46, 182, 0, 140, 159, 1, 243, 3, 172, 43]
abbrev dktL_law_30 : List UInt8 := dkwL_law_30 ++ dktL_law_31
def dkwL_law_29 : List UInt8 := [46, 42, 29, 5, 96, 46, 182, 0, 136, 159, 2, 20, 3, 172, 43, 42, 29, 4, 96, 46, 42, 29, 5, 96]
abbrev dktL_law_29 : List UInt8 := dkwL_law_29 ++ dktL_law_30
def dkwL_law_28 : List UInt8 := [159, 2, 53, 3, 172, 43, 42, 29, 4, 96, 46, 42, 29, 5, 96, 46, 182, 0, 133, 44, 42, 29, 4, 96]
abbrev dktL_law_28 : List UInt8 := dkwL_law_28 ++ dktL_law_29
def dkwL_law_27 : List UInt8 := [42, 29, 5, 96, 46, 182, 0, 129, 44, 42, 29, 4, 96, 46, 42, 29, 5, 96, 46, 182, 0, 132]
abbrev dktL_law_27 : List UInt8 := dkwL_law_27 ++ dktL_law_28
def dkwL_law_26 : List UInt8 := [46, 182, 0, 125, 44, 42, 29, 4, 96, 46, 182, 0, 128, 159, 2, 86, 3, 172, 43, 42, 29, 4, 96, 46]
abbrev dktL_law_26 : List UInt8 := dkwL_law_26 ++ dktL_law_27
def dkwL_law_25 : List UInt8 := [96, 46, 182, 0, 121, 44, 42, 29, 4, 96, 46, 182, 0, 124, 159, 2, 109, 3, 172, 43, 42, 29, 4, 96]
abbrev dktL_law_25 : List UInt8 := dkwL_law_25 ++ dktL_law_26
def dkwL_law_24 : List UInt8 := [4, 96, 46, 182, 0, 117, 44, 42, 29, 4, 96, 46, 182, 0, 120, 159, 2, 132, 3, 172, 43, 42, 29, 4]
abbrev dktL_law_24 : List UInt8 := dkwL_law_24 ++ dktL_law_25
def dkwL_law_23 : List UInt8 := [182, 0, 112, 159, 2, 168, 3, 172, 43, 182, 0, 113, 44, 182, 0, 116, 159, 2, 155, 3, 172, 43, 42, 29]
abbrev dktL_law_23 : List UInt8 := dkwL_law_23 ++ dktL_law_24
def dkwL_law_22 : List UInt8 := [159, 2, 194, 3, 172, 43, 182, 0, 105, 44, 182, 0, 108, 159, 2, 181, 3, 172, 43, 182, 0, 109, 44]
abbrev dktL_law_22 : List UInt8 := dkwL_law_22 ++ dktL_law_23
def dkwL_law_21 : List UInt8 := [44, 42, 29, 4, 96, 46, 182, 0, 100, 159, 2, 207, 3, 172, 43, 182, 0, 101, 44, 182, 0, 104]
abbrev dktL_law_21 : List UInt8 := dkwL_law_21 ++ dktL_law_22
def dkwL_law_20 : List UInt8 := [3, 172, 43, 182, 0, 93, 44, 182, 0, 96, 159, 2, 230, 3, 172, 43, 42, 29, 4, 96, 46, 182, 0, 97]
abbrev dktL_law_20 : List UInt8 := dkwL_law_20 ++ dktL_law_21
def dkwL_law_19 : List UInt8 := [43, 182, 0, 85, 44, 182, 0, 88, 159, 3, 0, 3, 172, 43, 182, 0, 89, 44, 182, 0, 92, 159, 2, 243]
abbrev dktL_law_19 : List UInt8 := dkwL_law_19 ++ dktL_law_20
def dkwL_law_18 : List UInt8 := [44, 42, 29, 4, 96, 46, 42, 29, 5, 96, 46, 42, 29, 6, 96, 46, 182, 0, 84, 159, 3, 13, 3, 172]
abbrev dktL_law_18 : List UInt8 := dkwL_law_18 ++ dktL_law_19
def dkwL_law_17 : List UInt8 := [159, 3, 56, 3, 172, 43, 42, 29, 4, 96, 46, 42, 29, 5, 96, 46, 42, 29, 6, 96, 46, 182, 0, 80]
abbrev dktL_law_17 : List UInt8 := dkwL_law_17 ++ dktL_law_18
def dkwL_law_16 : List UInt8 := [159, 3, 79, 3, 172, 43, 42, 29, 4, 96, 46, 182, 0, 76, 44, 42, 29, 4, 96, 46, 182, 0, 79]
abbrev dktL_law_16 : List UInt8 := dkwL_law_16 ++ dktL_law_17
def dkwL_law_15 : List UInt8 := [3, 172, 43, 182, 0, 68, 44, 182, 0, 71, 159, 3, 92, 3, 172, 43, 182, 0, 72, 44, 182, 0, 75]
abbrev dktL_law_15 : List UInt8 := dkwL_law_15 ++ dktL_law_16
def dkwL_law_14 : List UInt8 := [29, 5, 96, 46, 182, 0, 64, 44, 42, 29, 4, 96, 46, 42, 29, 5, 96, 46, 182, 0, 67, 159, 3, 105]
abbrev dktL_law_14 : List UInt8 := dkwL_law_14 ++ dktL_law_15
def dkwL_law_13 : List UInt8 := [182, 0, 60, 44, 42, 29, 4, 96, 46, 182, 0, 63, 159, 3, 138, 3, 172, 43, 42, 29, 4, 96, 46, 42]
abbrev dktL_law_13 : List UInt8 := dkwL_law_13 ++ dktL_law_14
def dkwL_law_12 : List UInt8 := [46, 182, 0, 56, 44, 42, 29, 4, 96, 46, 182, 0, 59, 159, 3, 161, 3, 172, 43, 42, 29, 4, 96, 46]
abbrev dktL_law_12 : List UInt8 := dkwL_law_12 ++ dktL_law_13
def dkwL_law_11 : List UInt8 := [96, 46, 182, 0, 52, 44, 42, 29, 4, 96, 46, 182, 0, 55, 159, 3, 184, 3, 172, 43, 42, 29, 4, 96]
abbrev dktL_law_11 : List UInt8 := dkwL_law_11 ++ dktL_law_12
def dkwL_law_10 : List UInt8 := [4, 96, 46, 182, 0, 48, 44, 42, 29, 4, 96, 46, 182, 0, 51, 159, 3, 207, 3, 172, 43, 42, 29, 4]
abbrev dktL_law_10 : List UInt8 := dkwL_law_10 ++ dktL_law_11
def dkwL_law_9 : List UInt8 := [182, 0, 43, 159, 3, 243, 3, 172, 43, 182, 0, 44, 44, 182, 0, 47, 159, 3, 230, 3, 172, 43, 42, 29]
abbrev dktL_law_9 : List UInt8 := dkwL_law_9 ++ dktL_law_10
def dkwL_law_8 : List UInt8 := [182, 0, 39, 159, 4, 10, 3, 172, 43, 42, 29, 4, 96, 46, 182, 0, 40, 44, 42, 29, 4, 96, 46]
abbrev dktL_law_8 : List UInt8 := dkwL_law_8 ++ dktL_law_9
def dkwL_law_7 : List UInt8 := [44, 182, 0, 35, 159, 4, 33, 3, 172, 43, 42, 29, 4, 96, 46, 182, 0, 36, 44, 42, 29, 4, 96, 46]
abbrev dktL_law_7 : List UInt8 := dkwL_law_7 ++ dktL_law_8
def dkwL_law_6 : List UInt8 := [4, 96, 46, 182, 0, 28, 44, 42, 29, 4, 96, 46, 182, 0, 31, 159, 4, 46, 3, 172, 43, 182, 0, 32]
abbrev dktL_law_6 : List UInt8 := dkwL_law_6 ++ dktL_law_7
def dkwL_law_5 : List UInt8 := [182, 0, 22, 159, 4, 82, 3, 172, 43, 182, 0, 23, 44, 182, 0, 27, 159, 4, 69, 3, 172, 43, 42, 29]
abbrev dktL_law_5 : List UInt8 := dkwL_law_5 ++ dktL_law_6
def dkwL_law_4 : List UInt8 := [46, 182, 0, 17, 159, 4, 105, 3, 172, 43, 42, 29, 4, 96, 46, 182, 0, 18, 44, 42, 29, 4, 96, 46]
abbrev dktL_law_4 : List UInt8 := dkwL_law_4 ++ dktL_law_5
def dkwL_law_3 : List UInt8 := [43, 42, 29, 4, 96, 46, 42, 29, 5, 96, 46, 182, 0, 13, 44, 42, 29, 4, 96, 46, 42, 29, 5, 96]
abbrev dktL_law_3 : List UInt8 := dkwL_law_3 ++ dktL_law_4
def dkwL_law_2 : List UInt8 := [170, 0, 0, 0, 0, 0, 5, 89, 0, 0, 0, 0, 0, 0, 0, 48, 0, 0, 0, 212, 0, 0, 0, 245, 0, 0, 1, 12, 0, 0, 1, 25, 0, 0, 1, 48, 0, 0, 1, 61, 0, 0, 1, 84, 0, 0, 1, 107, 0, 0, 1, 120, 0, 0, 1, 143, 0, 0, 1, 166, 0, 0, 1, 189, 0, 0, 1, 212, 0, 0, 1, 245, 0, 0, 2, 2, 0, 0, 2, 15, 0, 0, 2, 38, 0, 0, 2, 81, 0, 0, 2, 94, 0, 0, 2, 107, 0, 0, 2, 120, 0, 0, 2, 143, 0, 0, 2, 156, 0, 0, 2, 169, 0, 0, 2, 182, 0, 0, 2, 195, 0, 0, 2, 218, 0, 0, 2, 241, 0, 0, 3, 8, 0, 0, 3, 41, 0, 0, 3, 74, 0, 0, 3, 107, 0, 0, 3, 140, 0, 0, 3, 173, 0, 0, 3, 216, 0, 0, 3, 239, 0, 0, 4, 16, 0, 0, 4, 49, 0, 0, 4, 82, 0, 0, 4, 115, 0, 0, 4, 148, 0, 0, 4, 181, 0, 0, 4, 214, 0, 0, 5, 1, 0, 0, 5, 14, 0, 0, 5, 37, 0, 0, 5, 50, 0, 0, 5, 63, 0, 0, 5, 76]
abbrev dktL_law_2 : List UInt8 := dkwL_law_2 ++ dktL_law_3
def dkwL_law_1 : List UInt8 := [163, 5, 104, 42, 29, 46, 16, 63, 126]
abbrev dktL_law_1 : List UInt8 := dkwL_law_1 ++ dktL_law_2
def dkwL_law_0 : List UInt8 := [187, 0, 7, 89, 183, 0, 9, 76, 187, 0, 10, 89, 183, 0, 12, 77, 3, 62, 29, 42, 190, 7, 100]
abbrev dktL_law_0 : List UInt8 := dkwL_law_0 ++ dktL_law_1
theorem dksL_law_0 : cL_law.data.toList.drop 0 = dktL_law_0 := by decide +kernel
theorem dksL_law_1 : cL_law.data.toList.drop 23 = dktL_law_1 := dk_seg dksL_law_0 23 rfl rfl
theorem dksL_law_2 : cL_law.data.toList.drop 32 = dktL_law_2 := dk_seg dksL_law_1 9 rfl rfl
theorem dksL_law_3 : cL_law.data.toList.drop 244 = dktL_law_3 := dk_seg dksL_law_2 212 rfl rfl
theorem dksL_law_4 : cL_law.data.toList.drop 268 = dktL_law_4 := dk_seg dksL_law_3 24 rfl rfl
theorem dksL_law_5 : cL_law.data.toList.drop 292 = dktL_law_5 := dk_seg dksL_law_4 24 rfl rfl
theorem dksL_law_6 : cL_law.data.toList.drop 316 = dktL_law_6 := dk_seg dksL_law_5 24 rfl rfl
theorem dksL_law_7 : cL_law.data.toList.drop 340 = dktL_law_7 := dk_seg dksL_law_6 24 rfl rfl
theorem dksL_law_8 : cL_law.data.toList.drop 364 = dktL_law_8 := dk_seg dksL_law_7 24 rfl rfl
theorem dksL_law_9 : cL_law.data.toList.drop 387 = dktL_law_9 := dk_seg dksL_law_8 23 rfl rfl
theorem dksL_law_10 : cL_law.data.toList.drop 411 = dktL_law_10 := dk_seg dksL_law_9 24 rfl rfl
theorem dksL_law_11 : cL_law.data.toList.drop 435 = dktL_law_11 := dk_seg dksL_law_10 24 rfl rfl
theorem dksL_law_12 : cL_law.data.toList.drop 459 = dktL_law_12 := dk_seg dksL_law_11 24 rfl rfl
theorem dksL_law_13 : cL_law.data.toList.drop 483 = dktL_law_13 := dk_seg dksL_law_12 24 rfl rfl
theorem dksL_law_14 : cL_law.data.toList.drop 507 = dktL_law_14 := dk_seg dksL_law_13 24 rfl rfl
theorem dksL_law_15 : cL_law.data.toList.drop 531 = dktL_law_15 := dk_seg dksL_law_14 24 rfl rfl
theorem dksL_law_16 : cL_law.data.toList.drop 554 = dktL_law_16 := dk_seg dksL_law_15 23 rfl rfl
theorem dksL_law_17 : cL_law.data.toList.drop 577 = dktL_law_17 := dk_seg dksL_law_16 23 rfl rfl
theorem dksL_law_18 : cL_law.data.toList.drop 601 = dktL_law_18 := dk_seg dksL_law_17 24 rfl rfl
theorem dksL_law_19 : cL_law.data.toList.drop 625 = dktL_law_19 := dk_seg dksL_law_18 24 rfl rfl
theorem dksL_law_20 : cL_law.data.toList.drop 649 = dktL_law_20 := dk_seg dksL_law_19 24 rfl rfl
theorem dksL_law_21 : cL_law.data.toList.drop 673 = dktL_law_21 := dk_seg dksL_law_20 24 rfl rfl
theorem dksL_law_22 : cL_law.data.toList.drop 695 = dktL_law_22 := dk_seg dksL_law_21 22 rfl rfl
theorem dksL_law_23 : cL_law.data.toList.drop 718 = dktL_law_23 := dk_seg dksL_law_22 23 rfl rfl
theorem dksL_law_24 : cL_law.data.toList.drop 742 = dktL_law_24 := dk_seg dksL_law_23 24 rfl rfl
theorem dksL_law_25 : cL_law.data.toList.drop 766 = dktL_law_25 := dk_seg dksL_law_24 24 rfl rfl
theorem dksL_law_26 : cL_law.data.toList.drop 790 = dktL_law_26 := dk_seg dksL_law_25 24 rfl rfl
theorem dksL_law_27 : cL_law.data.toList.drop 814 = dktL_law_27 := dk_seg dksL_law_26 24 rfl rfl
theorem dksL_law_28 : cL_law.data.toList.drop 836 = dktL_law_28 := dk_seg dksL_law_27 22 rfl rfl
theorem dksL_law_29 : cL_law.data.toList.drop 860 = dktL_law_29 := dk_seg dksL_law_28 24 rfl rfl
theorem dksL_law_30 : cL_law.data.toList.drop 884 = dktL_law_30 := dk_seg dksL_law_29 24 rfl rfl
theorem dksL_law_31 : cL_law.data.toList.drop 908 = dktL_law_31 := dk_seg dksL_law_30 24 rfl rfl
theorem dksL_law_32 : cL_law.data.toList.drop 932 = dktL_law_32 := dk_seg dksL_law_31 24 rfl rfl
theorem dksL_law_33 : cL_law.data.toList.drop 956 = dktL_law_33 := dk_seg dksL_law_32 24 rfl rfl
theorem dksL_law_34 : cL_law.data.toList.drop 980 = dktL_law_34 := dk_seg dksL_law_33 24 rfl rfl
theorem dksL_law_35 : cL_law.data.toList.drop 1004 = dktL_law_35 := dk_seg dksL_law_34 24 rfl rfl
theorem dksL_law_36 : cL_law.data.toList.drop 1028 = dktL_law_36 := dk_seg dksL_law_35 24 rfl rfl
theorem dksL_law_37 : cL_law.data.toList.drop 1050 = dktL_law_37 := dk_seg dksL_law_36 22 rfl rfl
theorem dksL_law_38 : cL_law.data.toList.drop 1074 = dktL_law_38 := dk_seg dksL_law_37 24 rfl rfl
theorem dksL_law_39 : cL_law.data.toList.drop 1097 = dktL_law_39 := dk_seg dksL_law_38 23 rfl rfl
theorem dksL_law_40 : cL_law.data.toList.drop 1121 = dktL_law_40 := dk_seg dksL_law_39 24 rfl rfl
theorem dksL_law_41 : cL_law.data.toList.drop 1145 = dktL_law_41 := dk_seg dksL_law_40 24 rfl rfl
theorem dksL_law_42 : cL_law.data.toList.drop 1169 = dktL_law_42 := dk_seg dksL_law_41 24 rfl rfl
theorem dksL_law_43 : cL_law.data.toList.drop 1193 = dktL_law_43 := dk_seg dksL_law_42 24 rfl rfl
theorem dksL_law_44 : cL_law.data.toList.drop 1215 = dktL_law_44 := dk_seg dksL_law_43 22 rfl rfl
theorem dksL_law_45 : cL_law.data.toList.drop 1239 = dktL_law_45 := dk_seg dksL_law_44 24 rfl rfl
theorem dksL_law_46 : cL_law.data.toList.drop 1262 = dktL_law_46 := dk_seg dksL_law_45 23 rfl rfl
theorem dksL_law_47 : cL_law.data.toList.drop 1286 = dktL_law_47 := dk_seg dksL_law_46 24 rfl rfl
theorem dksL_law_48 : cL_law.data.toList.drop 1308 = dktL_law_48 := dk_seg dksL_law_47 22 rfl rfl
theorem dksL_law_49 : cL_law.data.toList.drop 1332 = dktL_law_49 := dk_seg dksL_law_48 24 rfl rfl
theorem dksL_law_50 : cL_law.data.toList.drop 1354 = dktL_law_50 := dk_seg dksL_law_49 22 rfl rfl
theorem dksL_law_51 : cL_law.data.toList.drop 1376 = dktL_law_51 := dk_seg dksL_law_50 22 rfl rfl
theorem dksL_law_52 : cL_law.data.toList.drop 1400 = dktL_law_52 := dk_seg dksL_law_51 24 rfl rfl
theorem dL_law_0 : decode cL_law 0 = .ok (.new 7, 3) := dk_187 0 7 (dk_at dksL_law_0 0 rfl rfl)
theorem dL_law_3 : decode cL_law 3 = .ok (.dup, 1) := dk_89 (dk_at dksL_law_0 3 rfl rfl)
theorem dL_law_4 : decode cL_law 4 = .ok (.invokespecial 9, 3) := dk_183 0 9 (dk_at dksL_law_0 4 rfl rfl)
theorem dL_law_7 : decode cL_law 7 = .ok (.astore_n 1, 1) := dk_76 (dk_at dksL_law_0 7 rfl rfl)
theorem dL_law_8 : decode cL_law 8 = .ok (.new 10, 3) := dk_187 0 10 (dk_at dksL_law_0 8 rfl rfl)
theorem dL_law_11 : decode cL_law 11 = .ok (.dup, 1) := dk_89 (dk_at dksL_law_0 11 rfl rfl)
theorem dL_law_12 : decode cL_law 12 = .ok (.invokespecial 12, 3) := dk_183 0 12 (dk_at dksL_law_0 12 rfl rfl)
theorem dL_law_15 : decode cL_law 15 = .ok (.astore_n 2, 1) := dk_77 (dk_at dksL_law_0 15 rfl rfl)
theorem dL_law_16 : decode cL_law 16 = .ok (.iconst 0, 1) := dk_3 (dk_at dksL_law_0 16 rfl rfl)
theorem dL_law_17 : decode cL_law 17 = .ok (.istore_n 3, 1) := dk_62 (dk_at dksL_law_0 17 rfl rfl)
theorem dL_law_18 : decode cL_law 18 = .ok (.iload_n 3, 1) := dk_29 (dk_at dksL_law_0 18 rfl rfl)
theorem dL_law_19 : decode cL_law 19 = .ok (.aload_n 0, 1) := dk_42 (dk_at dksL_law_0 19 rfl rfl)
theorem dL_law_20 : decode cL_law 20 = .ok (.arraylength, 1) := dk_190 (dk_at dksL_law_0 20 rfl rfl)
theorem dL_law_21 : decode cL_law 21 = .ok (.iconst 4, 1) := dk_7 (dk_at dksL_law_0 21 rfl rfl)
theorem dL_law_22 : decode cL_law 22 = .ok (.isub, 1) := dk_100 (dk_at dksL_law_0 22 rfl rfl)
theorem dL_law_23 : decode cL_law 23 = .ok (.if_icmp .gt 1384, 3) := dk_163 5 104 (dk_at dksL_law_1 0 rfl rfl)
theorem dL_law_26 : decode cL_law 26 = .ok (.aload_n 0, 1) := dk_42 (dk_at dksL_law_1 3 rfl rfl)
theorem dL_law_27 : decode cL_law 27 = .ok (.iload_n 3, 1) := dk_29 (dk_at dksL_law_1 4 rfl rfl)
theorem dL_law_28 : decode cL_law 28 = .ok (.iaload, 1) := dk_46 (dk_at dksL_law_1 5 rfl rfl)
theorem dL_law_29 : decode cL_law 29 = .ok (.bipush 63, 2) := dk_16 63 (dk_at dksL_law_1 6 rfl rfl)
theorem dL_law_31 : decode cL_law 31 = .ok (.iand, 1) := dk_126 (dk_at dksL_law_1 8 rfl rfl)
theorem dL_law_32 : decode cL_law 32 = .ok (.tableswitch 1369 0 48 #[212, 245, 268, 281, 304, 317, 340, 363, 376, 399, 422, 445, 468, 501, 514, 527, 550, 593, 606, 619, 632, 655, 668, 681, 694, 707, 730, 753, 776, 809, 842, 875, 908, 941, 984, 1007, 1040, 1073, 1106, 1139, 1172, 1205, 1238, 1281, 1294, 1317, 1330, 1343, 1356], 212) := by decide +kernel
theorem dL_law_244 : decode cL_law 244 = .ok (.aload_n 1, 1) := dk_43 (dk_at dksL_law_3 0 rfl rfl)
theorem dL_law_245 : decode cL_law 245 = .ok (.aload_n 0, 1) := dk_42 (dk_at dksL_law_3 1 rfl rfl)
theorem dL_law_246 : decode cL_law 246 = .ok (.iload_n 3, 1) := dk_29 (dk_at dksL_law_3 2 rfl rfl)
theorem dL_law_247 : decode cL_law 247 = .ok (.iconst 1, 1) := dk_4 (dk_at dksL_law_3 3 rfl rfl)
theorem dL_law_248 : decode cL_law 248 = .ok (.iadd, 1) := dk_96 (dk_at dksL_law_3 4 rfl rfl)
theorem dL_law_249 : decode cL_law 249 = .ok (.iaload, 1) := dk_46 (dk_at dksL_law_3 5 rfl rfl)
theorem dL_law_250 : decode cL_law 250 = .ok (.aload_n 0, 1) := dk_42 (dk_at dksL_law_3 6 rfl rfl)
theorem dL_law_251 : decode cL_law 251 = .ok (.iload_n 3, 1) := dk_29 (dk_at dksL_law_3 7 rfl rfl)
theorem dL_law_252 : decode cL_law 252 = .ok (.iconst 2, 1) := dk_5 (dk_at dksL_law_3 8 rfl rfl)
theorem dL_law_253 : decode cL_law 253 = .ok (.iadd, 1) := dk_96 (dk_at dksL_law_3 9 rfl rfl)
theorem dL_law_254 : decode cL_law 254 = .ok (.iaload, 1) := dk_46 (dk_at dksL_law_3 10 rfl rfl)
theorem dL_law_255 : decode cL_law 255 = .ok (.invokevirtual 13, 3) := dk_182 0 13 (dk_at dksL_law_3 11 rfl rfl)
theorem dL_law_258 : decode cL_law 258 = .ok (.aload_n 2, 1) := dk_44 (dk_at dksL_law_3 14 rfl rfl)
theorem dL_law_259 : decode cL_law 259 = .ok (.aload_n 0, 1) := dk_42 (dk_at dksL_law_3 15 rfl rfl)
theorem dL_law_260 : decode cL_law 260 = .ok (.iload_n 3, 1) := dk_29 (dk_at dksL_law_3 16 rfl rfl)
theorem dL_law_261 : decode cL_law 261 = .ok (.iconst 1, 1) := dk_4 (dk_at dksL_law_3 17 rfl rfl)
theorem dL_law_262 : decode cL_law 262 = .ok (.iadd, 1) := dk_96 (dk_at dksL_law_3 18 rfl rfl)
theorem dL_law_263 : decode cL_law 263 = .ok (.iaload, 1) := dk_46 (dk_at dksL_law_3 19 rfl rfl)
theorem dL_law_264 : decode cL_law 264 = .ok (.aload_n 0, 1) := dk_42 (dk_at dksL_law_3 20 rfl rfl)
theorem dL_law_265 : decode cL_law 265 = .ok (.iload_n 3, 1) := dk_29 (dk_at dksL_law_3 21 rfl rfl)
theorem dL_law_266 : decode cL_law 266 = .ok (.iconst 2, 1) := dk_5 (dk_at dksL_law_3 22 rfl rfl)
theorem dL_law_267 : decode cL_law 267 = .ok (.iadd, 1) := dk_96 (dk_at dksL_law_3 23 rfl rfl)
theorem dL_law_268 : decode cL_law 268 = .ok (.iaload, 1) := dk_46 (dk_at dksL_law_4 0 rfl rfl)
theorem dL_law_269 : decode cL_law 269 = .ok (.invokevirtual 17, 3) := dk_182 0 17 (dk_at dksL_law_4 1 rfl rfl)
theorem dL_law_272 : decode cL_law 272 = .ok (.if_icmp .eq 1129, 3) := dk_159 4 105 (dk_at dksL_law_4 4 rfl rfl)
theorem dL_law_275 : decode cL_law 275 = .ok (.iconst 0, 1) := dk_3 (dk_at dksL_law_4 7 rfl rfl)
theorem dL_law_276 : decode cL_law 276 = .ok (.ireturn, 1) := dk_172 (dk_at dksL_law_4 8 rfl rfl)
theorem dL_law_277 : decode cL_law 277 = .ok (.aload_n 1, 1) := dk_43 (dk_at dksL_law_4 9 rfl rfl)
theorem dL_law_278 : decode cL_law 278 = .ok (.aload_n 0, 1) := dk_42 (dk_at dksL_law_4 10 rfl rfl)
theorem dL_law_279 : decode cL_law 279 = .ok (.iload_n 3, 1) := dk_29 (dk_at dksL_law_4 11 rfl rfl)
theorem dL_law_280 : decode cL_law 280 = .ok (.iconst 1, 1) := dk_4 (dk_at dksL_law_4 12 rfl rfl)
theorem dL_law_281 : decode cL_law 281 = .ok (.iadd, 1) := dk_96 (dk_at dksL_law_4 13 rfl rfl)
theorem dL_law_282 : decode cL_law 282 = .ok (.iaload, 1) := dk_46 (dk_at dksL_law_4 14 rfl rfl)
theorem dL_law_283 : decode cL_law 283 = .ok (.invokevirtual 18, 3) := dk_182 0 18 (dk_at dksL_law_4 15 rfl rfl)
theorem dL_law_286 : decode cL_law 286 = .ok (.aload_n 2, 1) := dk_44 (dk_at dksL_law_4 18 rfl rfl)
theorem dL_law_287 : decode cL_law 287 = .ok (.aload_n 0, 1) := dk_42 (dk_at dksL_law_4 19 rfl rfl)
theorem dL_law_288 : decode cL_law 288 = .ok (.iload_n 3, 1) := dk_29 (dk_at dksL_law_4 20 rfl rfl)
theorem dL_law_289 : decode cL_law 289 = .ok (.iconst 1, 1) := dk_4 (dk_at dksL_law_4 21 rfl rfl)
theorem dL_law_290 : decode cL_law 290 = .ok (.iadd, 1) := dk_96 (dk_at dksL_law_4 22 rfl rfl)
theorem dL_law_291 : decode cL_law 291 = .ok (.iaload, 1) := dk_46 (dk_at dksL_law_4 23 rfl rfl)
theorem dL_law_292 : decode cL_law 292 = .ok (.invokevirtual 22, 3) := dk_182 0 22 (dk_at dksL_law_5 0 rfl rfl)
theorem dL_law_295 : decode cL_law 295 = .ok (.if_icmp .eq 1106, 3) := dk_159 4 82 (dk_at dksL_law_5 3 rfl rfl)
theorem dL_law_298 : decode cL_law 298 = .ok (.iconst 0, 1) := dk_3 (dk_at dksL_law_5 6 rfl rfl)
theorem dL_law_299 : decode cL_law 299 = .ok (.ireturn, 1) := dk_172 (dk_at dksL_law_5 7 rfl rfl)
theorem dL_law_300 : decode cL_law 300 = .ok (.aload_n 1, 1) := dk_43 (dk_at dksL_law_5 8 rfl rfl)
theorem dL_law_301 : decode cL_law 301 = .ok (.invokevirtual 23, 3) := dk_182 0 23 (dk_at dksL_law_5 9 rfl rfl)
theorem dL_law_304 : decode cL_law 304 = .ok (.aload_n 2, 1) := dk_44 (dk_at dksL_law_5 12 rfl rfl)
theorem dL_law_305 : decode cL_law 305 = .ok (.invokevirtual 27, 3) := dk_182 0 27 (dk_at dksL_law_5 13 rfl rfl)
theorem dL_law_308 : decode cL_law 308 = .ok (.if_icmp .eq 1093, 3) := dk_159 4 69 (dk_at dksL_law_5 16 rfl rfl)
theorem dL_law_311 : decode cL_law 311 = .ok (.iconst 0, 1) := dk_3 (dk_at dksL_law_5 19 rfl rfl)
theorem dL_law_312 : decode cL_law 312 = .ok (.ireturn, 1) := dk_172 (dk_at dksL_law_5 20 rfl rfl)
theorem dL_law_313 : decode cL_law 313 = .ok (.aload_n 1, 1) := dk_43 (dk_at dksL_law_5 21 rfl rfl)
theorem dL_law_314 : decode cL_law 314 = .ok (.aload_n 0, 1) := dk_42 (dk_at dksL_law_5 22 rfl rfl)
theorem dL_law_315 : decode cL_law 315 = .ok (.iload_n 3, 1) := dk_29 (dk_at dksL_law_5 23 rfl rfl)
theorem dL_law_316 : decode cL_law 316 = .ok (.iconst 1, 1) := dk_4 (dk_at dksL_law_6 0 rfl rfl)
theorem dL_law_317 : decode cL_law 317 = .ok (.iadd, 1) := dk_96 (dk_at dksL_law_6 1 rfl rfl)
theorem dL_law_318 : decode cL_law 318 = .ok (.iaload, 1) := dk_46 (dk_at dksL_law_6 2 rfl rfl)
theorem dL_law_319 : decode cL_law 319 = .ok (.invokevirtual 28, 3) := dk_182 0 28 (dk_at dksL_law_6 3 rfl rfl)
theorem dL_law_322 : decode cL_law 322 = .ok (.aload_n 2, 1) := dk_44 (dk_at dksL_law_6 6 rfl rfl)
theorem dL_law_323 : decode cL_law 323 = .ok (.aload_n 0, 1) := dk_42 (dk_at dksL_law_6 7 rfl rfl)
theorem dL_law_324 : decode cL_law 324 = .ok (.iload_n 3, 1) := dk_29 (dk_at dksL_law_6 8 rfl rfl)
theorem dL_law_325 : decode cL_law 325 = .ok (.iconst 1, 1) := dk_4 (dk_at dksL_law_6 9 rfl rfl)
theorem dL_law_326 : decode cL_law 326 = .ok (.iadd, 1) := dk_96 (dk_at dksL_law_6 10 rfl rfl)
theorem dL_law_327 : decode cL_law 327 = .ok (.iaload, 1) := dk_46 (dk_at dksL_law_6 11 rfl rfl)
theorem dL_law_328 : decode cL_law 328 = .ok (.invokevirtual 31, 3) := dk_182 0 31 (dk_at dksL_law_6 12 rfl rfl)
theorem dL_law_331 : decode cL_law 331 = .ok (.if_icmp .eq 1070, 3) := dk_159 4 46 (dk_at dksL_law_6 15 rfl rfl)
theorem dL_law_334 : decode cL_law 334 = .ok (.iconst 0, 1) := dk_3 (dk_at dksL_law_6 18 rfl rfl)
theorem dL_law_335 : decode cL_law 335 = .ok (.ireturn, 1) := dk_172 (dk_at dksL_law_6 19 rfl rfl)
theorem dL_law_336 : decode cL_law 336 = .ok (.aload_n 1, 1) := dk_43 (dk_at dksL_law_6 20 rfl rfl)
theorem dL_law_337 : decode cL_law 337 = .ok (.invokevirtual 32, 3) := dk_182 0 32 (dk_at dksL_law_6 21 rfl rfl)
theorem dL_law_340 : decode cL_law 340 = .ok (.aload_n 2, 1) := dk_44 (dk_at dksL_law_7 0 rfl rfl)
theorem dL_law_341 : decode cL_law 341 = .ok (.invokevirtual 35, 3) := dk_182 0 35 (dk_at dksL_law_7 1 rfl rfl)
theorem dL_law_344 : decode cL_law 344 = .ok (.if_icmp .eq 1057, 3) := dk_159 4 33 (dk_at dksL_law_7 4 rfl rfl)
theorem dL_law_347 : decode cL_law 347 = .ok (.iconst 0, 1) := dk_3 (dk_at dksL_law_7 7 rfl rfl)
theorem dL_law_348 : decode cL_law 348 = .ok (.ireturn, 1) := dk_172 (dk_at dksL_law_7 8 rfl rfl)
theorem dL_law_349 : decode cL_law 349 = .ok (.aload_n 1, 1) := dk_43 (dk_at dksL_law_7 9 rfl rfl)
theorem dL_law_350 : decode cL_law 350 = .ok (.aload_n 0, 1) := dk_42 (dk_at dksL_law_7 10 rfl rfl)
theorem dL_law_351 : decode cL_law 351 = .ok (.iload_n 3, 1) := dk_29 (dk_at dksL_law_7 11 rfl rfl)
theorem dL_law_352 : decode cL_law 352 = .ok (.iconst 1, 1) := dk_4 (dk_at dksL_law_7 12 rfl rfl)
theorem dL_law_353 : decode cL_law 353 = .ok (.iadd, 1) := dk_96 (dk_at dksL_law_7 13 rfl rfl)
theorem dL_law_354 : decode cL_law 354 = .ok (.iaload, 1) := dk_46 (dk_at dksL_law_7 14 rfl rfl)
theorem dL_law_355 : decode cL_law 355 = .ok (.invokevirtual 36, 3) := dk_182 0 36 (dk_at dksL_law_7 15 rfl rfl)
theorem dL_law_358 : decode cL_law 358 = .ok (.aload_n 2, 1) := dk_44 (dk_at dksL_law_7 18 rfl rfl)
theorem dL_law_359 : decode cL_law 359 = .ok (.aload_n 0, 1) := dk_42 (dk_at dksL_law_7 19 rfl rfl)
theorem dL_law_360 : decode cL_law 360 = .ok (.iload_n 3, 1) := dk_29 (dk_at dksL_law_7 20 rfl rfl)
theorem dL_law_361 : decode cL_law 361 = .ok (.iconst 1, 1) := dk_4 (dk_at dksL_law_7 21 rfl rfl)
theorem dL_law_362 : decode cL_law 362 = .ok (.iadd, 1) := dk_96 (dk_at dksL_law_7 22 rfl rfl)
theorem dL_law_363 : decode cL_law 363 = .ok (.iaload, 1) := dk_46 (dk_at dksL_law_7 23 rfl rfl)
theorem dL_law_364 : decode cL_law 364 = .ok (.invokevirtual 39, 3) := dk_182 0 39 (dk_at dksL_law_8 0 rfl rfl)
theorem dL_law_367 : decode cL_law 367 = .ok (.if_icmp .eq 1034, 3) := dk_159 4 10 (dk_at dksL_law_8 3 rfl rfl)
theorem dL_law_370 : decode cL_law 370 = .ok (.iconst 0, 1) := dk_3 (dk_at dksL_law_8 6 rfl rfl)
theorem dL_law_371 : decode cL_law 371 = .ok (.ireturn, 1) := dk_172 (dk_at dksL_law_8 7 rfl rfl)
theorem dL_law_372 : decode cL_law 372 = .ok (.aload_n 1, 1) := dk_43 (dk_at dksL_law_8 8 rfl rfl)
theorem dL_law_373 : decode cL_law 373 = .ok (.aload_n 0, 1) := dk_42 (dk_at dksL_law_8 9 rfl rfl)
theorem dL_law_374 : decode cL_law 374 = .ok (.iload_n 3, 1) := dk_29 (dk_at dksL_law_8 10 rfl rfl)
theorem dL_law_375 : decode cL_law 375 = .ok (.iconst 1, 1) := dk_4 (dk_at dksL_law_8 11 rfl rfl)
theorem dL_law_376 : decode cL_law 376 = .ok (.iadd, 1) := dk_96 (dk_at dksL_law_8 12 rfl rfl)
theorem dL_law_377 : decode cL_law 377 = .ok (.iaload, 1) := dk_46 (dk_at dksL_law_8 13 rfl rfl)
theorem dL_law_378 : decode cL_law 378 = .ok (.invokevirtual 40, 3) := dk_182 0 40 (dk_at dksL_law_8 14 rfl rfl)
theorem dL_law_381 : decode cL_law 381 = .ok (.aload_n 2, 1) := dk_44 (dk_at dksL_law_8 17 rfl rfl)
theorem dL_law_382 : decode cL_law 382 = .ok (.aload_n 0, 1) := dk_42 (dk_at dksL_law_8 18 rfl rfl)
theorem dL_law_383 : decode cL_law 383 = .ok (.iload_n 3, 1) := dk_29 (dk_at dksL_law_8 19 rfl rfl)
theorem dL_law_384 : decode cL_law 384 = .ok (.iconst 1, 1) := dk_4 (dk_at dksL_law_8 20 rfl rfl)
theorem dL_law_385 : decode cL_law 385 = .ok (.iadd, 1) := dk_96 (dk_at dksL_law_8 21 rfl rfl)
theorem dL_law_386 : decode cL_law 386 = .ok (.iaload, 1) := dk_46 (dk_at dksL_law_8 22 rfl rfl)
theorem dL_law_387 : decode cL_law 387 = .ok (.invokevirtual 43, 3) := dk_182 0 43 (dk_at dksL_law_9 0 rfl rfl)
theorem dL_law_390 : decode cL_law 390 = .ok (.if_icmp .eq 1011, 3) := dk_159 3 243 (dk_at dksL_law_9 3 rfl rfl)
theorem dL_law_393 : decode cL_law 393 = .ok (.iconst 0, 1) := dk_3 (dk_at dksL_law_9 6 rfl rfl)
theorem dL_law_394 : decode cL_law 394 = .ok (.ireturn, 1) := dk_172 (dk_at dksL_law_9 7 rfl rfl)
theorem dL_law_395 : decode cL_law 395 = .ok (.aload_n 1, 1) := dk_43 (dk_at dksL_law_9 8 rfl rfl)
theorem dL_law_396 : decode cL_law 396 = .ok (.invokevirtual 44, 3) := dk_182 0 44 (dk_at dksL_law_9 9 rfl rfl)
theorem dL_law_399 : decode cL_law 399 = .ok (.aload_n 2, 1) := dk_44 (dk_at dksL_law_9 12 rfl rfl)
theorem dL_law_400 : decode cL_law 400 = .ok (.invokevirtual 47, 3) := dk_182 0 47 (dk_at dksL_law_9 13 rfl rfl)
theorem dL_law_403 : decode cL_law 403 = .ok (.if_icmp .eq 998, 3) := dk_159 3 230 (dk_at dksL_law_9 16 rfl rfl)
theorem dL_law_406 : decode cL_law 406 = .ok (.iconst 0, 1) := dk_3 (dk_at dksL_law_9 19 rfl rfl)
theorem dL_law_407 : decode cL_law 407 = .ok (.ireturn, 1) := dk_172 (dk_at dksL_law_9 20 rfl rfl)
theorem dL_law_408 : decode cL_law 408 = .ok (.aload_n 1, 1) := dk_43 (dk_at dksL_law_9 21 rfl rfl)
theorem dL_law_409 : decode cL_law 409 = .ok (.aload_n 0, 1) := dk_42 (dk_at dksL_law_9 22 rfl rfl)
theorem dL_law_410 : decode cL_law 410 = .ok (.iload_n 3, 1) := dk_29 (dk_at dksL_law_9 23 rfl rfl)
theorem dL_law_411 : decode cL_law 411 = .ok (.iconst 1, 1) := dk_4 (dk_at dksL_law_10 0 rfl rfl)
theorem dL_law_412 : decode cL_law 412 = .ok (.iadd, 1) := dk_96 (dk_at dksL_law_10 1 rfl rfl)
theorem dL_law_413 : decode cL_law 413 = .ok (.iaload, 1) := dk_46 (dk_at dksL_law_10 2 rfl rfl)
theorem dL_law_414 : decode cL_law 414 = .ok (.invokevirtual 48, 3) := dk_182 0 48 (dk_at dksL_law_10 3 rfl rfl)
theorem dL_law_417 : decode cL_law 417 = .ok (.aload_n 2, 1) := dk_44 (dk_at dksL_law_10 6 rfl rfl)
theorem dL_law_418 : decode cL_law 418 = .ok (.aload_n 0, 1) := dk_42 (dk_at dksL_law_10 7 rfl rfl)
theorem dL_law_419 : decode cL_law 419 = .ok (.iload_n 3, 1) := dk_29 (dk_at dksL_law_10 8 rfl rfl)
theorem dL_law_420 : decode cL_law 420 = .ok (.iconst 1, 1) := dk_4 (dk_at dksL_law_10 9 rfl rfl)
theorem dL_law_421 : decode cL_law 421 = .ok (.iadd, 1) := dk_96 (dk_at dksL_law_10 10 rfl rfl)
theorem dL_law_422 : decode cL_law 422 = .ok (.iaload, 1) := dk_46 (dk_at dksL_law_10 11 rfl rfl)
theorem dL_law_423 : decode cL_law 423 = .ok (.invokevirtual 51, 3) := dk_182 0 51 (dk_at dksL_law_10 12 rfl rfl)
theorem dL_law_426 : decode cL_law 426 = .ok (.if_icmp .eq 975, 3) := dk_159 3 207 (dk_at dksL_law_10 15 rfl rfl)
theorem dL_law_429 : decode cL_law 429 = .ok (.iconst 0, 1) := dk_3 (dk_at dksL_law_10 18 rfl rfl)
theorem dL_law_430 : decode cL_law 430 = .ok (.ireturn, 1) := dk_172 (dk_at dksL_law_10 19 rfl rfl)
theorem dL_law_431 : decode cL_law 431 = .ok (.aload_n 1, 1) := dk_43 (dk_at dksL_law_10 20 rfl rfl)
theorem dL_law_432 : decode cL_law 432 = .ok (.aload_n 0, 1) := dk_42 (dk_at dksL_law_10 21 rfl rfl)
theorem dL_law_433 : decode cL_law 433 = .ok (.iload_n 3, 1) := dk_29 (dk_at dksL_law_10 22 rfl rfl)
theorem dL_law_434 : decode cL_law 434 = .ok (.iconst 1, 1) := dk_4 (dk_at dksL_law_10 23 rfl rfl)
theorem dL_law_435 : decode cL_law 435 = .ok (.iadd, 1) := dk_96 (dk_at dksL_law_11 0 rfl rfl)
theorem dL_law_436 : decode cL_law 436 = .ok (.iaload, 1) := dk_46 (dk_at dksL_law_11 1 rfl rfl)
theorem dL_law_437 : decode cL_law 437 = .ok (.invokevirtual 52, 3) := dk_182 0 52 (dk_at dksL_law_11 2 rfl rfl)
theorem dL_law_440 : decode cL_law 440 = .ok (.aload_n 2, 1) := dk_44 (dk_at dksL_law_11 5 rfl rfl)
theorem dL_law_441 : decode cL_law 441 = .ok (.aload_n 0, 1) := dk_42 (dk_at dksL_law_11 6 rfl rfl)
theorem dL_law_442 : decode cL_law 442 = .ok (.iload_n 3, 1) := dk_29 (dk_at dksL_law_11 7 rfl rfl)
theorem dL_law_443 : decode cL_law 443 = .ok (.iconst 1, 1) := dk_4 (dk_at dksL_law_11 8 rfl rfl)
theorem dL_law_444 : decode cL_law 444 = .ok (.iadd, 1) := dk_96 (dk_at dksL_law_11 9 rfl rfl)
theorem dL_law_445 : decode cL_law 445 = .ok (.iaload, 1) := dk_46 (dk_at dksL_law_11 10 rfl rfl)
theorem dL_law_446 : decode cL_law 446 = .ok (.invokevirtual 55, 3) := dk_182 0 55 (dk_at dksL_law_11 11 rfl rfl)
theorem dL_law_449 : decode cL_law 449 = .ok (.if_icmp .eq 952, 3) := dk_159 3 184 (dk_at dksL_law_11 14 rfl rfl)
theorem dL_law_452 : decode cL_law 452 = .ok (.iconst 0, 1) := dk_3 (dk_at dksL_law_11 17 rfl rfl)
theorem dL_law_453 : decode cL_law 453 = .ok (.ireturn, 1) := dk_172 (dk_at dksL_law_11 18 rfl rfl)
theorem dL_law_454 : decode cL_law 454 = .ok (.aload_n 1, 1) := dk_43 (dk_at dksL_law_11 19 rfl rfl)
theorem dL_law_455 : decode cL_law 455 = .ok (.aload_n 0, 1) := dk_42 (dk_at dksL_law_11 20 rfl rfl)
theorem dL_law_456 : decode cL_law 456 = .ok (.iload_n 3, 1) := dk_29 (dk_at dksL_law_11 21 rfl rfl)
theorem dL_law_457 : decode cL_law 457 = .ok (.iconst 1, 1) := dk_4 (dk_at dksL_law_11 22 rfl rfl)
theorem dL_law_458 : decode cL_law 458 = .ok (.iadd, 1) := dk_96 (dk_at dksL_law_11 23 rfl rfl)
theorem dL_law_459 : decode cL_law 459 = .ok (.iaload, 1) := dk_46 (dk_at dksL_law_12 0 rfl rfl)
theorem dL_law_460 : decode cL_law 460 = .ok (.invokevirtual 56, 3) := dk_182 0 56 (dk_at dksL_law_12 1 rfl rfl)
theorem dL_law_463 : decode cL_law 463 = .ok (.aload_n 2, 1) := dk_44 (dk_at dksL_law_12 4 rfl rfl)
theorem dL_law_464 : decode cL_law 464 = .ok (.aload_n 0, 1) := dk_42 (dk_at dksL_law_12 5 rfl rfl)
theorem dL_law_465 : decode cL_law 465 = .ok (.iload_n 3, 1) := dk_29 (dk_at dksL_law_12 6 rfl rfl)
theorem dL_law_466 : decode cL_law 466 = .ok (.iconst 1, 1) := dk_4 (dk_at dksL_law_12 7 rfl rfl)
theorem dL_law_467 : decode cL_law 467 = .ok (.iadd, 1) := dk_96 (dk_at dksL_law_12 8 rfl rfl)
theorem dL_law_468 : decode cL_law 468 = .ok (.iaload, 1) := dk_46 (dk_at dksL_law_12 9 rfl rfl)
theorem dL_law_469 : decode cL_law 469 = .ok (.invokevirtual 59, 3) := dk_182 0 59 (dk_at dksL_law_12 10 rfl rfl)
theorem dL_law_472 : decode cL_law 472 = .ok (.if_icmp .eq 929, 3) := dk_159 3 161 (dk_at dksL_law_12 13 rfl rfl)
theorem dL_law_475 : decode cL_law 475 = .ok (.iconst 0, 1) := dk_3 (dk_at dksL_law_12 16 rfl rfl)
theorem dL_law_476 : decode cL_law 476 = .ok (.ireturn, 1) := dk_172 (dk_at dksL_law_12 17 rfl rfl)
theorem dL_law_477 : decode cL_law 477 = .ok (.aload_n 1, 1) := dk_43 (dk_at dksL_law_12 18 rfl rfl)
theorem dL_law_478 : decode cL_law 478 = .ok (.aload_n 0, 1) := dk_42 (dk_at dksL_law_12 19 rfl rfl)
theorem dL_law_479 : decode cL_law 479 = .ok (.iload_n 3, 1) := dk_29 (dk_at dksL_law_12 20 rfl rfl)
theorem dL_law_480 : decode cL_law 480 = .ok (.iconst 1, 1) := dk_4 (dk_at dksL_law_12 21 rfl rfl)
theorem dL_law_481 : decode cL_law 481 = .ok (.iadd, 1) := dk_96 (dk_at dksL_law_12 22 rfl rfl)
theorem dL_law_482 : decode cL_law 482 = .ok (.iaload, 1) := dk_46 (dk_at dksL_law_12 23 rfl rfl)
theorem dL_law_483 : decode cL_law 483 = .ok (.invokevirtual 60, 3) := dk_182 0 60 (dk_at dksL_law_13 0 rfl rfl)
theorem dL_law_486 : decode cL_law 486 = .ok (.aload_n 2, 1) := dk_44 (dk_at dksL_law_13 3 rfl rfl)
theorem dL_law_487 : decode cL_law 487 = .ok (.aload_n 0, 1) := dk_42 (dk_at dksL_law_13 4 rfl rfl)
theorem dL_law_488 : decode cL_law 488 = .ok (.iload_n 3, 1) := dk_29 (dk_at dksL_law_13 5 rfl rfl)
theorem dL_law_489 : decode cL_law 489 = .ok (.iconst 1, 1) := dk_4 (dk_at dksL_law_13 6 rfl rfl)
theorem dL_law_490 : decode cL_law 490 = .ok (.iadd, 1) := dk_96 (dk_at dksL_law_13 7 rfl rfl)
theorem dL_law_491 : decode cL_law 491 = .ok (.iaload, 1) := dk_46 (dk_at dksL_law_13 8 rfl rfl)
theorem dL_law_492 : decode cL_law 492 = .ok (.invokevirtual 63, 3) := dk_182 0 63 (dk_at dksL_law_13 9 rfl rfl)
theorem dL_law_495 : decode cL_law 495 = .ok (.if_icmp .eq 906, 3) := dk_159 3 138 (dk_at dksL_law_13 12 rfl rfl)
theorem dL_law_498 : decode cL_law 498 = .ok (.iconst 0, 1) := dk_3 (dk_at dksL_law_13 15 rfl rfl)
theorem dL_law_499 : decode cL_law 499 = .ok (.ireturn, 1) := dk_172 (dk_at dksL_law_13 16 rfl rfl)
theorem dL_law_500 : decode cL_law 500 = .ok (.aload_n 1, 1) := dk_43 (dk_at dksL_law_13 17 rfl rfl)
theorem dL_law_501 : decode cL_law 501 = .ok (.aload_n 0, 1) := dk_42 (dk_at dksL_law_13 18 rfl rfl)
theorem dL_law_502 : decode cL_law 502 = .ok (.iload_n 3, 1) := dk_29 (dk_at dksL_law_13 19 rfl rfl)
theorem dL_law_503 : decode cL_law 503 = .ok (.iconst 1, 1) := dk_4 (dk_at dksL_law_13 20 rfl rfl)
theorem dL_law_504 : decode cL_law 504 = .ok (.iadd, 1) := dk_96 (dk_at dksL_law_13 21 rfl rfl)
theorem dL_law_505 : decode cL_law 505 = .ok (.iaload, 1) := dk_46 (dk_at dksL_law_13 22 rfl rfl)
theorem dL_law_506 : decode cL_law 506 = .ok (.aload_n 0, 1) := dk_42 (dk_at dksL_law_13 23 rfl rfl)
theorem dL_law_507 : decode cL_law 507 = .ok (.iload_n 3, 1) := dk_29 (dk_at dksL_law_14 0 rfl rfl)
theorem dL_law_508 : decode cL_law 508 = .ok (.iconst 2, 1) := dk_5 (dk_at dksL_law_14 1 rfl rfl)
theorem dL_law_509 : decode cL_law 509 = .ok (.iadd, 1) := dk_96 (dk_at dksL_law_14 2 rfl rfl)
theorem dL_law_510 : decode cL_law 510 = .ok (.iaload, 1) := dk_46 (dk_at dksL_law_14 3 rfl rfl)
theorem dL_law_511 : decode cL_law 511 = .ok (.invokevirtual 64, 3) := dk_182 0 64 (dk_at dksL_law_14 4 rfl rfl)
theorem dL_law_514 : decode cL_law 514 = .ok (.aload_n 2, 1) := dk_44 (dk_at dksL_law_14 7 rfl rfl)
theorem dL_law_515 : decode cL_law 515 = .ok (.aload_n 0, 1) := dk_42 (dk_at dksL_law_14 8 rfl rfl)
theorem dL_law_516 : decode cL_law 516 = .ok (.iload_n 3, 1) := dk_29 (dk_at dksL_law_14 9 rfl rfl)
theorem dL_law_517 : decode cL_law 517 = .ok (.iconst 1, 1) := dk_4 (dk_at dksL_law_14 10 rfl rfl)
theorem dL_law_518 : decode cL_law 518 = .ok (.iadd, 1) := dk_96 (dk_at dksL_law_14 11 rfl rfl)
theorem dL_law_519 : decode cL_law 519 = .ok (.iaload, 1) := dk_46 (dk_at dksL_law_14 12 rfl rfl)
theorem dL_law_520 : decode cL_law 520 = .ok (.aload_n 0, 1) := dk_42 (dk_at dksL_law_14 13 rfl rfl)
theorem dL_law_521 : decode cL_law 521 = .ok (.iload_n 3, 1) := dk_29 (dk_at dksL_law_14 14 rfl rfl)
theorem dL_law_522 : decode cL_law 522 = .ok (.iconst 2, 1) := dk_5 (dk_at dksL_law_14 15 rfl rfl)
theorem dL_law_523 : decode cL_law 523 = .ok (.iadd, 1) := dk_96 (dk_at dksL_law_14 16 rfl rfl)
theorem dL_law_524 : decode cL_law 524 = .ok (.iaload, 1) := dk_46 (dk_at dksL_law_14 17 rfl rfl)
theorem dL_law_525 : decode cL_law 525 = .ok (.invokevirtual 67, 3) := dk_182 0 67 (dk_at dksL_law_14 18 rfl rfl)
theorem dL_law_528 : decode cL_law 528 = .ok (.if_icmp .eq 873, 3) := dk_159 3 105 (dk_at dksL_law_14 21 rfl rfl)
theorem dL_law_531 : decode cL_law 531 = .ok (.iconst 0, 1) := dk_3 (dk_at dksL_law_15 0 rfl rfl)
theorem dL_law_532 : decode cL_law 532 = .ok (.ireturn, 1) := dk_172 (dk_at dksL_law_15 1 rfl rfl)
theorem dL_law_533 : decode cL_law 533 = .ok (.aload_n 1, 1) := dk_43 (dk_at dksL_law_15 2 rfl rfl)
theorem dL_law_534 : decode cL_law 534 = .ok (.invokevirtual 68, 3) := dk_182 0 68 (dk_at dksL_law_15 3 rfl rfl)
theorem dL_law_537 : decode cL_law 537 = .ok (.aload_n 2, 1) := dk_44 (dk_at dksL_law_15 6 rfl rfl)
theorem dL_law_538 : decode cL_law 538 = .ok (.invokevirtual 71, 3) := dk_182 0 71 (dk_at dksL_law_15 7 rfl rfl)
theorem dL_law_541 : decode cL_law 541 = .ok (.if_icmp .eq 860, 3) := dk_159 3 92 (dk_at dksL_law_15 10 rfl rfl)
theorem dL_law_544 : decode cL_law 544 = .ok (.iconst 0, 1) := dk_3 (dk_at dksL_law_15 13 rfl rfl)
theorem dL_law_545 : decode cL_law 545 = .ok (.ireturn, 1) := dk_172 (dk_at dksL_law_15 14 rfl rfl)
theorem dL_law_546 : decode cL_law 546 = .ok (.aload_n 1, 1) := dk_43 (dk_at dksL_law_15 15 rfl rfl)
theorem dL_law_547 : decode cL_law 547 = .ok (.invokevirtual 72, 3) := dk_182 0 72 (dk_at dksL_law_15 16 rfl rfl)
theorem dL_law_550 : decode cL_law 550 = .ok (.aload_n 2, 1) := dk_44 (dk_at dksL_law_15 19 rfl rfl)
theorem dL_law_551 : decode cL_law 551 = .ok (.invokevirtual 75, 3) := dk_182 0 75 (dk_at dksL_law_15 20 rfl rfl)
theorem dL_law_554 : decode cL_law 554 = .ok (.if_icmp .eq 847, 3) := dk_159 3 79 (dk_at dksL_law_16 0 rfl rfl)
theorem dL_law_557 : decode cL_law 557 = .ok (.iconst 0, 1) := dk_3 (dk_at dksL_law_16 3 rfl rfl)
theorem dL_law_558 : decode cL_law 558 = .ok (.ireturn, 1) := dk_172 (dk_at dksL_law_16 4 rfl rfl)
theorem dL_law_559 : decode cL_law 559 = .ok (.aload_n 1, 1) := dk_43 (dk_at dksL_law_16 5 rfl rfl)
theorem dL_law_560 : decode cL_law 560 = .ok (.aload_n 0, 1) := dk_42 (dk_at dksL_law_16 6 rfl rfl)
theorem dL_law_561 : decode cL_law 561 = .ok (.iload_n 3, 1) := dk_29 (dk_at dksL_law_16 7 rfl rfl)
theorem dL_law_562 : decode cL_law 562 = .ok (.iconst 1, 1) := dk_4 (dk_at dksL_law_16 8 rfl rfl)
theorem dL_law_563 : decode cL_law 563 = .ok (.iadd, 1) := dk_96 (dk_at dksL_law_16 9 rfl rfl)
theorem dL_law_564 : decode cL_law 564 = .ok (.iaload, 1) := dk_46 (dk_at dksL_law_16 10 rfl rfl)
theorem dL_law_565 : decode cL_law 565 = .ok (.invokevirtual 76, 3) := dk_182 0 76 (dk_at dksL_law_16 11 rfl rfl)
theorem dL_law_568 : decode cL_law 568 = .ok (.aload_n 2, 1) := dk_44 (dk_at dksL_law_16 14 rfl rfl)
theorem dL_law_569 : decode cL_law 569 = .ok (.aload_n 0, 1) := dk_42 (dk_at dksL_law_16 15 rfl rfl)
theorem dL_law_570 : decode cL_law 570 = .ok (.iload_n 3, 1) := dk_29 (dk_at dksL_law_16 16 rfl rfl)
theorem dL_law_571 : decode cL_law 571 = .ok (.iconst 1, 1) := dk_4 (dk_at dksL_law_16 17 rfl rfl)
theorem dL_law_572 : decode cL_law 572 = .ok (.iadd, 1) := dk_96 (dk_at dksL_law_16 18 rfl rfl)
theorem dL_law_573 : decode cL_law 573 = .ok (.iaload, 1) := dk_46 (dk_at dksL_law_16 19 rfl rfl)
theorem dL_law_574 : decode cL_law 574 = .ok (.invokevirtual 79, 3) := dk_182 0 79 (dk_at dksL_law_16 20 rfl rfl)
theorem dL_law_577 : decode cL_law 577 = .ok (.if_icmp .eq 824, 3) := dk_159 3 56 (dk_at dksL_law_17 0 rfl rfl)
theorem dL_law_580 : decode cL_law 580 = .ok (.iconst 0, 1) := dk_3 (dk_at dksL_law_17 3 rfl rfl)
theorem dL_law_581 : decode cL_law 581 = .ok (.ireturn, 1) := dk_172 (dk_at dksL_law_17 4 rfl rfl)
theorem dL_law_582 : decode cL_law 582 = .ok (.aload_n 1, 1) := dk_43 (dk_at dksL_law_17 5 rfl rfl)
theorem dL_law_583 : decode cL_law 583 = .ok (.aload_n 0, 1) := dk_42 (dk_at dksL_law_17 6 rfl rfl)
theorem dL_law_584 : decode cL_law 584 = .ok (.iload_n 3, 1) := dk_29 (dk_at dksL_law_17 7 rfl rfl)
theorem dL_law_585 : decode cL_law 585 = .ok (.iconst 1, 1) := dk_4 (dk_at dksL_law_17 8 rfl rfl)
theorem dL_law_586 : decode cL_law 586 = .ok (.iadd, 1) := dk_96 (dk_at dksL_law_17 9 rfl rfl)
theorem dL_law_587 : decode cL_law 587 = .ok (.iaload, 1) := dk_46 (dk_at dksL_law_17 10 rfl rfl)
theorem dL_law_588 : decode cL_law 588 = .ok (.aload_n 0, 1) := dk_42 (dk_at dksL_law_17 11 rfl rfl)
theorem dL_law_589 : decode cL_law 589 = .ok (.iload_n 3, 1) := dk_29 (dk_at dksL_law_17 12 rfl rfl)
theorem dL_law_590 : decode cL_law 590 = .ok (.iconst 2, 1) := dk_5 (dk_at dksL_law_17 13 rfl rfl)
theorem dL_law_591 : decode cL_law 591 = .ok (.iadd, 1) := dk_96 (dk_at dksL_law_17 14 rfl rfl)
theorem dL_law_592 : decode cL_law 592 = .ok (.iaload, 1) := dk_46 (dk_at dksL_law_17 15 rfl rfl)
theorem dL_law_593 : decode cL_law 593 = .ok (.aload_n 0, 1) := dk_42 (dk_at dksL_law_17 16 rfl rfl)
theorem dL_law_594 : decode cL_law 594 = .ok (.iload_n 3, 1) := dk_29 (dk_at dksL_law_17 17 rfl rfl)
theorem dL_law_595 : decode cL_law 595 = .ok (.iconst 3, 1) := dk_6 (dk_at dksL_law_17 18 rfl rfl)
theorem dL_law_596 : decode cL_law 596 = .ok (.iadd, 1) := dk_96 (dk_at dksL_law_17 19 rfl rfl)
theorem dL_law_597 : decode cL_law 597 = .ok (.iaload, 1) := dk_46 (dk_at dksL_law_17 20 rfl rfl)
theorem dL_law_598 : decode cL_law 598 = .ok (.invokevirtual 80, 3) := dk_182 0 80 (dk_at dksL_law_17 21 rfl rfl)
theorem dL_law_601 : decode cL_law 601 = .ok (.aload_n 2, 1) := dk_44 (dk_at dksL_law_18 0 rfl rfl)
theorem dL_law_602 : decode cL_law 602 = .ok (.aload_n 0, 1) := dk_42 (dk_at dksL_law_18 1 rfl rfl)
theorem dL_law_603 : decode cL_law 603 = .ok (.iload_n 3, 1) := dk_29 (dk_at dksL_law_18 2 rfl rfl)
theorem dL_law_604 : decode cL_law 604 = .ok (.iconst 1, 1) := dk_4 (dk_at dksL_law_18 3 rfl rfl)
theorem dL_law_605 : decode cL_law 605 = .ok (.iadd, 1) := dk_96 (dk_at dksL_law_18 4 rfl rfl)
theorem dL_law_606 : decode cL_law 606 = .ok (.iaload, 1) := dk_46 (dk_at dksL_law_18 5 rfl rfl)
theorem dL_law_607 : decode cL_law 607 = .ok (.aload_n 0, 1) := dk_42 (dk_at dksL_law_18 6 rfl rfl)
theorem dL_law_608 : decode cL_law 608 = .ok (.iload_n 3, 1) := dk_29 (dk_at dksL_law_18 7 rfl rfl)
theorem dL_law_609 : decode cL_law 609 = .ok (.iconst 2, 1) := dk_5 (dk_at dksL_law_18 8 rfl rfl)
theorem dL_law_610 : decode cL_law 610 = .ok (.iadd, 1) := dk_96 (dk_at dksL_law_18 9 rfl rfl)
theorem dL_law_611 : decode cL_law 611 = .ok (.iaload, 1) := dk_46 (dk_at dksL_law_18 10 rfl rfl)
theorem dL_law_612 : decode cL_law 612 = .ok (.aload_n 0, 1) := dk_42 (dk_at dksL_law_18 11 rfl rfl)
theorem dL_law_613 : decode cL_law 613 = .ok (.iload_n 3, 1) := dk_29 (dk_at dksL_law_18 12 rfl rfl)
theorem dL_law_614 : decode cL_law 614 = .ok (.iconst 3, 1) := dk_6 (dk_at dksL_law_18 13 rfl rfl)
theorem dL_law_615 : decode cL_law 615 = .ok (.iadd, 1) := dk_96 (dk_at dksL_law_18 14 rfl rfl)
theorem dL_law_616 : decode cL_law 616 = .ok (.iaload, 1) := dk_46 (dk_at dksL_law_18 15 rfl rfl)
theorem dL_law_617 : decode cL_law 617 = .ok (.invokevirtual 84, 3) := dk_182 0 84 (dk_at dksL_law_18 16 rfl rfl)
theorem dL_law_620 : decode cL_law 620 = .ok (.if_icmp .eq 781, 3) := dk_159 3 13 (dk_at dksL_law_18 19 rfl rfl)
theorem dL_law_623 : decode cL_law 623 = .ok (.iconst 0, 1) := dk_3 (dk_at dksL_law_18 22 rfl rfl)
theorem dL_law_624 : decode cL_law 624 = .ok (.ireturn, 1) := dk_172 (dk_at dksL_law_18 23 rfl rfl)
theorem dL_law_625 : decode cL_law 625 = .ok (.aload_n 1, 1) := dk_43 (dk_at dksL_law_19 0 rfl rfl)
theorem dL_law_626 : decode cL_law 626 = .ok (.invokevirtual 85, 3) := dk_182 0 85 (dk_at dksL_law_19 1 rfl rfl)
theorem dL_law_629 : decode cL_law 629 = .ok (.aload_n 2, 1) := dk_44 (dk_at dksL_law_19 4 rfl rfl)
theorem dL_law_630 : decode cL_law 630 = .ok (.invokevirtual 88, 3) := dk_182 0 88 (dk_at dksL_law_19 5 rfl rfl)
theorem dL_law_633 : decode cL_law 633 = .ok (.if_icmp .eq 768, 3) := dk_159 3 0 (dk_at dksL_law_19 8 rfl rfl)
theorem dL_law_636 : decode cL_law 636 = .ok (.iconst 0, 1) := dk_3 (dk_at dksL_law_19 11 rfl rfl)
theorem dL_law_637 : decode cL_law 637 = .ok (.ireturn, 1) := dk_172 (dk_at dksL_law_19 12 rfl rfl)
theorem dL_law_638 : decode cL_law 638 = .ok (.aload_n 1, 1) := dk_43 (dk_at dksL_law_19 13 rfl rfl)
theorem dL_law_639 : decode cL_law 639 = .ok (.invokevirtual 89, 3) := dk_182 0 89 (dk_at dksL_law_19 14 rfl rfl)
theorem dL_law_642 : decode cL_law 642 = .ok (.aload_n 2, 1) := dk_44 (dk_at dksL_law_19 17 rfl rfl)
theorem dL_law_643 : decode cL_law 643 = .ok (.invokevirtual 92, 3) := dk_182 0 92 (dk_at dksL_law_19 18 rfl rfl)
theorem dL_law_646 : decode cL_law 646 = .ok (.if_icmp .eq 755, 3) := dk_159 2 243 (dk_at dksL_law_19 21 rfl rfl)
theorem dL_law_649 : decode cL_law 649 = .ok (.iconst 0, 1) := dk_3 (dk_at dksL_law_20 0 rfl rfl)
theorem dL_law_650 : decode cL_law 650 = .ok (.ireturn, 1) := dk_172 (dk_at dksL_law_20 1 rfl rfl)
theorem dL_law_651 : decode cL_law 651 = .ok (.aload_n 1, 1) := dk_43 (dk_at dksL_law_20 2 rfl rfl)
theorem dL_law_652 : decode cL_law 652 = .ok (.invokevirtual 93, 3) := dk_182 0 93 (dk_at dksL_law_20 3 rfl rfl)
theorem dL_law_655 : decode cL_law 655 = .ok (.aload_n 2, 1) := dk_44 (dk_at dksL_law_20 6 rfl rfl)
theorem dL_law_656 : decode cL_law 656 = .ok (.invokevirtual 96, 3) := dk_182 0 96 (dk_at dksL_law_20 7 rfl rfl)
theorem dL_law_659 : decode cL_law 659 = .ok (.if_icmp .eq 742, 3) := dk_159 2 230 (dk_at dksL_law_20 10 rfl rfl)
theorem dL_law_662 : decode cL_law 662 = .ok (.iconst 0, 1) := dk_3 (dk_at dksL_law_20 13 rfl rfl)
theorem dL_law_663 : decode cL_law 663 = .ok (.ireturn, 1) := dk_172 (dk_at dksL_law_20 14 rfl rfl)
theorem dL_law_664 : decode cL_law 664 = .ok (.aload_n 1, 1) := dk_43 (dk_at dksL_law_20 15 rfl rfl)
theorem dL_law_665 : decode cL_law 665 = .ok (.aload_n 0, 1) := dk_42 (dk_at dksL_law_20 16 rfl rfl)
theorem dL_law_666 : decode cL_law 666 = .ok (.iload_n 3, 1) := dk_29 (dk_at dksL_law_20 17 rfl rfl)
theorem dL_law_667 : decode cL_law 667 = .ok (.iconst 1, 1) := dk_4 (dk_at dksL_law_20 18 rfl rfl)
theorem dL_law_668 : decode cL_law 668 = .ok (.iadd, 1) := dk_96 (dk_at dksL_law_20 19 rfl rfl)
theorem dL_law_669 : decode cL_law 669 = .ok (.iaload, 1) := dk_46 (dk_at dksL_law_20 20 rfl rfl)
theorem dL_law_670 : decode cL_law 670 = .ok (.invokevirtual 97, 3) := dk_182 0 97 (dk_at dksL_law_20 21 rfl rfl)
theorem dL_law_673 : decode cL_law 673 = .ok (.aload_n 2, 1) := dk_44 (dk_at dksL_law_21 0 rfl rfl)
theorem dL_law_674 : decode cL_law 674 = .ok (.aload_n 0, 1) := dk_42 (dk_at dksL_law_21 1 rfl rfl)
theorem dL_law_675 : decode cL_law 675 = .ok (.iload_n 3, 1) := dk_29 (dk_at dksL_law_21 2 rfl rfl)
theorem dL_law_676 : decode cL_law 676 = .ok (.iconst 1, 1) := dk_4 (dk_at dksL_law_21 3 rfl rfl)
theorem dL_law_677 : decode cL_law 677 = .ok (.iadd, 1) := dk_96 (dk_at dksL_law_21 4 rfl rfl)
theorem dL_law_678 : decode cL_law 678 = .ok (.iaload, 1) := dk_46 (dk_at dksL_law_21 5 rfl rfl)
theorem dL_law_679 : decode cL_law 679 = .ok (.invokevirtual 100, 3) := dk_182 0 100 (dk_at dksL_law_21 6 rfl rfl)
theorem dL_law_682 : decode cL_law 682 = .ok (.if_icmp .eq 719, 3) := dk_159 2 207 (dk_at dksL_law_21 9 rfl rfl)
theorem dL_law_685 : decode cL_law 685 = .ok (.iconst 0, 1) := dk_3 (dk_at dksL_law_21 12 rfl rfl)
theorem dL_law_686 : decode cL_law 686 = .ok (.ireturn, 1) := dk_172 (dk_at dksL_law_21 13 rfl rfl)
theorem dL_law_687 : decode cL_law 687 = .ok (.aload_n 1, 1) := dk_43 (dk_at dksL_law_21 14 rfl rfl)
theorem dL_law_688 : decode cL_law 688 = .ok (.invokevirtual 101, 3) := dk_182 0 101 (dk_at dksL_law_21 15 rfl rfl)
theorem dL_law_691 : decode cL_law 691 = .ok (.aload_n 2, 1) := dk_44 (dk_at dksL_law_21 18 rfl rfl)
theorem dL_law_692 : decode cL_law 692 = .ok (.invokevirtual 104, 3) := dk_182 0 104 (dk_at dksL_law_21 19 rfl rfl)
theorem dL_law_695 : decode cL_law 695 = .ok (.if_icmp .eq 706, 3) := dk_159 2 194 (dk_at dksL_law_22 0 rfl rfl)
theorem dL_law_698 : decode cL_law 698 = .ok (.iconst 0, 1) := dk_3 (dk_at dksL_law_22 3 rfl rfl)
theorem dL_law_699 : decode cL_law 699 = .ok (.ireturn, 1) := dk_172 (dk_at dksL_law_22 4 rfl rfl)
theorem dL_law_700 : decode cL_law 700 = .ok (.aload_n 1, 1) := dk_43 (dk_at dksL_law_22 5 rfl rfl)
theorem dL_law_701 : decode cL_law 701 = .ok (.invokevirtual 105, 3) := dk_182 0 105 (dk_at dksL_law_22 6 rfl rfl)
theorem dL_law_704 : decode cL_law 704 = .ok (.aload_n 2, 1) := dk_44 (dk_at dksL_law_22 9 rfl rfl)
theorem dL_law_705 : decode cL_law 705 = .ok (.invokevirtual 108, 3) := dk_182 0 108 (dk_at dksL_law_22 10 rfl rfl)
theorem dL_law_708 : decode cL_law 708 = .ok (.if_icmp .eq 693, 3) := dk_159 2 181 (dk_at dksL_law_22 13 rfl rfl)
theorem dL_law_711 : decode cL_law 711 = .ok (.iconst 0, 1) := dk_3 (dk_at dksL_law_22 16 rfl rfl)
theorem dL_law_712 : decode cL_law 712 = .ok (.ireturn, 1) := dk_172 (dk_at dksL_law_22 17 rfl rfl)
theorem dL_law_713 : decode cL_law 713 = .ok (.aload_n 1, 1) := dk_43 (dk_at dksL_law_22 18 rfl rfl)
theorem dL_law_714 : decode cL_law 714 = .ok (.invokevirtual 109, 3) := dk_182 0 109 (dk_at dksL_law_22 19 rfl rfl)
theorem dL_law_717 : decode cL_law 717 = .ok (.aload_n 2, 1) := dk_44 (dk_at dksL_law_22 22 rfl rfl)
theorem dL_law_718 : decode cL_law 718 = .ok (.invokevirtual 112, 3) := dk_182 0 112 (dk_at dksL_law_23 0 rfl rfl)
theorem dL_law_721 : decode cL_law 721 = .ok (.if_icmp .eq 680, 3) := dk_159 2 168 (dk_at dksL_law_23 3 rfl rfl)
theorem dL_law_724 : decode cL_law 724 = .ok (.iconst 0, 1) := dk_3 (dk_at dksL_law_23 6 rfl rfl)
theorem dL_law_725 : decode cL_law 725 = .ok (.ireturn, 1) := dk_172 (dk_at dksL_law_23 7 rfl rfl)
theorem dL_law_726 : decode cL_law 726 = .ok (.aload_n 1, 1) := dk_43 (dk_at dksL_law_23 8 rfl rfl)
theorem dL_law_727 : decode cL_law 727 = .ok (.invokevirtual 113, 3) := dk_182 0 113 (dk_at dksL_law_23 9 rfl rfl)
theorem dL_law_730 : decode cL_law 730 = .ok (.aload_n 2, 1) := dk_44 (dk_at dksL_law_23 12 rfl rfl)
theorem dL_law_731 : decode cL_law 731 = .ok (.invokevirtual 116, 3) := dk_182 0 116 (dk_at dksL_law_23 13 rfl rfl)
theorem dL_law_734 : decode cL_law 734 = .ok (.if_icmp .eq 667, 3) := dk_159 2 155 (dk_at dksL_law_23 16 rfl rfl)
theorem dL_law_737 : decode cL_law 737 = .ok (.iconst 0, 1) := dk_3 (dk_at dksL_law_23 19 rfl rfl)
theorem dL_law_738 : decode cL_law 738 = .ok (.ireturn, 1) := dk_172 (dk_at dksL_law_23 20 rfl rfl)
theorem dL_law_739 : decode cL_law 739 = .ok (.aload_n 1, 1) := dk_43 (dk_at dksL_law_23 21 rfl rfl)
theorem dL_law_740 : decode cL_law 740 = .ok (.aload_n 0, 1) := dk_42 (dk_at dksL_law_23 22 rfl rfl)
theorem dL_law_741 : decode cL_law 741 = .ok (.iload_n 3, 1) := dk_29 (dk_at dksL_law_23 23 rfl rfl)
theorem dL_law_742 : decode cL_law 742 = .ok (.iconst 1, 1) := dk_4 (dk_at dksL_law_24 0 rfl rfl)
theorem dL_law_743 : decode cL_law 743 = .ok (.iadd, 1) := dk_96 (dk_at dksL_law_24 1 rfl rfl)
theorem dL_law_744 : decode cL_law 744 = .ok (.iaload, 1) := dk_46 (dk_at dksL_law_24 2 rfl rfl)
theorem dL_law_745 : decode cL_law 745 = .ok (.invokevirtual 117, 3) := dk_182 0 117 (dk_at dksL_law_24 3 rfl rfl)
theorem dL_law_748 : decode cL_law 748 = .ok (.aload_n 2, 1) := dk_44 (dk_at dksL_law_24 6 rfl rfl)
theorem dL_law_749 : decode cL_law 749 = .ok (.aload_n 0, 1) := dk_42 (dk_at dksL_law_24 7 rfl rfl)
theorem dL_law_750 : decode cL_law 750 = .ok (.iload_n 3, 1) := dk_29 (dk_at dksL_law_24 8 rfl rfl)
theorem dL_law_751 : decode cL_law 751 = .ok (.iconst 1, 1) := dk_4 (dk_at dksL_law_24 9 rfl rfl)
theorem dL_law_752 : decode cL_law 752 = .ok (.iadd, 1) := dk_96 (dk_at dksL_law_24 10 rfl rfl)
theorem dL_law_753 : decode cL_law 753 = .ok (.iaload, 1) := dk_46 (dk_at dksL_law_24 11 rfl rfl)
theorem dL_law_754 : decode cL_law 754 = .ok (.invokevirtual 120, 3) := dk_182 0 120 (dk_at dksL_law_24 12 rfl rfl)
theorem dL_law_757 : decode cL_law 757 = .ok (.if_icmp .eq 644, 3) := dk_159 2 132 (dk_at dksL_law_24 15 rfl rfl)
theorem dL_law_760 : decode cL_law 760 = .ok (.iconst 0, 1) := dk_3 (dk_at dksL_law_24 18 rfl rfl)
theorem dL_law_761 : decode cL_law 761 = .ok (.ireturn, 1) := dk_172 (dk_at dksL_law_24 19 rfl rfl)
theorem dL_law_762 : decode cL_law 762 = .ok (.aload_n 1, 1) := dk_43 (dk_at dksL_law_24 20 rfl rfl)
theorem dL_law_763 : decode cL_law 763 = .ok (.aload_n 0, 1) := dk_42 (dk_at dksL_law_24 21 rfl rfl)
theorem dL_law_764 : decode cL_law 764 = .ok (.iload_n 3, 1) := dk_29 (dk_at dksL_law_24 22 rfl rfl)
theorem dL_law_765 : decode cL_law 765 = .ok (.iconst 1, 1) := dk_4 (dk_at dksL_law_24 23 rfl rfl)
theorem dL_law_766 : decode cL_law 766 = .ok (.iadd, 1) := dk_96 (dk_at dksL_law_25 0 rfl rfl)
theorem dL_law_767 : decode cL_law 767 = .ok (.iaload, 1) := dk_46 (dk_at dksL_law_25 1 rfl rfl)
theorem dL_law_768 : decode cL_law 768 = .ok (.invokevirtual 121, 3) := dk_182 0 121 (dk_at dksL_law_25 2 rfl rfl)
theorem dL_law_771 : decode cL_law 771 = .ok (.aload_n 2, 1) := dk_44 (dk_at dksL_law_25 5 rfl rfl)
theorem dL_law_772 : decode cL_law 772 = .ok (.aload_n 0, 1) := dk_42 (dk_at dksL_law_25 6 rfl rfl)
theorem dL_law_773 : decode cL_law 773 = .ok (.iload_n 3, 1) := dk_29 (dk_at dksL_law_25 7 rfl rfl)
theorem dL_law_774 : decode cL_law 774 = .ok (.iconst 1, 1) := dk_4 (dk_at dksL_law_25 8 rfl rfl)
theorem dL_law_775 : decode cL_law 775 = .ok (.iadd, 1) := dk_96 (dk_at dksL_law_25 9 rfl rfl)
theorem dL_law_776 : decode cL_law 776 = .ok (.iaload, 1) := dk_46 (dk_at dksL_law_25 10 rfl rfl)
theorem dL_law_777 : decode cL_law 777 = .ok (.invokevirtual 124, 3) := dk_182 0 124 (dk_at dksL_law_25 11 rfl rfl)
theorem dL_law_780 : decode cL_law 780 = .ok (.if_icmp .eq 621, 3) := dk_159 2 109 (dk_at dksL_law_25 14 rfl rfl)
theorem dL_law_783 : decode cL_law 783 = .ok (.iconst 0, 1) := dk_3 (dk_at dksL_law_25 17 rfl rfl)
theorem dL_law_784 : decode cL_law 784 = .ok (.ireturn, 1) := dk_172 (dk_at dksL_law_25 18 rfl rfl)
theorem dL_law_785 : decode cL_law 785 = .ok (.aload_n 1, 1) := dk_43 (dk_at dksL_law_25 19 rfl rfl)
theorem dL_law_786 : decode cL_law 786 = .ok (.aload_n 0, 1) := dk_42 (dk_at dksL_law_25 20 rfl rfl)
theorem dL_law_787 : decode cL_law 787 = .ok (.iload_n 3, 1) := dk_29 (dk_at dksL_law_25 21 rfl rfl)
theorem dL_law_788 : decode cL_law 788 = .ok (.iconst 1, 1) := dk_4 (dk_at dksL_law_25 22 rfl rfl)
theorem dL_law_789 : decode cL_law 789 = .ok (.iadd, 1) := dk_96 (dk_at dksL_law_25 23 rfl rfl)
theorem dL_law_790 : decode cL_law 790 = .ok (.iaload, 1) := dk_46 (dk_at dksL_law_26 0 rfl rfl)
theorem dL_law_791 : decode cL_law 791 = .ok (.invokevirtual 125, 3) := dk_182 0 125 (dk_at dksL_law_26 1 rfl rfl)
theorem dL_law_794 : decode cL_law 794 = .ok (.aload_n 2, 1) := dk_44 (dk_at dksL_law_26 4 rfl rfl)
theorem dL_law_795 : decode cL_law 795 = .ok (.aload_n 0, 1) := dk_42 (dk_at dksL_law_26 5 rfl rfl)
theorem dL_law_796 : decode cL_law 796 = .ok (.iload_n 3, 1) := dk_29 (dk_at dksL_law_26 6 rfl rfl)
theorem dL_law_797 : decode cL_law 797 = .ok (.iconst 1, 1) := dk_4 (dk_at dksL_law_26 7 rfl rfl)
theorem dL_law_798 : decode cL_law 798 = .ok (.iadd, 1) := dk_96 (dk_at dksL_law_26 8 rfl rfl)
theorem dL_law_799 : decode cL_law 799 = .ok (.iaload, 1) := dk_46 (dk_at dksL_law_26 9 rfl rfl)
theorem dL_law_800 : decode cL_law 800 = .ok (.invokevirtual 128, 3) := dk_182 0 128 (dk_at dksL_law_26 10 rfl rfl)
theorem dL_law_803 : decode cL_law 803 = .ok (.if_icmp .eq 598, 3) := dk_159 2 86 (dk_at dksL_law_26 13 rfl rfl)
theorem dL_law_806 : decode cL_law 806 = .ok (.iconst 0, 1) := dk_3 (dk_at dksL_law_26 16 rfl rfl)
theorem dL_law_807 : decode cL_law 807 = .ok (.ireturn, 1) := dk_172 (dk_at dksL_law_26 17 rfl rfl)
theorem dL_law_808 : decode cL_law 808 = .ok (.aload_n 1, 1) := dk_43 (dk_at dksL_law_26 18 rfl rfl)
theorem dL_law_809 : decode cL_law 809 = .ok (.aload_n 0, 1) := dk_42 (dk_at dksL_law_26 19 rfl rfl)
theorem dL_law_810 : decode cL_law 810 = .ok (.iload_n 3, 1) := dk_29 (dk_at dksL_law_26 20 rfl rfl)
theorem dL_law_811 : decode cL_law 811 = .ok (.iconst 1, 1) := dk_4 (dk_at dksL_law_26 21 rfl rfl)
theorem dL_law_812 : decode cL_law 812 = .ok (.iadd, 1) := dk_96 (dk_at dksL_law_26 22 rfl rfl)
theorem dL_law_813 : decode cL_law 813 = .ok (.iaload, 1) := dk_46 (dk_at dksL_law_26 23 rfl rfl)
theorem dL_law_814 : decode cL_law 814 = .ok (.aload_n 0, 1) := dk_42 (dk_at dksL_law_27 0 rfl rfl)
theorem dL_law_815 : decode cL_law 815 = .ok (.iload_n 3, 1) := dk_29 (dk_at dksL_law_27 1 rfl rfl)
theorem dL_law_816 : decode cL_law 816 = .ok (.iconst 2, 1) := dk_5 (dk_at dksL_law_27 2 rfl rfl)
theorem dL_law_817 : decode cL_law 817 = .ok (.iadd, 1) := dk_96 (dk_at dksL_law_27 3 rfl rfl)
theorem dL_law_818 : decode cL_law 818 = .ok (.iaload, 1) := dk_46 (dk_at dksL_law_27 4 rfl rfl)
theorem dL_law_819 : decode cL_law 819 = .ok (.invokevirtual 129, 3) := dk_182 0 129 (dk_at dksL_law_27 5 rfl rfl)
theorem dL_law_822 : decode cL_law 822 = .ok (.aload_n 2, 1) := dk_44 (dk_at dksL_law_27 8 rfl rfl)
theorem dL_law_823 : decode cL_law 823 = .ok (.aload_n 0, 1) := dk_42 (dk_at dksL_law_27 9 rfl rfl)
theorem dL_law_824 : decode cL_law 824 = .ok (.iload_n 3, 1) := dk_29 (dk_at dksL_law_27 10 rfl rfl)
theorem dL_law_825 : decode cL_law 825 = .ok (.iconst 1, 1) := dk_4 (dk_at dksL_law_27 11 rfl rfl)
theorem dL_law_826 : decode cL_law 826 = .ok (.iadd, 1) := dk_96 (dk_at dksL_law_27 12 rfl rfl)
theorem dL_law_827 : decode cL_law 827 = .ok (.iaload, 1) := dk_46 (dk_at dksL_law_27 13 rfl rfl)
theorem dL_law_828 : decode cL_law 828 = .ok (.aload_n 0, 1) := dk_42 (dk_at dksL_law_27 14 rfl rfl)
theorem dL_law_829 : decode cL_law 829 = .ok (.iload_n 3, 1) := dk_29 (dk_at dksL_law_27 15 rfl rfl)
theorem dL_law_830 : decode cL_law 830 = .ok (.iconst 2, 1) := dk_5 (dk_at dksL_law_27 16 rfl rfl)
theorem dL_law_831 : decode cL_law 831 = .ok (.iadd, 1) := dk_96 (dk_at dksL_law_27 17 rfl rfl)
theorem dL_law_832 : decode cL_law 832 = .ok (.iaload, 1) := dk_46 (dk_at dksL_law_27 18 rfl rfl)
theorem dL_law_833 : decode cL_law 833 = .ok (.invokevirtual 132, 3) := dk_182 0 132 (dk_at dksL_law_27 19 rfl rfl)
theorem dL_law_836 : decode cL_law 836 = .ok (.if_icmp .eq 565, 3) := dk_159 2 53 (dk_at dksL_law_28 0 rfl rfl)
theorem dL_law_839 : decode cL_law 839 = .ok (.iconst 0, 1) := dk_3 (dk_at dksL_law_28 3 rfl rfl)
theorem dL_law_840 : decode cL_law 840 = .ok (.ireturn, 1) := dk_172 (dk_at dksL_law_28 4 rfl rfl)
theorem dL_law_841 : decode cL_law 841 = .ok (.aload_n 1, 1) := dk_43 (dk_at dksL_law_28 5 rfl rfl)
theorem dL_law_842 : decode cL_law 842 = .ok (.aload_n 0, 1) := dk_42 (dk_at dksL_law_28 6 rfl rfl)
theorem dL_law_843 : decode cL_law 843 = .ok (.iload_n 3, 1) := dk_29 (dk_at dksL_law_28 7 rfl rfl)
theorem dL_law_844 : decode cL_law 844 = .ok (.iconst 1, 1) := dk_4 (dk_at dksL_law_28 8 rfl rfl)
theorem dL_law_845 : decode cL_law 845 = .ok (.iadd, 1) := dk_96 (dk_at dksL_law_28 9 rfl rfl)
theorem dL_law_846 : decode cL_law 846 = .ok (.iaload, 1) := dk_46 (dk_at dksL_law_28 10 rfl rfl)
theorem dL_law_847 : decode cL_law 847 = .ok (.aload_n 0, 1) := dk_42 (dk_at dksL_law_28 11 rfl rfl)
theorem dL_law_848 : decode cL_law 848 = .ok (.iload_n 3, 1) := dk_29 (dk_at dksL_law_28 12 rfl rfl)
theorem dL_law_849 : decode cL_law 849 = .ok (.iconst 2, 1) := dk_5 (dk_at dksL_law_28 13 rfl rfl)
theorem dL_law_850 : decode cL_law 850 = .ok (.iadd, 1) := dk_96 (dk_at dksL_law_28 14 rfl rfl)
theorem dL_law_851 : decode cL_law 851 = .ok (.iaload, 1) := dk_46 (dk_at dksL_law_28 15 rfl rfl)
theorem dL_law_852 : decode cL_law 852 = .ok (.invokevirtual 133, 3) := dk_182 0 133 (dk_at dksL_law_28 16 rfl rfl)
theorem dL_law_855 : decode cL_law 855 = .ok (.aload_n 2, 1) := dk_44 (dk_at dksL_law_28 19 rfl rfl)
theorem dL_law_856 : decode cL_law 856 = .ok (.aload_n 0, 1) := dk_42 (dk_at dksL_law_28 20 rfl rfl)
theorem dL_law_857 : decode cL_law 857 = .ok (.iload_n 3, 1) := dk_29 (dk_at dksL_law_28 21 rfl rfl)
theorem dL_law_858 : decode cL_law 858 = .ok (.iconst 1, 1) := dk_4 (dk_at dksL_law_28 22 rfl rfl)
theorem dL_law_859 : decode cL_law 859 = .ok (.iadd, 1) := dk_96 (dk_at dksL_law_28 23 rfl rfl)
theorem dL_law_860 : decode cL_law 860 = .ok (.iaload, 1) := dk_46 (dk_at dksL_law_29 0 rfl rfl)
theorem dL_law_861 : decode cL_law 861 = .ok (.aload_n 0, 1) := dk_42 (dk_at dksL_law_29 1 rfl rfl)
theorem dL_law_862 : decode cL_law 862 = .ok (.iload_n 3, 1) := dk_29 (dk_at dksL_law_29 2 rfl rfl)
theorem dL_law_863 : decode cL_law 863 = .ok (.iconst 2, 1) := dk_5 (dk_at dksL_law_29 3 rfl rfl)
theorem dL_law_864 : decode cL_law 864 = .ok (.iadd, 1) := dk_96 (dk_at dksL_law_29 4 rfl rfl)
theorem dL_law_865 : decode cL_law 865 = .ok (.iaload, 1) := dk_46 (dk_at dksL_law_29 5 rfl rfl)
theorem dL_law_866 : decode cL_law 866 = .ok (.invokevirtual 136, 3) := dk_182 0 136 (dk_at dksL_law_29 6 rfl rfl)
theorem dL_law_869 : decode cL_law 869 = .ok (.if_icmp .eq 532, 3) := dk_159 2 20 (dk_at dksL_law_29 9 rfl rfl)
theorem dL_law_872 : decode cL_law 872 = .ok (.iconst 0, 1) := dk_3 (dk_at dksL_law_29 12 rfl rfl)
theorem dL_law_873 : decode cL_law 873 = .ok (.ireturn, 1) := dk_172 (dk_at dksL_law_29 13 rfl rfl)
theorem dL_law_874 : decode cL_law 874 = .ok (.aload_n 1, 1) := dk_43 (dk_at dksL_law_29 14 rfl rfl)
theorem dL_law_875 : decode cL_law 875 = .ok (.aload_n 0, 1) := dk_42 (dk_at dksL_law_29 15 rfl rfl)
theorem dL_law_876 : decode cL_law 876 = .ok (.iload_n 3, 1) := dk_29 (dk_at dksL_law_29 16 rfl rfl)
theorem dL_law_877 : decode cL_law 877 = .ok (.iconst 1, 1) := dk_4 (dk_at dksL_law_29 17 rfl rfl)
theorem dL_law_878 : decode cL_law 878 = .ok (.iadd, 1) := dk_96 (dk_at dksL_law_29 18 rfl rfl)
theorem dL_law_879 : decode cL_law 879 = .ok (.iaload, 1) := dk_46 (dk_at dksL_law_29 19 rfl rfl)
theorem dL_law_880 : decode cL_law 880 = .ok (.aload_n 0, 1) := dk_42 (dk_at dksL_law_29 20 rfl rfl)
theorem dL_law_881 : decode cL_law 881 = .ok (.iload_n 3, 1) := dk_29 (dk_at dksL_law_29 21 rfl rfl)
theorem dL_law_882 : decode cL_law 882 = .ok (.iconst 2, 1) := dk_5 (dk_at dksL_law_29 22 rfl rfl)
theorem dL_law_883 : decode cL_law 883 = .ok (.iadd, 1) := dk_96 (dk_at dksL_law_29 23 rfl rfl)
theorem dL_law_884 : decode cL_law 884 = .ok (.iaload, 1) := dk_46 (dk_at dksL_law_30 0 rfl rfl)
theorem dL_law_885 : decode cL_law 885 = .ok (.invokevirtual 137, 3) := dk_182 0 137 (dk_at dksL_law_30 1 rfl rfl)
theorem dL_law_888 : decode cL_law 888 = .ok (.aload_n 2, 1) := dk_44 (dk_at dksL_law_30 4 rfl rfl)
theorem dL_law_889 : decode cL_law 889 = .ok (.aload_n 0, 1) := dk_42 (dk_at dksL_law_30 5 rfl rfl)
theorem dL_law_890 : decode cL_law 890 = .ok (.iload_n 3, 1) := dk_29 (dk_at dksL_law_30 6 rfl rfl)
theorem dL_law_891 : decode cL_law 891 = .ok (.iconst 1, 1) := dk_4 (dk_at dksL_law_30 7 rfl rfl)
theorem dL_law_892 : decode cL_law 892 = .ok (.iadd, 1) := dk_96 (dk_at dksL_law_30 8 rfl rfl)
theorem dL_law_893 : decode cL_law 893 = .ok (.iaload, 1) := dk_46 (dk_at dksL_law_30 9 rfl rfl)
theorem dL_law_894 : decode cL_law 894 = .ok (.aload_n 0, 1) := dk_42 (dk_at dksL_law_30 10 rfl rfl)
theorem dL_law_895 : decode cL_law 895 = .ok (.iload_n 3, 1) := dk_29 (dk_at dksL_law_30 11 rfl rfl)
theorem dL_law_896 : decode cL_law 896 = .ok (.iconst 2, 1) := dk_5 (dk_at dksL_law_30 12 rfl rfl)
theorem dL_law_897 : decode cL_law 897 = .ok (.iadd, 1) := dk_96 (dk_at dksL_law_30 13 rfl rfl)
theorem dL_law_898 : decode cL_law 898 = .ok (.iaload, 1) := dk_46 (dk_at dksL_law_30 14 rfl rfl)
theorem dL_law_899 : decode cL_law 899 = .ok (.invokevirtual 140, 3) := dk_182 0 140 (dk_at dksL_law_30 15 rfl rfl)
theorem dL_law_902 : decode cL_law 902 = .ok (.if_icmp .eq 499, 3) := dk_159 1 243 (dk_at dksL_law_30 18 rfl rfl)
theorem dL_law_905 : decode cL_law 905 = .ok (.iconst 0, 1) := dk_3 (dk_at dksL_law_30 21 rfl rfl)
theorem dL_law_906 : decode cL_law 906 = .ok (.ireturn, 1) := dk_172 (dk_at dksL_law_30 22 rfl rfl)
theorem dL_law_907 : decode cL_law 907 = .ok (.aload_n 1, 1) := dk_43 (dk_at dksL_law_30 23 rfl rfl)
theorem dL_law_908 : decode cL_law 908 = .ok (.aload_n 0, 1) := dk_42 (dk_at dksL_law_31 0 rfl rfl)
theorem dL_law_909 : decode cL_law 909 = .ok (.iload_n 3, 1) := dk_29 (dk_at dksL_law_31 1 rfl rfl)
theorem dL_law_910 : decode cL_law 910 = .ok (.iconst 1, 1) := dk_4 (dk_at dksL_law_31 2 rfl rfl)
theorem dL_law_911 : decode cL_law 911 = .ok (.iadd, 1) := dk_96 (dk_at dksL_law_31 3 rfl rfl)
theorem dL_law_912 : decode cL_law 912 = .ok (.iaload, 1) := dk_46 (dk_at dksL_law_31 4 rfl rfl)
theorem dL_law_913 : decode cL_law 913 = .ok (.aload_n 0, 1) := dk_42 (dk_at dksL_law_31 5 rfl rfl)
theorem dL_law_914 : decode cL_law 914 = .ok (.iload_n 3, 1) := dk_29 (dk_at dksL_law_31 6 rfl rfl)
theorem dL_law_915 : decode cL_law 915 = .ok (.iconst 2, 1) := dk_5 (dk_at dksL_law_31 7 rfl rfl)
theorem dL_law_916 : decode cL_law 916 = .ok (.iadd, 1) := dk_96 (dk_at dksL_law_31 8 rfl rfl)
theorem dL_law_917 : decode cL_law 917 = .ok (.iaload, 1) := dk_46 (dk_at dksL_law_31 9 rfl rfl)
theorem dL_law_918 : decode cL_law 918 = .ok (.invokevirtual 141, 3) := dk_182 0 141 (dk_at dksL_law_31 10 rfl rfl)
theorem dL_law_921 : decode cL_law 921 = .ok (.aload_n 2, 1) := dk_44 (dk_at dksL_law_31 13 rfl rfl)
theorem dL_law_922 : decode cL_law 922 = .ok (.aload_n 0, 1) := dk_42 (dk_at dksL_law_31 14 rfl rfl)
theorem dL_law_923 : decode cL_law 923 = .ok (.iload_n 3, 1) := dk_29 (dk_at dksL_law_31 15 rfl rfl)
theorem dL_law_924 : decode cL_law 924 = .ok (.iconst 1, 1) := dk_4 (dk_at dksL_law_31 16 rfl rfl)
theorem dL_law_925 : decode cL_law 925 = .ok (.iadd, 1) := dk_96 (dk_at dksL_law_31 17 rfl rfl)
theorem dL_law_926 : decode cL_law 926 = .ok (.iaload, 1) := dk_46 (dk_at dksL_law_31 18 rfl rfl)
theorem dL_law_927 : decode cL_law 927 = .ok (.aload_n 0, 1) := dk_42 (dk_at dksL_law_31 19 rfl rfl)
theorem dL_law_928 : decode cL_law 928 = .ok (.iload_n 3, 1) := dk_29 (dk_at dksL_law_31 20 rfl rfl)
theorem dL_law_929 : decode cL_law 929 = .ok (.iconst 2, 1) := dk_5 (dk_at dksL_law_31 21 rfl rfl)
theorem dL_law_930 : decode cL_law 930 = .ok (.iadd, 1) := dk_96 (dk_at dksL_law_31 22 rfl rfl)
theorem dL_law_931 : decode cL_law 931 = .ok (.iaload, 1) := dk_46 (dk_at dksL_law_31 23 rfl rfl)
theorem dL_law_932 : decode cL_law 932 = .ok (.invokevirtual 144, 3) := dk_182 0 144 (dk_at dksL_law_32 0 rfl rfl)
theorem dL_law_935 : decode cL_law 935 = .ok (.if_icmp .eq 466, 3) := dk_159 1 210 (dk_at dksL_law_32 3 rfl rfl)
theorem dL_law_938 : decode cL_law 938 = .ok (.iconst 0, 1) := dk_3 (dk_at dksL_law_32 6 rfl rfl)
theorem dL_law_939 : decode cL_law 939 = .ok (.ireturn, 1) := dk_172 (dk_at dksL_law_32 7 rfl rfl)
theorem dL_law_940 : decode cL_law 940 = .ok (.aload_n 1, 1) := dk_43 (dk_at dksL_law_32 8 rfl rfl)
theorem dL_law_941 : decode cL_law 941 = .ok (.aload_n 0, 1) := dk_42 (dk_at dksL_law_32 9 rfl rfl)
theorem dL_law_942 : decode cL_law 942 = .ok (.iload_n 3, 1) := dk_29 (dk_at dksL_law_32 10 rfl rfl)
theorem dL_law_943 : decode cL_law 943 = .ok (.iconst 1, 1) := dk_4 (dk_at dksL_law_32 11 rfl rfl)
theorem dL_law_944 : decode cL_law 944 = .ok (.iadd, 1) := dk_96 (dk_at dksL_law_32 12 rfl rfl)
theorem dL_law_945 : decode cL_law 945 = .ok (.iaload, 1) := dk_46 (dk_at dksL_law_32 13 rfl rfl)
theorem dL_law_946 : decode cL_law 946 = .ok (.aload_n 0, 1) := dk_42 (dk_at dksL_law_32 14 rfl rfl)
theorem dL_law_947 : decode cL_law 947 = .ok (.iload_n 3, 1) := dk_29 (dk_at dksL_law_32 15 rfl rfl)
theorem dL_law_948 : decode cL_law 948 = .ok (.iconst 2, 1) := dk_5 (dk_at dksL_law_32 16 rfl rfl)
theorem dL_law_949 : decode cL_law 949 = .ok (.iadd, 1) := dk_96 (dk_at dksL_law_32 17 rfl rfl)
theorem dL_law_950 : decode cL_law 950 = .ok (.iaload, 1) := dk_46 (dk_at dksL_law_32 18 rfl rfl)
theorem dL_law_951 : decode cL_law 951 = .ok (.invokevirtual 145, 3) := dk_182 0 145 (dk_at dksL_law_32 19 rfl rfl)
theorem dL_law_954 : decode cL_law 954 = .ok (.aload_n 2, 1) := dk_44 (dk_at dksL_law_32 22 rfl rfl)
theorem dL_law_955 : decode cL_law 955 = .ok (.aload_n 0, 1) := dk_42 (dk_at dksL_law_32 23 rfl rfl)
theorem dL_law_956 : decode cL_law 956 = .ok (.iload_n 3, 1) := dk_29 (dk_at dksL_law_33 0 rfl rfl)
theorem dL_law_957 : decode cL_law 957 = .ok (.iconst 1, 1) := dk_4 (dk_at dksL_law_33 1 rfl rfl)
theorem dL_law_958 : decode cL_law 958 = .ok (.iadd, 1) := dk_96 (dk_at dksL_law_33 2 rfl rfl)
theorem dL_law_959 : decode cL_law 959 = .ok (.iaload, 1) := dk_46 (dk_at dksL_law_33 3 rfl rfl)
theorem dL_law_960 : decode cL_law 960 = .ok (.aload_n 0, 1) := dk_42 (dk_at dksL_law_33 4 rfl rfl)
theorem dL_law_961 : decode cL_law 961 = .ok (.iload_n 3, 1) := dk_29 (dk_at dksL_law_33 5 rfl rfl)
theorem dL_law_962 : decode cL_law 962 = .ok (.iconst 2, 1) := dk_5 (dk_at dksL_law_33 6 rfl rfl)
theorem dL_law_963 : decode cL_law 963 = .ok (.iadd, 1) := dk_96 (dk_at dksL_law_33 7 rfl rfl)
theorem dL_law_964 : decode cL_law 964 = .ok (.iaload, 1) := dk_46 (dk_at dksL_law_33 8 rfl rfl)
theorem dL_law_965 : decode cL_law 965 = .ok (.invokevirtual 148, 3) := dk_182 0 148 (dk_at dksL_law_33 9 rfl rfl)
theorem dL_law_968 : decode cL_law 968 = .ok (.if_icmp .eq 433, 3) := dk_159 1 177 (dk_at dksL_law_33 12 rfl rfl)
theorem dL_law_971 : decode cL_law 971 = .ok (.iconst 0, 1) := dk_3 (dk_at dksL_law_33 15 rfl rfl)
theorem dL_law_972 : decode cL_law 972 = .ok (.ireturn, 1) := dk_172 (dk_at dksL_law_33 16 rfl rfl)
theorem dL_law_973 : decode cL_law 973 = .ok (.aload_n 1, 1) := dk_43 (dk_at dksL_law_33 17 rfl rfl)
theorem dL_law_974 : decode cL_law 974 = .ok (.aload_n 0, 1) := dk_42 (dk_at dksL_law_33 18 rfl rfl)
theorem dL_law_975 : decode cL_law 975 = .ok (.iload_n 3, 1) := dk_29 (dk_at dksL_law_33 19 rfl rfl)
theorem dL_law_976 : decode cL_law 976 = .ok (.iconst 1, 1) := dk_4 (dk_at dksL_law_33 20 rfl rfl)
theorem dL_law_977 : decode cL_law 977 = .ok (.iadd, 1) := dk_96 (dk_at dksL_law_33 21 rfl rfl)
theorem dL_law_978 : decode cL_law 978 = .ok (.iaload, 1) := dk_46 (dk_at dksL_law_33 22 rfl rfl)
theorem dL_law_979 : decode cL_law 979 = .ok (.aload_n 0, 1) := dk_42 (dk_at dksL_law_33 23 rfl rfl)
theorem dL_law_980 : decode cL_law 980 = .ok (.iload_n 3, 1) := dk_29 (dk_at dksL_law_34 0 rfl rfl)
theorem dL_law_981 : decode cL_law 981 = .ok (.iconst 2, 1) := dk_5 (dk_at dksL_law_34 1 rfl rfl)
theorem dL_law_982 : decode cL_law 982 = .ok (.iadd, 1) := dk_96 (dk_at dksL_law_34 2 rfl rfl)
theorem dL_law_983 : decode cL_law 983 = .ok (.iaload, 1) := dk_46 (dk_at dksL_law_34 3 rfl rfl)
theorem dL_law_984 : decode cL_law 984 = .ok (.aload_n 0, 1) := dk_42 (dk_at dksL_law_34 4 rfl rfl)
theorem dL_law_985 : decode cL_law 985 = .ok (.iload_n 3, 1) := dk_29 (dk_at dksL_law_34 5 rfl rfl)
theorem dL_law_986 : decode cL_law 986 = .ok (.iconst 3, 1) := dk_6 (dk_at dksL_law_34 6 rfl rfl)
theorem dL_law_987 : decode cL_law 987 = .ok (.iadd, 1) := dk_96 (dk_at dksL_law_34 7 rfl rfl)
theorem dL_law_988 : decode cL_law 988 = .ok (.iaload, 1) := dk_46 (dk_at dksL_law_34 8 rfl rfl)
theorem dL_law_989 : decode cL_law 989 = .ok (.invokevirtual 149, 3) := dk_182 0 149 (dk_at dksL_law_34 9 rfl rfl)
theorem dL_law_992 : decode cL_law 992 = .ok (.aload_n 2, 1) := dk_44 (dk_at dksL_law_34 12 rfl rfl)
theorem dL_law_993 : decode cL_law 993 = .ok (.aload_n 0, 1) := dk_42 (dk_at dksL_law_34 13 rfl rfl)
theorem dL_law_994 : decode cL_law 994 = .ok (.iload_n 3, 1) := dk_29 (dk_at dksL_law_34 14 rfl rfl)
theorem dL_law_995 : decode cL_law 995 = .ok (.iconst 1, 1) := dk_4 (dk_at dksL_law_34 15 rfl rfl)
theorem dL_law_996 : decode cL_law 996 = .ok (.iadd, 1) := dk_96 (dk_at dksL_law_34 16 rfl rfl)
theorem dL_law_997 : decode cL_law 997 = .ok (.iaload, 1) := dk_46 (dk_at dksL_law_34 17 rfl rfl)
theorem dL_law_998 : decode cL_law 998 = .ok (.aload_n 0, 1) := dk_42 (dk_at dksL_law_34 18 rfl rfl)
theorem dL_law_999 : decode cL_law 999 = .ok (.iload_n 3, 1) := dk_29 (dk_at dksL_law_34 19 rfl rfl)
theorem dL_law_1000 : decode cL_law 1000 = .ok (.iconst 2, 1) := dk_5 (dk_at dksL_law_34 20 rfl rfl)
theorem dL_law_1001 : decode cL_law 1001 = .ok (.iadd, 1) := dk_96 (dk_at dksL_law_34 21 rfl rfl)
theorem dL_law_1002 : decode cL_law 1002 = .ok (.iaload, 1) := dk_46 (dk_at dksL_law_34 22 rfl rfl)
theorem dL_law_1003 : decode cL_law 1003 = .ok (.aload_n 0, 1) := dk_42 (dk_at dksL_law_34 23 rfl rfl)
theorem dL_law_1004 : decode cL_law 1004 = .ok (.iload_n 3, 1) := dk_29 (dk_at dksL_law_35 0 rfl rfl)
theorem dL_law_1005 : decode cL_law 1005 = .ok (.iconst 3, 1) := dk_6 (dk_at dksL_law_35 1 rfl rfl)
theorem dL_law_1006 : decode cL_law 1006 = .ok (.iadd, 1) := dk_96 (dk_at dksL_law_35 2 rfl rfl)
theorem dL_law_1007 : decode cL_law 1007 = .ok (.iaload, 1) := dk_46 (dk_at dksL_law_35 3 rfl rfl)
theorem dL_law_1008 : decode cL_law 1008 = .ok (.invokevirtual 152, 3) := dk_182 0 152 (dk_at dksL_law_35 4 rfl rfl)
theorem dL_law_1011 : decode cL_law 1011 = .ok (.if_icmp .eq 390, 3) := dk_159 1 134 (dk_at dksL_law_35 7 rfl rfl)
theorem dL_law_1014 : decode cL_law 1014 = .ok (.iconst 0, 1) := dk_3 (dk_at dksL_law_35 10 rfl rfl)
theorem dL_law_1015 : decode cL_law 1015 = .ok (.ireturn, 1) := dk_172 (dk_at dksL_law_35 11 rfl rfl)
theorem dL_law_1016 : decode cL_law 1016 = .ok (.aload_n 1, 1) := dk_43 (dk_at dksL_law_35 12 rfl rfl)
theorem dL_law_1017 : decode cL_law 1017 = .ok (.aload_n 0, 1) := dk_42 (dk_at dksL_law_35 13 rfl rfl)
theorem dL_law_1018 : decode cL_law 1018 = .ok (.iload_n 3, 1) := dk_29 (dk_at dksL_law_35 14 rfl rfl)
theorem dL_law_1019 : decode cL_law 1019 = .ok (.iconst 1, 1) := dk_4 (dk_at dksL_law_35 15 rfl rfl)
theorem dL_law_1020 : decode cL_law 1020 = .ok (.iadd, 1) := dk_96 (dk_at dksL_law_35 16 rfl rfl)
theorem dL_law_1021 : decode cL_law 1021 = .ok (.iaload, 1) := dk_46 (dk_at dksL_law_35 17 rfl rfl)
theorem dL_law_1022 : decode cL_law 1022 = .ok (.invokevirtual 153, 3) := dk_182 0 153 (dk_at dksL_law_35 18 rfl rfl)
theorem dL_law_1025 : decode cL_law 1025 = .ok (.aload_n 2, 1) := dk_44 (dk_at dksL_law_35 21 rfl rfl)
theorem dL_law_1026 : decode cL_law 1026 = .ok (.aload_n 0, 1) := dk_42 (dk_at dksL_law_35 22 rfl rfl)
theorem dL_law_1027 : decode cL_law 1027 = .ok (.iload_n 3, 1) := dk_29 (dk_at dksL_law_35 23 rfl rfl)
theorem dL_law_1028 : decode cL_law 1028 = .ok (.iconst 1, 1) := dk_4 (dk_at dksL_law_36 0 rfl rfl)
theorem dL_law_1029 : decode cL_law 1029 = .ok (.iadd, 1) := dk_96 (dk_at dksL_law_36 1 rfl rfl)
theorem dL_law_1030 : decode cL_law 1030 = .ok (.iaload, 1) := dk_46 (dk_at dksL_law_36 2 rfl rfl)
theorem dL_law_1031 : decode cL_law 1031 = .ok (.invokevirtual 156, 3) := dk_182 0 156 (dk_at dksL_law_36 3 rfl rfl)
theorem dL_law_1034 : decode cL_law 1034 = .ok (.if_icmp .eq 367, 3) := dk_159 1 111 (dk_at dksL_law_36 6 rfl rfl)
theorem dL_law_1037 : decode cL_law 1037 = .ok (.iconst 0, 1) := dk_3 (dk_at dksL_law_36 9 rfl rfl)
theorem dL_law_1038 : decode cL_law 1038 = .ok (.ireturn, 1) := dk_172 (dk_at dksL_law_36 10 rfl rfl)
theorem dL_law_1039 : decode cL_law 1039 = .ok (.aload_n 1, 1) := dk_43 (dk_at dksL_law_36 11 rfl rfl)
theorem dL_law_1040 : decode cL_law 1040 = .ok (.aload_n 0, 1) := dk_42 (dk_at dksL_law_36 12 rfl rfl)
theorem dL_law_1041 : decode cL_law 1041 = .ok (.iload_n 3, 1) := dk_29 (dk_at dksL_law_36 13 rfl rfl)
theorem dL_law_1042 : decode cL_law 1042 = .ok (.iconst 1, 1) := dk_4 (dk_at dksL_law_36 14 rfl rfl)
theorem dL_law_1043 : decode cL_law 1043 = .ok (.iadd, 1) := dk_96 (dk_at dksL_law_36 15 rfl rfl)
theorem dL_law_1044 : decode cL_law 1044 = .ok (.iaload, 1) := dk_46 (dk_at dksL_law_36 16 rfl rfl)
theorem dL_law_1045 : decode cL_law 1045 = .ok (.aload_n 0, 1) := dk_42 (dk_at dksL_law_36 17 rfl rfl)
theorem dL_law_1046 : decode cL_law 1046 = .ok (.iload_n 3, 1) := dk_29 (dk_at dksL_law_36 18 rfl rfl)
theorem dL_law_1047 : decode cL_law 1047 = .ok (.iconst 2, 1) := dk_5 (dk_at dksL_law_36 19 rfl rfl)
theorem dL_law_1048 : decode cL_law 1048 = .ok (.iadd, 1) := dk_96 (dk_at dksL_law_36 20 rfl rfl)
theorem dL_law_1049 : decode cL_law 1049 = .ok (.iaload, 1) := dk_46 (dk_at dksL_law_36 21 rfl rfl)
theorem dL_law_1050 : decode cL_law 1050 = .ok (.invokevirtual 157, 3) := dk_182 0 157 (dk_at dksL_law_37 0 rfl rfl)
theorem dL_law_1053 : decode cL_law 1053 = .ok (.aload_n 2, 1) := dk_44 (dk_at dksL_law_37 3 rfl rfl)
theorem dL_law_1054 : decode cL_law 1054 = .ok (.aload_n 0, 1) := dk_42 (dk_at dksL_law_37 4 rfl rfl)
theorem dL_law_1055 : decode cL_law 1055 = .ok (.iload_n 3, 1) := dk_29 (dk_at dksL_law_37 5 rfl rfl)
theorem dL_law_1056 : decode cL_law 1056 = .ok (.iconst 1, 1) := dk_4 (dk_at dksL_law_37 6 rfl rfl)
theorem dL_law_1057 : decode cL_law 1057 = .ok (.iadd, 1) := dk_96 (dk_at dksL_law_37 7 rfl rfl)
theorem dL_law_1058 : decode cL_law 1058 = .ok (.iaload, 1) := dk_46 (dk_at dksL_law_37 8 rfl rfl)
theorem dL_law_1059 : decode cL_law 1059 = .ok (.aload_n 0, 1) := dk_42 (dk_at dksL_law_37 9 rfl rfl)
theorem dL_law_1060 : decode cL_law 1060 = .ok (.iload_n 3, 1) := dk_29 (dk_at dksL_law_37 10 rfl rfl)
theorem dL_law_1061 : decode cL_law 1061 = .ok (.iconst 2, 1) := dk_5 (dk_at dksL_law_37 11 rfl rfl)
theorem dL_law_1062 : decode cL_law 1062 = .ok (.iadd, 1) := dk_96 (dk_at dksL_law_37 12 rfl rfl)
theorem dL_law_1063 : decode cL_law 1063 = .ok (.iaload, 1) := dk_46 (dk_at dksL_law_37 13 rfl rfl)
theorem dL_law_1064 : decode cL_law 1064 = .ok (.invokevirtual 160, 3) := dk_182 0 160 (dk_at dksL_law_37 14 rfl rfl)
theorem dL_law_1067 : decode cL_law 1067 = .ok (.if_icmp .eq 334, 3) := dk_159 1 78 (dk_at dksL_law_37 17 rfl rfl)
theorem dL_law_1070 : decode cL_law 1070 = .ok (.iconst 0, 1) := dk_3 (dk_at dksL_law_37 20 rfl rfl)
theorem dL_law_1071 : decode cL_law 1071 = .ok (.ireturn, 1) := dk_172 (dk_at dksL_law_37 21 rfl rfl)
theorem dL_law_1072 : decode cL_law 1072 = .ok (.aload_n 1, 1) := dk_43 (dk_at dksL_law_37 22 rfl rfl)
theorem dL_law_1073 : decode cL_law 1073 = .ok (.aload_n 0, 1) := dk_42 (dk_at dksL_law_37 23 rfl rfl)
theorem dL_law_1074 : decode cL_law 1074 = .ok (.iload_n 3, 1) := dk_29 (dk_at dksL_law_38 0 rfl rfl)
theorem dL_law_1075 : decode cL_law 1075 = .ok (.iconst 1, 1) := dk_4 (dk_at dksL_law_38 1 rfl rfl)
theorem dL_law_1076 : decode cL_law 1076 = .ok (.iadd, 1) := dk_96 (dk_at dksL_law_38 2 rfl rfl)
theorem dL_law_1077 : decode cL_law 1077 = .ok (.iaload, 1) := dk_46 (dk_at dksL_law_38 3 rfl rfl)
theorem dL_law_1078 : decode cL_law 1078 = .ok (.aload_n 0, 1) := dk_42 (dk_at dksL_law_38 4 rfl rfl)
theorem dL_law_1079 : decode cL_law 1079 = .ok (.iload_n 3, 1) := dk_29 (dk_at dksL_law_38 5 rfl rfl)
theorem dL_law_1080 : decode cL_law 1080 = .ok (.iconst 2, 1) := dk_5 (dk_at dksL_law_38 6 rfl rfl)
theorem dL_law_1081 : decode cL_law 1081 = .ok (.iadd, 1) := dk_96 (dk_at dksL_law_38 7 rfl rfl)
theorem dL_law_1082 : decode cL_law 1082 = .ok (.iaload, 1) := dk_46 (dk_at dksL_law_38 8 rfl rfl)
theorem dL_law_1083 : decode cL_law 1083 = .ok (.invokevirtual 161, 3) := dk_182 0 161 (dk_at dksL_law_38 9 rfl rfl)
theorem dL_law_1086 : decode cL_law 1086 = .ok (.aload_n 2, 1) := dk_44 (dk_at dksL_law_38 12 rfl rfl)
theorem dL_law_1087 : decode cL_law 1087 = .ok (.aload_n 0, 1) := dk_42 (dk_at dksL_law_38 13 rfl rfl)
theorem dL_law_1088 : decode cL_law 1088 = .ok (.iload_n 3, 1) := dk_29 (dk_at dksL_law_38 14 rfl rfl)
theorem dL_law_1089 : decode cL_law 1089 = .ok (.iconst 1, 1) := dk_4 (dk_at dksL_law_38 15 rfl rfl)
theorem dL_law_1090 : decode cL_law 1090 = .ok (.iadd, 1) := dk_96 (dk_at dksL_law_38 16 rfl rfl)
theorem dL_law_1091 : decode cL_law 1091 = .ok (.iaload, 1) := dk_46 (dk_at dksL_law_38 17 rfl rfl)
theorem dL_law_1092 : decode cL_law 1092 = .ok (.aload_n 0, 1) := dk_42 (dk_at dksL_law_38 18 rfl rfl)
theorem dL_law_1093 : decode cL_law 1093 = .ok (.iload_n 3, 1) := dk_29 (dk_at dksL_law_38 19 rfl rfl)
theorem dL_law_1094 : decode cL_law 1094 = .ok (.iconst 2, 1) := dk_5 (dk_at dksL_law_38 20 rfl rfl)
theorem dL_law_1095 : decode cL_law 1095 = .ok (.iadd, 1) := dk_96 (dk_at dksL_law_38 21 rfl rfl)
theorem dL_law_1096 : decode cL_law 1096 = .ok (.iaload, 1) := dk_46 (dk_at dksL_law_38 22 rfl rfl)
theorem dL_law_1097 : decode cL_law 1097 = .ok (.invokevirtual 164, 3) := dk_182 0 164 (dk_at dksL_law_39 0 rfl rfl)
theorem dL_law_1100 : decode cL_law 1100 = .ok (.if_icmp .eq 301, 3) := dk_159 1 45 (dk_at dksL_law_39 3 rfl rfl)
theorem dL_law_1103 : decode cL_law 1103 = .ok (.iconst 0, 1) := dk_3 (dk_at dksL_law_39 6 rfl rfl)
theorem dL_law_1104 : decode cL_law 1104 = .ok (.ireturn, 1) := dk_172 (dk_at dksL_law_39 7 rfl rfl)
theorem dL_law_1105 : decode cL_law 1105 = .ok (.aload_n 1, 1) := dk_43 (dk_at dksL_law_39 8 rfl rfl)
theorem dL_law_1106 : decode cL_law 1106 = .ok (.aload_n 0, 1) := dk_42 (dk_at dksL_law_39 9 rfl rfl)
theorem dL_law_1107 : decode cL_law 1107 = .ok (.iload_n 3, 1) := dk_29 (dk_at dksL_law_39 10 rfl rfl)
theorem dL_law_1108 : decode cL_law 1108 = .ok (.iconst 1, 1) := dk_4 (dk_at dksL_law_39 11 rfl rfl)
theorem dL_law_1109 : decode cL_law 1109 = .ok (.iadd, 1) := dk_96 (dk_at dksL_law_39 12 rfl rfl)
theorem dL_law_1110 : decode cL_law 1110 = .ok (.iaload, 1) := dk_46 (dk_at dksL_law_39 13 rfl rfl)
theorem dL_law_1111 : decode cL_law 1111 = .ok (.aload_n 0, 1) := dk_42 (dk_at dksL_law_39 14 rfl rfl)
theorem dL_law_1112 : decode cL_law 1112 = .ok (.iload_n 3, 1) := dk_29 (dk_at dksL_law_39 15 rfl rfl)
theorem dL_law_1113 : decode cL_law 1113 = .ok (.iconst 2, 1) := dk_5 (dk_at dksL_law_39 16 rfl rfl)
theorem dL_law_1114 : decode cL_law 1114 = .ok (.iadd, 1) := dk_96 (dk_at dksL_law_39 17 rfl rfl)
theorem dL_law_1115 : decode cL_law 1115 = .ok (.iaload, 1) := dk_46 (dk_at dksL_law_39 18 rfl rfl)
theorem dL_law_1116 : decode cL_law 1116 = .ok (.invokevirtual 165, 3) := dk_182 0 165 (dk_at dksL_law_39 19 rfl rfl)
theorem dL_law_1119 : decode cL_law 1119 = .ok (.aload_n 2, 1) := dk_44 (dk_at dksL_law_39 22 rfl rfl)
theorem dL_law_1120 : decode cL_law 1120 = .ok (.aload_n 0, 1) := dk_42 (dk_at dksL_law_39 23 rfl rfl)
theorem dL_law_1121 : decode cL_law 1121 = .ok (.iload_n 3, 1) := dk_29 (dk_at dksL_law_40 0 rfl rfl)
theorem dL_law_1122 : decode cL_law 1122 = .ok (.iconst 1, 1) := dk_4 (dk_at dksL_law_40 1 rfl rfl)
theorem dL_law_1123 : decode cL_law 1123 = .ok (.iadd, 1) := dk_96 (dk_at dksL_law_40 2 rfl rfl)
theorem dL_law_1124 : decode cL_law 1124 = .ok (.iaload, 1) := dk_46 (dk_at dksL_law_40 3 rfl rfl)
theorem dL_law_1125 : decode cL_law 1125 = .ok (.aload_n 0, 1) := dk_42 (dk_at dksL_law_40 4 rfl rfl)
theorem dL_law_1126 : decode cL_law 1126 = .ok (.iload_n 3, 1) := dk_29 (dk_at dksL_law_40 5 rfl rfl)
theorem dL_law_1127 : decode cL_law 1127 = .ok (.iconst 2, 1) := dk_5 (dk_at dksL_law_40 6 rfl rfl)
theorem dL_law_1128 : decode cL_law 1128 = .ok (.iadd, 1) := dk_96 (dk_at dksL_law_40 7 rfl rfl)
theorem dL_law_1129 : decode cL_law 1129 = .ok (.iaload, 1) := dk_46 (dk_at dksL_law_40 8 rfl rfl)
theorem dL_law_1130 : decode cL_law 1130 = .ok (.invokevirtual 168, 3) := dk_182 0 168 (dk_at dksL_law_40 9 rfl rfl)
theorem dL_law_1133 : decode cL_law 1133 = .ok (.if_icmp .eq 268, 3) := dk_159 1 12 (dk_at dksL_law_40 12 rfl rfl)
theorem dL_law_1136 : decode cL_law 1136 = .ok (.iconst 0, 1) := dk_3 (dk_at dksL_law_40 15 rfl rfl)
theorem dL_law_1137 : decode cL_law 1137 = .ok (.ireturn, 1) := dk_172 (dk_at dksL_law_40 16 rfl rfl)
theorem dL_law_1138 : decode cL_law 1138 = .ok (.aload_n 1, 1) := dk_43 (dk_at dksL_law_40 17 rfl rfl)
theorem dL_law_1139 : decode cL_law 1139 = .ok (.aload_n 0, 1) := dk_42 (dk_at dksL_law_40 18 rfl rfl)
theorem dL_law_1140 : decode cL_law 1140 = .ok (.iload_n 3, 1) := dk_29 (dk_at dksL_law_40 19 rfl rfl)
theorem dL_law_1141 : decode cL_law 1141 = .ok (.iconst 1, 1) := dk_4 (dk_at dksL_law_40 20 rfl rfl)
theorem dL_law_1142 : decode cL_law 1142 = .ok (.iadd, 1) := dk_96 (dk_at dksL_law_40 21 rfl rfl)
theorem dL_law_1143 : decode cL_law 1143 = .ok (.iaload, 1) := dk_46 (dk_at dksL_law_40 22 rfl rfl)
theorem dL_law_1144 : decode cL_law 1144 = .ok (.aload_n 0, 1) := dk_42 (dk_at dksL_law_40 23 rfl rfl)
theorem dL_law_1145 : decode cL_law 1145 = .ok (.iload_n 3, 1) := dk_29 (dk_at dksL_law_41 0 rfl rfl)
theorem dL_law_1146 : decode cL_law 1146 = .ok (.iconst 2, 1) := dk_5 (dk_at dksL_law_41 1 rfl rfl)
theorem dL_law_1147 : decode cL_law 1147 = .ok (.iadd, 1) := dk_96 (dk_at dksL_law_41 2 rfl rfl)
theorem dL_law_1148 : decode cL_law 1148 = .ok (.iaload, 1) := dk_46 (dk_at dksL_law_41 3 rfl rfl)
theorem dL_law_1149 : decode cL_law 1149 = .ok (.invokevirtual 169, 3) := dk_182 0 169 (dk_at dksL_law_41 4 rfl rfl)
theorem dL_law_1152 : decode cL_law 1152 = .ok (.aload_n 2, 1) := dk_44 (dk_at dksL_law_41 7 rfl rfl)
theorem dL_law_1153 : decode cL_law 1153 = .ok (.aload_n 0, 1) := dk_42 (dk_at dksL_law_41 8 rfl rfl)
theorem dL_law_1154 : decode cL_law 1154 = .ok (.iload_n 3, 1) := dk_29 (dk_at dksL_law_41 9 rfl rfl)
theorem dL_law_1155 : decode cL_law 1155 = .ok (.iconst 1, 1) := dk_4 (dk_at dksL_law_41 10 rfl rfl)
theorem dL_law_1156 : decode cL_law 1156 = .ok (.iadd, 1) := dk_96 (dk_at dksL_law_41 11 rfl rfl)
theorem dL_law_1157 : decode cL_law 1157 = .ok (.iaload, 1) := dk_46 (dk_at dksL_law_41 12 rfl rfl)
theorem dL_law_1158 : decode cL_law 1158 = .ok (.aload_n 0, 1) := dk_42 (dk_at dksL_law_41 13 rfl rfl)
theorem dL_law_1159 : decode cL_law 1159 = .ok (.iload_n 3, 1) := dk_29 (dk_at dksL_law_41 14 rfl rfl)
theorem dL_law_1160 : decode cL_law 1160 = .ok (.iconst 2, 1) := dk_5 (dk_at dksL_law_41 15 rfl rfl)
theorem dL_law_1161 : decode cL_law 1161 = .ok (.iadd, 1) := dk_96 (dk_at dksL_law_41 16 rfl rfl)
theorem dL_law_1162 : decode cL_law 1162 = .ok (.iaload, 1) := dk_46 (dk_at dksL_law_41 17 rfl rfl)
theorem dL_law_1163 : decode cL_law 1163 = .ok (.invokevirtual 172, 3) := dk_182 0 172 (dk_at dksL_law_41 18 rfl rfl)
theorem dL_law_1166 : decode cL_law 1166 = .ok (.if_icmp .eq 235, 3) := dk_159 0 235 (dk_at dksL_law_41 21 rfl rfl)
theorem dL_law_1169 : decode cL_law 1169 = .ok (.iconst 0, 1) := dk_3 (dk_at dksL_law_42 0 rfl rfl)
theorem dL_law_1170 : decode cL_law 1170 = .ok (.ireturn, 1) := dk_172 (dk_at dksL_law_42 1 rfl rfl)
theorem dL_law_1171 : decode cL_law 1171 = .ok (.aload_n 1, 1) := dk_43 (dk_at dksL_law_42 2 rfl rfl)
theorem dL_law_1172 : decode cL_law 1172 = .ok (.aload_n 0, 1) := dk_42 (dk_at dksL_law_42 3 rfl rfl)
theorem dL_law_1173 : decode cL_law 1173 = .ok (.iload_n 3, 1) := dk_29 (dk_at dksL_law_42 4 rfl rfl)
theorem dL_law_1174 : decode cL_law 1174 = .ok (.iconst 1, 1) := dk_4 (dk_at dksL_law_42 5 rfl rfl)
theorem dL_law_1175 : decode cL_law 1175 = .ok (.iadd, 1) := dk_96 (dk_at dksL_law_42 6 rfl rfl)
theorem dL_law_1176 : decode cL_law 1176 = .ok (.iaload, 1) := dk_46 (dk_at dksL_law_42 7 rfl rfl)
theorem dL_law_1177 : decode cL_law 1177 = .ok (.aload_n 0, 1) := dk_42 (dk_at dksL_law_42 8 rfl rfl)
theorem dL_law_1178 : decode cL_law 1178 = .ok (.iload_n 3, 1) := dk_29 (dk_at dksL_law_42 9 rfl rfl)
theorem dL_law_1179 : decode cL_law 1179 = .ok (.iconst 2, 1) := dk_5 (dk_at dksL_law_42 10 rfl rfl)
theorem dL_law_1180 : decode cL_law 1180 = .ok (.iadd, 1) := dk_96 (dk_at dksL_law_42 11 rfl rfl)
theorem dL_law_1181 : decode cL_law 1181 = .ok (.iaload, 1) := dk_46 (dk_at dksL_law_42 12 rfl rfl)
theorem dL_law_1182 : decode cL_law 1182 = .ok (.invokevirtual 173, 3) := dk_182 0 173 (dk_at dksL_law_42 13 rfl rfl)
theorem dL_law_1185 : decode cL_law 1185 = .ok (.aload_n 2, 1) := dk_44 (dk_at dksL_law_42 16 rfl rfl)
theorem dL_law_1186 : decode cL_law 1186 = .ok (.aload_n 0, 1) := dk_42 (dk_at dksL_law_42 17 rfl rfl)
theorem dL_law_1187 : decode cL_law 1187 = .ok (.iload_n 3, 1) := dk_29 (dk_at dksL_law_42 18 rfl rfl)
theorem dL_law_1188 : decode cL_law 1188 = .ok (.iconst 1, 1) := dk_4 (dk_at dksL_law_42 19 rfl rfl)
theorem dL_law_1189 : decode cL_law 1189 = .ok (.iadd, 1) := dk_96 (dk_at dksL_law_42 20 rfl rfl)
theorem dL_law_1190 : decode cL_law 1190 = .ok (.iaload, 1) := dk_46 (dk_at dksL_law_42 21 rfl rfl)
theorem dL_law_1191 : decode cL_law 1191 = .ok (.aload_n 0, 1) := dk_42 (dk_at dksL_law_42 22 rfl rfl)
theorem dL_law_1192 : decode cL_law 1192 = .ok (.iload_n 3, 1) := dk_29 (dk_at dksL_law_42 23 rfl rfl)
theorem dL_law_1193 : decode cL_law 1193 = .ok (.iconst 2, 1) := dk_5 (dk_at dksL_law_43 0 rfl rfl)
theorem dL_law_1194 : decode cL_law 1194 = .ok (.iadd, 1) := dk_96 (dk_at dksL_law_43 1 rfl rfl)
theorem dL_law_1195 : decode cL_law 1195 = .ok (.iaload, 1) := dk_46 (dk_at dksL_law_43 2 rfl rfl)
theorem dL_law_1196 : decode cL_law 1196 = .ok (.invokevirtual 176, 3) := dk_182 0 176 (dk_at dksL_law_43 3 rfl rfl)
theorem dL_law_1199 : decode cL_law 1199 = .ok (.if_icmp .eq 202, 3) := dk_159 0 202 (dk_at dksL_law_43 6 rfl rfl)
theorem dL_law_1202 : decode cL_law 1202 = .ok (.iconst 0, 1) := dk_3 (dk_at dksL_law_43 9 rfl rfl)
theorem dL_law_1203 : decode cL_law 1203 = .ok (.ireturn, 1) := dk_172 (dk_at dksL_law_43 10 rfl rfl)
theorem dL_law_1204 : decode cL_law 1204 = .ok (.aload_n 1, 1) := dk_43 (dk_at dksL_law_43 11 rfl rfl)
theorem dL_law_1205 : decode cL_law 1205 = .ok (.aload_n 0, 1) := dk_42 (dk_at dksL_law_43 12 rfl rfl)
theorem dL_law_1206 : decode cL_law 1206 = .ok (.iload_n 3, 1) := dk_29 (dk_at dksL_law_43 13 rfl rfl)
theorem dL_law_1207 : decode cL_law 1207 = .ok (.iconst 1, 1) := dk_4 (dk_at dksL_law_43 14 rfl rfl)
theorem dL_law_1208 : decode cL_law 1208 = .ok (.iadd, 1) := dk_96 (dk_at dksL_law_43 15 rfl rfl)
theorem dL_law_1209 : decode cL_law 1209 = .ok (.iaload, 1) := dk_46 (dk_at dksL_law_43 16 rfl rfl)
theorem dL_law_1210 : decode cL_law 1210 = .ok (.aload_n 0, 1) := dk_42 (dk_at dksL_law_43 17 rfl rfl)
theorem dL_law_1211 : decode cL_law 1211 = .ok (.iload_n 3, 1) := dk_29 (dk_at dksL_law_43 18 rfl rfl)
theorem dL_law_1212 : decode cL_law 1212 = .ok (.iconst 2, 1) := dk_5 (dk_at dksL_law_43 19 rfl rfl)
theorem dL_law_1213 : decode cL_law 1213 = .ok (.iadd, 1) := dk_96 (dk_at dksL_law_43 20 rfl rfl)
theorem dL_law_1214 : decode cL_law 1214 = .ok (.iaload, 1) := dk_46 (dk_at dksL_law_43 21 rfl rfl)
theorem dL_law_1215 : decode cL_law 1215 = .ok (.invokevirtual 177, 3) := dk_182 0 177 (dk_at dksL_law_44 0 rfl rfl)
theorem dL_law_1218 : decode cL_law 1218 = .ok (.aload_n 2, 1) := dk_44 (dk_at dksL_law_44 3 rfl rfl)
theorem dL_law_1219 : decode cL_law 1219 = .ok (.aload_n 0, 1) := dk_42 (dk_at dksL_law_44 4 rfl rfl)
theorem dL_law_1220 : decode cL_law 1220 = .ok (.iload_n 3, 1) := dk_29 (dk_at dksL_law_44 5 rfl rfl)
theorem dL_law_1221 : decode cL_law 1221 = .ok (.iconst 1, 1) := dk_4 (dk_at dksL_law_44 6 rfl rfl)
theorem dL_law_1222 : decode cL_law 1222 = .ok (.iadd, 1) := dk_96 (dk_at dksL_law_44 7 rfl rfl)
theorem dL_law_1223 : decode cL_law 1223 = .ok (.iaload, 1) := dk_46 (dk_at dksL_law_44 8 rfl rfl)
theorem dL_law_1224 : decode cL_law 1224 = .ok (.aload_n 0, 1) := dk_42 (dk_at dksL_law_44 9 rfl rfl)
theorem dL_law_1225 : decode cL_law 1225 = .ok (.iload_n 3, 1) := dk_29 (dk_at dksL_law_44 10 rfl rfl)
theorem dL_law_1226 : decode cL_law 1226 = .ok (.iconst 2, 1) := dk_5 (dk_at dksL_law_44 11 rfl rfl)
theorem dL_law_1227 : decode cL_law 1227 = .ok (.iadd, 1) := dk_96 (dk_at dksL_law_44 12 rfl rfl)
theorem dL_law_1228 : decode cL_law 1228 = .ok (.iaload, 1) := dk_46 (dk_at dksL_law_44 13 rfl rfl)
theorem dL_law_1229 : decode cL_law 1229 = .ok (.invokevirtual 180, 3) := dk_182 0 180 (dk_at dksL_law_44 14 rfl rfl)
theorem dL_law_1232 : decode cL_law 1232 = .ok (.if_icmp .eq 169, 3) := dk_159 0 169 (dk_at dksL_law_44 17 rfl rfl)
theorem dL_law_1235 : decode cL_law 1235 = .ok (.iconst 0, 1) := dk_3 (dk_at dksL_law_44 20 rfl rfl)
theorem dL_law_1236 : decode cL_law 1236 = .ok (.ireturn, 1) := dk_172 (dk_at dksL_law_44 21 rfl rfl)
theorem dL_law_1237 : decode cL_law 1237 = .ok (.aload_n 1, 1) := dk_43 (dk_at dksL_law_44 22 rfl rfl)
theorem dL_law_1238 : decode cL_law 1238 = .ok (.aload_n 0, 1) := dk_42 (dk_at dksL_law_44 23 rfl rfl)
theorem dL_law_1239 : decode cL_law 1239 = .ok (.iload_n 3, 1) := dk_29 (dk_at dksL_law_45 0 rfl rfl)
theorem dL_law_1240 : decode cL_law 1240 = .ok (.iconst 1, 1) := dk_4 (dk_at dksL_law_45 1 rfl rfl)
theorem dL_law_1241 : decode cL_law 1241 = .ok (.iadd, 1) := dk_96 (dk_at dksL_law_45 2 rfl rfl)
theorem dL_law_1242 : decode cL_law 1242 = .ok (.iaload, 1) := dk_46 (dk_at dksL_law_45 3 rfl rfl)
theorem dL_law_1243 : decode cL_law 1243 = .ok (.aload_n 0, 1) := dk_42 (dk_at dksL_law_45 4 rfl rfl)
theorem dL_law_1244 : decode cL_law 1244 = .ok (.iload_n 3, 1) := dk_29 (dk_at dksL_law_45 5 rfl rfl)
theorem dL_law_1245 : decode cL_law 1245 = .ok (.iconst 2, 1) := dk_5 (dk_at dksL_law_45 6 rfl rfl)
theorem dL_law_1246 : decode cL_law 1246 = .ok (.iadd, 1) := dk_96 (dk_at dksL_law_45 7 rfl rfl)
theorem dL_law_1247 : decode cL_law 1247 = .ok (.iaload, 1) := dk_46 (dk_at dksL_law_45 8 rfl rfl)
theorem dL_law_1248 : decode cL_law 1248 = .ok (.invokevirtual 181, 3) := dk_182 0 181 (dk_at dksL_law_45 9 rfl rfl)
theorem dL_law_1251 : decode cL_law 1251 = .ok (.aload_n 2, 1) := dk_44 (dk_at dksL_law_45 12 rfl rfl)
theorem dL_law_1252 : decode cL_law 1252 = .ok (.aload_n 0, 1) := dk_42 (dk_at dksL_law_45 13 rfl rfl)
theorem dL_law_1253 : decode cL_law 1253 = .ok (.iload_n 3, 1) := dk_29 (dk_at dksL_law_45 14 rfl rfl)
theorem dL_law_1254 : decode cL_law 1254 = .ok (.iconst 1, 1) := dk_4 (dk_at dksL_law_45 15 rfl rfl)
theorem dL_law_1255 : decode cL_law 1255 = .ok (.iadd, 1) := dk_96 (dk_at dksL_law_45 16 rfl rfl)
theorem dL_law_1256 : decode cL_law 1256 = .ok (.iaload, 1) := dk_46 (dk_at dksL_law_45 17 rfl rfl)
theorem dL_law_1257 : decode cL_law 1257 = .ok (.aload_n 0, 1) := dk_42 (dk_at dksL_law_45 18 rfl rfl)
theorem dL_law_1258 : decode cL_law 1258 = .ok (.iload_n 3, 1) := dk_29 (dk_at dksL_law_45 19 rfl rfl)
theorem dL_law_1259 : decode cL_law 1259 = .ok (.iconst 2, 1) := dk_5 (dk_at dksL_law_45 20 rfl rfl)
theorem dL_law_1260 : decode cL_law 1260 = .ok (.iadd, 1) := dk_96 (dk_at dksL_law_45 21 rfl rfl)
theorem dL_law_1261 : decode cL_law 1261 = .ok (.iaload, 1) := dk_46 (dk_at dksL_law_45 22 rfl rfl)
theorem dL_law_1262 : decode cL_law 1262 = .ok (.invokevirtual 184, 3) := dk_182 0 184 (dk_at dksL_law_46 0 rfl rfl)
theorem dL_law_1265 : decode cL_law 1265 = .ok (.if_icmp .eq 136, 3) := dk_159 0 136 (dk_at dksL_law_46 3 rfl rfl)
theorem dL_law_1268 : decode cL_law 1268 = .ok (.iconst 0, 1) := dk_3 (dk_at dksL_law_46 6 rfl rfl)
theorem dL_law_1269 : decode cL_law 1269 = .ok (.ireturn, 1) := dk_172 (dk_at dksL_law_46 7 rfl rfl)
theorem dL_law_1270 : decode cL_law 1270 = .ok (.aload_n 1, 1) := dk_43 (dk_at dksL_law_46 8 rfl rfl)
theorem dL_law_1271 : decode cL_law 1271 = .ok (.aload_n 0, 1) := dk_42 (dk_at dksL_law_46 9 rfl rfl)
theorem dL_law_1272 : decode cL_law 1272 = .ok (.iload_n 3, 1) := dk_29 (dk_at dksL_law_46 10 rfl rfl)
theorem dL_law_1273 : decode cL_law 1273 = .ok (.iconst 1, 1) := dk_4 (dk_at dksL_law_46 11 rfl rfl)
theorem dL_law_1274 : decode cL_law 1274 = .ok (.iadd, 1) := dk_96 (dk_at dksL_law_46 12 rfl rfl)
theorem dL_law_1275 : decode cL_law 1275 = .ok (.iaload, 1) := dk_46 (dk_at dksL_law_46 13 rfl rfl)
theorem dL_law_1276 : decode cL_law 1276 = .ok (.aload_n 0, 1) := dk_42 (dk_at dksL_law_46 14 rfl rfl)
theorem dL_law_1277 : decode cL_law 1277 = .ok (.iload_n 3, 1) := dk_29 (dk_at dksL_law_46 15 rfl rfl)
theorem dL_law_1278 : decode cL_law 1278 = .ok (.iconst 2, 1) := dk_5 (dk_at dksL_law_46 16 rfl rfl)
theorem dL_law_1279 : decode cL_law 1279 = .ok (.iadd, 1) := dk_96 (dk_at dksL_law_46 17 rfl rfl)
theorem dL_law_1280 : decode cL_law 1280 = .ok (.iaload, 1) := dk_46 (dk_at dksL_law_46 18 rfl rfl)
theorem dL_law_1281 : decode cL_law 1281 = .ok (.aload_n 0, 1) := dk_42 (dk_at dksL_law_46 19 rfl rfl)
theorem dL_law_1282 : decode cL_law 1282 = .ok (.iload_n 3, 1) := dk_29 (dk_at dksL_law_46 20 rfl rfl)
theorem dL_law_1283 : decode cL_law 1283 = .ok (.iconst 3, 1) := dk_6 (dk_at dksL_law_46 21 rfl rfl)
theorem dL_law_1284 : decode cL_law 1284 = .ok (.iadd, 1) := dk_96 (dk_at dksL_law_46 22 rfl rfl)
theorem dL_law_1285 : decode cL_law 1285 = .ok (.iaload, 1) := dk_46 (dk_at dksL_law_46 23 rfl rfl)
theorem dL_law_1286 : decode cL_law 1286 = .ok (.invokevirtual 185, 3) := dk_182 0 185 (dk_at dksL_law_47 0 rfl rfl)
theorem dL_law_1289 : decode cL_law 1289 = .ok (.aload_n 2, 1) := dk_44 (dk_at dksL_law_47 3 rfl rfl)
theorem dL_law_1290 : decode cL_law 1290 = .ok (.aload_n 0, 1) := dk_42 (dk_at dksL_law_47 4 rfl rfl)
theorem dL_law_1291 : decode cL_law 1291 = .ok (.iload_n 3, 1) := dk_29 (dk_at dksL_law_47 5 rfl rfl)
theorem dL_law_1292 : decode cL_law 1292 = .ok (.iconst 1, 1) := dk_4 (dk_at dksL_law_47 6 rfl rfl)
theorem dL_law_1293 : decode cL_law 1293 = .ok (.iadd, 1) := dk_96 (dk_at dksL_law_47 7 rfl rfl)
theorem dL_law_1294 : decode cL_law 1294 = .ok (.iaload, 1) := dk_46 (dk_at dksL_law_47 8 rfl rfl)
theorem dL_law_1295 : decode cL_law 1295 = .ok (.aload_n 0, 1) := dk_42 (dk_at dksL_law_47 9 rfl rfl)
theorem dL_law_1296 : decode cL_law 1296 = .ok (.iload_n 3, 1) := dk_29 (dk_at dksL_law_47 10 rfl rfl)
theorem dL_law_1297 : decode cL_law 1297 = .ok (.iconst 2, 1) := dk_5 (dk_at dksL_law_47 11 rfl rfl)
theorem dL_law_1298 : decode cL_law 1298 = .ok (.iadd, 1) := dk_96 (dk_at dksL_law_47 12 rfl rfl)
theorem dL_law_1299 : decode cL_law 1299 = .ok (.iaload, 1) := dk_46 (dk_at dksL_law_47 13 rfl rfl)
theorem dL_law_1300 : decode cL_law 1300 = .ok (.aload_n 0, 1) := dk_42 (dk_at dksL_law_47 14 rfl rfl)
theorem dL_law_1301 : decode cL_law 1301 = .ok (.iload_n 3, 1) := dk_29 (dk_at dksL_law_47 15 rfl rfl)
theorem dL_law_1302 : decode cL_law 1302 = .ok (.iconst 3, 1) := dk_6 (dk_at dksL_law_47 16 rfl rfl)
theorem dL_law_1303 : decode cL_law 1303 = .ok (.iadd, 1) := dk_96 (dk_at dksL_law_47 17 rfl rfl)
theorem dL_law_1304 : decode cL_law 1304 = .ok (.iaload, 1) := dk_46 (dk_at dksL_law_47 18 rfl rfl)
theorem dL_law_1305 : decode cL_law 1305 = .ok (.invokevirtual 188, 3) := dk_182 0 188 (dk_at dksL_law_47 19 rfl rfl)
theorem dL_law_1308 : decode cL_law 1308 = .ok (.if_icmp .eq 93, 3) := dk_159 0 93 (dk_at dksL_law_48 0 rfl rfl)
theorem dL_law_1311 : decode cL_law 1311 = .ok (.iconst 0, 1) := dk_3 (dk_at dksL_law_48 3 rfl rfl)
theorem dL_law_1312 : decode cL_law 1312 = .ok (.ireturn, 1) := dk_172 (dk_at dksL_law_48 4 rfl rfl)
theorem dL_law_1313 : decode cL_law 1313 = .ok (.aload_n 1, 1) := dk_43 (dk_at dksL_law_48 5 rfl rfl)
theorem dL_law_1314 : decode cL_law 1314 = .ok (.invokevirtual 189, 3) := dk_182 0 189 (dk_at dksL_law_48 6 rfl rfl)
theorem dL_law_1317 : decode cL_law 1317 = .ok (.aload_n 2, 1) := dk_44 (dk_at dksL_law_48 9 rfl rfl)
theorem dL_law_1318 : decode cL_law 1318 = .ok (.invokevirtual 192, 3) := dk_182 0 192 (dk_at dksL_law_48 10 rfl rfl)
theorem dL_law_1321 : decode cL_law 1321 = .ok (.if_icmp .eq 80, 3) := dk_159 0 80 (dk_at dksL_law_48 13 rfl rfl)
theorem dL_law_1324 : decode cL_law 1324 = .ok (.iconst 0, 1) := dk_3 (dk_at dksL_law_48 16 rfl rfl)
theorem dL_law_1325 : decode cL_law 1325 = .ok (.ireturn, 1) := dk_172 (dk_at dksL_law_48 17 rfl rfl)
theorem dL_law_1326 : decode cL_law 1326 = .ok (.aload_n 1, 1) := dk_43 (dk_at dksL_law_48 18 rfl rfl)
theorem dL_law_1327 : decode cL_law 1327 = .ok (.aload_n 0, 1) := dk_42 (dk_at dksL_law_48 19 rfl rfl)
theorem dL_law_1328 : decode cL_law 1328 = .ok (.iload_n 3, 1) := dk_29 (dk_at dksL_law_48 20 rfl rfl)
theorem dL_law_1329 : decode cL_law 1329 = .ok (.iconst 1, 1) := dk_4 (dk_at dksL_law_48 21 rfl rfl)
theorem dL_law_1330 : decode cL_law 1330 = .ok (.iadd, 1) := dk_96 (dk_at dksL_law_48 22 rfl rfl)
theorem dL_law_1331 : decode cL_law 1331 = .ok (.iaload, 1) := dk_46 (dk_at dksL_law_48 23 rfl rfl)
theorem dL_law_1332 : decode cL_law 1332 = .ok (.invokevirtual 193, 3) := dk_182 0 193 (dk_at dksL_law_49 0 rfl rfl)
theorem dL_law_1335 : decode cL_law 1335 = .ok (.aload_n 2, 1) := dk_44 (dk_at dksL_law_49 3 rfl rfl)
theorem dL_law_1336 : decode cL_law 1336 = .ok (.aload_n 0, 1) := dk_42 (dk_at dksL_law_49 4 rfl rfl)
theorem dL_law_1337 : decode cL_law 1337 = .ok (.iload_n 3, 1) := dk_29 (dk_at dksL_law_49 5 rfl rfl)
theorem dL_law_1338 : decode cL_law 1338 = .ok (.iconst 1, 1) := dk_4 (dk_at dksL_law_49 6 rfl rfl)
theorem dL_law_1339 : decode cL_law 1339 = .ok (.iadd, 1) := dk_96 (dk_at dksL_law_49 7 rfl rfl)
theorem dL_law_1340 : decode cL_law 1340 = .ok (.iaload, 1) := dk_46 (dk_at dksL_law_49 8 rfl rfl)
theorem dL_law_1341 : decode cL_law 1341 = .ok (.invokevirtual 196, 3) := dk_182 0 196 (dk_at dksL_law_49 9 rfl rfl)
theorem dL_law_1344 : decode cL_law 1344 = .ok (.if_icmp .eq 57, 3) := dk_159 0 57 (dk_at dksL_law_49 12 rfl rfl)
theorem dL_law_1347 : decode cL_law 1347 = .ok (.iconst 0, 1) := dk_3 (dk_at dksL_law_49 15 rfl rfl)
theorem dL_law_1348 : decode cL_law 1348 = .ok (.ireturn, 1) := dk_172 (dk_at dksL_law_49 16 rfl rfl)
theorem dL_law_1349 : decode cL_law 1349 = .ok (.aload_n 1, 1) := dk_43 (dk_at dksL_law_49 17 rfl rfl)
theorem dL_law_1350 : decode cL_law 1350 = .ok (.invokevirtual 197, 3) := dk_182 0 197 (dk_at dksL_law_49 18 rfl rfl)
theorem dL_law_1353 : decode cL_law 1353 = .ok (.aload_n 2, 1) := dk_44 (dk_at dksL_law_49 21 rfl rfl)
theorem dL_law_1354 : decode cL_law 1354 = .ok (.invokevirtual 200, 3) := dk_182 0 200 (dk_at dksL_law_50 0 rfl rfl)
theorem dL_law_1357 : decode cL_law 1357 = .ok (.if_icmp .eq 44, 3) := dk_159 0 44 (dk_at dksL_law_50 3 rfl rfl)
theorem dL_law_1360 : decode cL_law 1360 = .ok (.iconst 0, 1) := dk_3 (dk_at dksL_law_50 6 rfl rfl)
theorem dL_law_1361 : decode cL_law 1361 = .ok (.ireturn, 1) := dk_172 (dk_at dksL_law_50 7 rfl rfl)
theorem dL_law_1362 : decode cL_law 1362 = .ok (.aload_n 1, 1) := dk_43 (dk_at dksL_law_50 8 rfl rfl)
theorem dL_law_1363 : decode cL_law 1363 = .ok (.invokevirtual 201, 3) := dk_182 0 201 (dk_at dksL_law_50 9 rfl rfl)
theorem dL_law_1366 : decode cL_law 1366 = .ok (.aload_n 2, 1) := dk_44 (dk_at dksL_law_50 12 rfl rfl)
theorem dL_law_1367 : decode cL_law 1367 = .ok (.invokevirtual 204, 3) := dk_182 0 204 (dk_at dksL_law_50 13 rfl rfl)
theorem dL_law_1370 : decode cL_law 1370 = .ok (.if_icmp .eq 31, 3) := dk_159 0 31 (dk_at dksL_law_50 16 rfl rfl)
theorem dL_law_1373 : decode cL_law 1373 = .ok (.iconst 0, 1) := dk_3 (dk_at dksL_law_50 19 rfl rfl)
theorem dL_law_1374 : decode cL_law 1374 = .ok (.ireturn, 1) := dk_172 (dk_at dksL_law_50 20 rfl rfl)
theorem dL_law_1375 : decode cL_law 1375 = .ok (.aload_n 1, 1) := dk_43 (dk_at dksL_law_50 21 rfl rfl)
theorem dL_law_1376 : decode cL_law 1376 = .ok (.invokevirtual 205, 3) := dk_182 0 205 (dk_at dksL_law_51 0 rfl rfl)
theorem dL_law_1379 : decode cL_law 1379 = .ok (.aload_n 2, 1) := dk_44 (dk_at dksL_law_51 3 rfl rfl)
theorem dL_law_1380 : decode cL_law 1380 = .ok (.invokevirtual 208, 3) := dk_182 0 208 (dk_at dksL_law_51 4 rfl rfl)
theorem dL_law_1383 : decode cL_law 1383 = .ok (.if_icmp .eq 18, 3) := dk_159 0 18 (dk_at dksL_law_51 7 rfl rfl)
theorem dL_law_1386 : decode cL_law 1386 = .ok (.iconst 0, 1) := dk_3 (dk_at dksL_law_51 10 rfl rfl)
theorem dL_law_1387 : decode cL_law 1387 = .ok (.ireturn, 1) := dk_172 (dk_at dksL_law_51 11 rfl rfl)
theorem dL_law_1388 : decode cL_law 1388 = .ok (.aload_n 1, 1) := dk_43 (dk_at dksL_law_51 12 rfl rfl)
theorem dL_law_1389 : decode cL_law 1389 = .ok (.invokevirtual 209, 3) := dk_182 0 209 (dk_at dksL_law_51 13 rfl rfl)
theorem dL_law_1392 : decode cL_law 1392 = .ok (.aload_n 2, 1) := dk_44 (dk_at dksL_law_51 16 rfl rfl)
theorem dL_law_1393 : decode cL_law 1393 = .ok (.invokevirtual 212, 3) := dk_182 0 212 (dk_at dksL_law_51 17 rfl rfl)
theorem dL_law_1396 : decode cL_law 1396 = .ok (.if_icmp .eq 5, 3) := dk_159 0 5 (dk_at dksL_law_51 20 rfl rfl)
theorem dL_law_1399 : decode cL_law 1399 = .ok (.iconst 0, 1) := dk_3 (dk_at dksL_law_51 23 rfl rfl)
theorem dL_law_1400 : decode cL_law 1400 = .ok (.ireturn, 1) := dk_172 (dk_at dksL_law_52 0 rfl rfl)
theorem dL_law_1401 : decode cL_law 1401 = .ok (.iinc 3 4, 3) := dk_132 3 4 (dk_at dksL_law_52 1 rfl rfl)
theorem dL_law_1404 : decode cL_law 1404 = .ok (.goto (-1386), 3) := dk_167 250 150 (dk_at dksL_law_52 4 rfl rfl)
theorem dL_law_1407 : decode cL_law 1407 = .ok (.iconst 1, 1) := dk_4 (dk_at dksL_law_52 7 rfl rfl)
theorem dL_law_1408 : decode cL_law 1408 = .ok (.ireturn, 1) := dk_172 (dk_at dksL_law_52 8 rfl rfl)

