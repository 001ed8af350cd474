set_option maxRecDepth 100000
/-! java/util/AbstractMap -/
set_option maxRecDepth 100000
def RJ0 : String := "java/util/AbstractMap"
abbrev cJ0_init : ByteArray := prog_34_method_1_code
def yJ0_init : MethodName := ⟨RJ0, "<init>", "()V"⟩
theorem dJ0_init_0 : decode cJ0_init 0 = .ok (.aload_n 0, 1) := by decide +kernel
theorem dJ0_init_1 : decode cJ0_init 1 = .ok (.invokespecial 1, 3) := by decide +kernel
theorem dJ0_init_4 : decode cJ0_init 4 = .ok (.return_, 1) := by decide +kernel

/-! java/util/TreeMap -/
set_option maxRecDepth 100000
def RJ1 : String := "java/util/TreeMap"
def TJ1 : u_T := fun k => match k with
  | 0 => ("java/util/AbstractMap", "keySet", "Ljava/util/Set;", false)
  | 1 => ("java/util/AbstractMap", "values", "Ljava/util/Collection;", false)
  | 2 => ("java/util/TreeMap", "comparator", "Ljava/util/Comparator;", true)
  | 3 => ("java/util/TreeMap", "root", "Ljava/util/TreeMap$Entry;", false)
  | 4 => ("java/util/TreeMap", "size", "I", false)
  | 5 => ("java/util/TreeMap", "modCount", "I", false)
  | 6 => ("java/util/TreeMap", "entrySet", "Ljava/util/TreeMap$EntrySet;", false)
  | 7 => ("java/util/TreeMap", "navigableKeySet", "Ljava/util/TreeMap$KeySet;", false)
  | _ => ("java/util/TreeMap", "descendingMap", "Ljava/util/NavigableMap;", false)
def tyJ1 : Nat → FieldType := fun k => match k with
  | 0 => .object "java/util/Set"
  | 1 => .object "java/util/Collection"
  | 2 => .object "java/util/Comparator"
  | 3 => .object "java/util/TreeMap$Entry"
  | 4 => .int
  | 5 => .int
  | 6 => .object "java/util/TreeMap$EntrySet"
  | 7 => .object "java/util/TreeMap$KeySet"
  | _ => .object "java/util/NavigableMap"
abbrev wsJ10 : List Cond := u_ws RJ1 TJ1 9
theorem nmJ1 : ∀ a, a < 9 → ∀ b, b < 9 → a ≠ b → (TJ1 a).2.1 ≠ (TJ1 b).2.1 := by decide +kernel
theorem tyJ1_ok : ∀ k, k < 9 → parseFieldDescriptor (TJ1 k).2.2.1 = some (tyJ1 k) := by decide +kernel
abbrev cJ1_init : ByteArray := prog_57_method_1_code
def yJ1_init : MethodName := ⟨RJ1, "<init>", "()V"⟩
def dkwJ1_init_0 : List UInt8 := [42, 183, 0, 1, 42, 3, 181, 0, 7, 42, 3, 181, 0, 13, 42, 1, 181, 0, 16, 177]
abbrev dktJ1_init_0 : List UInt8 := dkwJ1_init_0 ++ []
theorem dksJ1_init_0 : cJ1_init.data.toList.drop 0 = dktJ1_init_0 := by decide +kernel
theorem dJ1_init_0 : decode cJ1_init 0 = .ok (.aload_n 0, 1) := dk_42 (dk_at dksJ1_init_0 0 rfl rfl)
theorem dJ1_init_1 : decode cJ1_init 1 = .ok (.invokespecial 1, 3) := dk_183 0 1 (dk_at dksJ1_init_0 1 rfl rfl)
theorem dJ1_init_4 : decode cJ1_init 4 = .ok (.aload_n 0, 1) := dk_42 (dk_at dksJ1_init_0 4 rfl rfl)
theorem dJ1_init_5 : decode cJ1_init 5 = .ok (.iconst 0, 1) := dk_3 (dk_at dksJ1_init_0 5 rfl rfl)
theorem dJ1_init_6 : decode cJ1_init 6 = .ok (.putfield 7, 3) := dk_181 0 7 (dk_at dksJ1_init_0 6 rfl rfl)
theorem dJ1_init_9 : decode cJ1_init 9 = .ok (.aload_n 0, 1) := dk_42 (dk_at dksJ1_init_0 9 rfl rfl)
theorem dJ1_init_10 : decode cJ1_init 10 = .ok (.iconst 0, 1) := dk_3 (dk_at dksJ1_init_0 10 rfl rfl)
theorem dJ1_init_11 : decode cJ1_init 11 = .ok (.putfield 13, 3) := dk_181 0 13 (dk_at dksJ1_init_0 11 rfl rfl)
theorem dJ1_init_14 : decode cJ1_init 14 = .ok (.aload_n 0, 1) := dk_42 (dk_at dksJ1_init_0 14 rfl rfl)
theorem dJ1_init_15 : decode cJ1_init 15 = .ok (.aconst_null, 1) := dk_1 (dk_at dksJ1_init_0 15 rfl rfl)
theorem dJ1_init_16 : decode cJ1_init 16 = .ok (.putfield 16, 3) := dk_181 0 16 (dk_at dksJ1_init_0 16 rfl rfl)
theorem dJ1_init_19 : decode cJ1_init 19 = .ok (.return_, 1) := dk_177 (dk_at dksJ1_init_0 19 rfl rfl)
abbrev cJ1_clear : ByteArray := prog_57_method_35_code
def yJ1_clear : MethodName := ⟨RJ1, "clear", "()V"⟩
def dkwJ1_clear_0 : List UInt8 := [42, 89, 180, 0, 13, 4, 96, 181, 0, 13, 42, 3, 181, 0, 7, 42, 1, 181, 0, 101, 177]
abbrev dktJ1_clear_0 : List UInt8 := dkwJ1_clear_0 ++ []
theorem dksJ1_clear_0 : cJ1_clear.data.toList.drop 0 = dktJ1_clear_0 := by decide +kernel
theorem dJ1_clear_0 : decode cJ1_clear 0 = .ok (.aload_n 0, 1) := dk_42 (dk_at dksJ1_clear_0 0 rfl rfl)
theorem dJ1_clear_1 : decode cJ1_clear 1 = .ok (.dup, 1) := dk_89 (dk_at dksJ1_clear_0 1 rfl rfl)
theorem dJ1_clear_2 : decode cJ1_clear 2 = .ok (.getfield 13, 3) := dk_180 0 13 (dk_at dksJ1_clear_0 2 rfl rfl)
theorem dJ1_clear_5 : decode cJ1_clear 5 = .ok (.iconst 1, 1) := dk_4 (dk_at dksJ1_clear_0 5 rfl rfl)
theorem dJ1_clear_6 : decode cJ1_clear 6 = .ok (.iadd, 1) := dk_96 (dk_at dksJ1_clear_0 6 rfl rfl)
theorem dJ1_clear_7 : decode cJ1_clear 7 = .ok (.putfield 13, 3) := dk_181 0 13 (dk_at dksJ1_clear_0 7 rfl rfl)
theorem dJ1_clear_10 : decode cJ1_clear 10 = .ok (.aload_n 0, 1) := dk_42 (dk_at dksJ1_clear_0 10 rfl rfl)
theorem dJ1_clear_11 : decode cJ1_clear 11 = .ok (.iconst 0, 1) := dk_3 (dk_at dksJ1_clear_0 11 rfl rfl)
theorem dJ1_clear_12 : decode cJ1_clear 12 = .ok (.putfield 7, 3) := dk_181 0 7 (dk_at dksJ1_clear_0 12 rfl rfl)
theorem dJ1_clear_15 : decode cJ1_clear 15 = .ok (.aload_n 0, 1) := dk_42 (dk_at dksJ1_clear_0 15 rfl rfl)
theorem dJ1_clear_16 : decode cJ1_clear 16 = .ok (.aconst_null, 1) := dk_1 (dk_at dksJ1_clear_0 16 rfl rfl)
theorem dJ1_clear_17 : decode cJ1_clear 17 = .ok (.putfield 101, 3) := dk_181 0 101 (dk_at dksJ1_clear_0 17 rfl rfl)
theorem dJ1_clear_20 : decode cJ1_clear 20 = .ok (.return_, 1) := dk_177 (dk_at dksJ1_clear_0 20 rfl rfl)
abbrev cJ1_size : ByteArray := prog_57_method_5_code
def yJ1_size : MethodName := ⟨RJ1, "size", "()I"⟩
theorem dJ1_size_0 : decode cJ1_size 0 = .ok (.aload_n 0, 1) := by decide +kernel
theorem dJ1_size_1 : decode cJ1_size 1 = .ok (.getfield 7, 3) := by decide +kernel
theorem dJ1_size_4 : decode cJ1_size 4 = .ok (.ireturn, 1) := by decide +kernel
abbrev cJ1_put : ByteArray := prog_57_method_21_code
def yJ1_put : MethodName := ⟨RJ1, "put", "(Ljava/lang/Object;Ljava/lang/Object;)Ljava/lang/Object;"⟩
def dkwJ1_put_0 : List UInt8 := [42, 43, 44, 4, 182, 0, 127, 176]
abbrev dktJ1_put_0 : List UInt8 := dkwJ1_put_0 ++ []
theorem dksJ1_put_0 : cJ1_put.data.toList.drop 0 = dktJ1_put_0 := by decide +kernel
theorem dJ1_put_0 : decode cJ1_put 0 = .ok (.aload_n 0, 1) := dk_42 (dk_at dksJ1_put_0 0 rfl rfl)
theorem dJ1_put_1 : decode cJ1_put 1 = .ok (.aload_n 1, 1) := dk_43 (dk_at dksJ1_put_0 1 rfl rfl)
theorem dJ1_put_2 : decode cJ1_put 2 = .ok (.aload_n 2, 1) := dk_44 (dk_at dksJ1_put_0 2 rfl rfl)
theorem dJ1_put_3 : decode cJ1_put 3 = .ok (.iconst 1, 1) := dk_4 (dk_at dksJ1_put_0 3 rfl rfl)
theorem dJ1_put_4 : decode cJ1_put 4 = .ok (.invokevirtual 127, 3) := dk_182 0 127 (dk_at dksJ1_put_0 4 rfl rfl)
theorem dJ1_put_7 : decode cJ1_put 7 = .ok (.areturn, 1) := dk_176 (dk_at dksJ1_put_0 7 rfl rfl)
abbrev cJ1_put_2 : ByteArray := prog_57_method_31_code
def yJ1_put_2 : MethodName := ⟨RJ1, "put", "(Ljava/lang/Object;Ljava/lang/Object;Z)Ljava/lang/Object;"⟩
def dkwJ1_put_2_9 : List UInt8 := [4, 167, 0, 4, 3, 182, 0, 139, 1, 176]
abbrev dktJ1_put_2_9 : List UInt8 := dkwJ1_put_2_9 ++ []
def dkwJ1_put_2_8 : List UInt8 := [25, 4, 44, 181, 0, 58, 25, 9, 176, 25, 4, 199, 255, 181, 42, 43, 44, 25, 6, 21, 5, 156, 0, 7]
abbrev dktJ1_put_2_8 : List UInt8 := dkwJ1_put_2_8 ++ dktJ1_put_2_9
def dkwJ1_put_2_7 : List UInt8 := [180, 0, 114, 58, 4, 167, 0, 28, 25, 4, 180, 0, 58, 58, 9, 29, 154, 0, 8, 25, 9, 199, 0, 9]
abbrev dktJ1_put_2_7 : List UInt8 := dkwJ1_put_2_7 ++ dktJ1_put_2_8
def dkwJ1_put_2_6 : List UInt8 := [21, 5, 156, 0, 13, 25, 4, 180, 0, 111, 58, 4, 167, 0, 43, 21, 5, 158, 0, 13, 25, 4]
abbrev dktJ1_put_2_6 : List UInt8 := dkwJ1_put_2_6 ++ dktJ1_put_2_7
def dkwJ1_put_2_5 : List UInt8 := [192, 0, 99, 58, 8, 25, 4, 58, 6, 25, 8, 25, 4, 180, 0, 105, 185, 0, 107, 2, 0, 54, 5]
abbrev dktJ1_put_2_5 : List UInt8 := dkwJ1_put_2_5 ++ dktJ1_put_2_6
def dkwJ1_put_2_4 : List UInt8 := [25, 4, 44, 181, 0, 58, 25, 8, 176, 25, 4, 199, 255, 180, 167, 0, 92, 43, 184, 0, 95, 87, 43]
abbrev dktJ1_put_2_4 : List UInt8 := dkwJ1_put_2_4 ++ dktJ1_put_2_5
def dkwJ1_put_2_3 : List UInt8 := [180, 0, 114, 58, 4, 167, 0, 28, 25, 4, 180, 0, 58, 58, 8, 29, 154, 0, 8, 25, 8, 199, 0, 9]
abbrev dktJ1_put_2_3 : List UInt8 := dkwJ1_put_2_3 ++ dktJ1_put_2_4
def dkwJ1_put_2_2 : List UInt8 := [54, 5, 21, 5, 156, 0, 13, 25, 4, 180, 0, 111, 58, 4, 167, 0, 43, 21, 5, 158, 0, 13, 25, 4]
abbrev dktJ1_put_2_2 : List UInt8 := dkwJ1_put_2_2 ++ dktJ1_put_2_3
def dkwJ1_put_2_1 : List UInt8 := [58, 7, 25, 7, 198, 0, 85, 25, 4, 58, 6, 25, 7, 43, 25, 4, 180, 0, 105, 185, 0, 117, 3, 0]
abbrev dktJ1_put_2_1 : List UInt8 := dkwJ1_put_2_1 ++ dktJ1_put_2_2
def dkwJ1_put_2_0 : List UInt8 := [42, 180, 0, 101, 58, 4, 25, 4, 199, 0, 11, 42, 43, 44, 182, 0, 135, 1, 176, 42, 180, 0, 16]
abbrev dktJ1_put_2_0 : List UInt8 := dkwJ1_put_2_0 ++ dktJ1_put_2_1
theorem dksJ1_put_2_0 : cJ1_put_2.data.toList.drop 0 = dktJ1_put_2_0 := by decide +kernel
theorem dksJ1_put_2_1 : cJ1_put_2.data.toList.drop 23 = dktJ1_put_2_1 := dk_seg dksJ1_put_2_0 23 rfl rfl
theorem dksJ1_put_2_2 : cJ1_put_2.data.toList.drop 47 = dktJ1_put_2_2 := dk_seg dksJ1_put_2_1 24 rfl rfl
theorem dksJ1_put_2_3 : cJ1_put_2.data.toList.drop 71 = dktJ1_put_2_3 := dk_seg dksJ1_put_2_2 24 rfl rfl
theorem dksJ1_put_2_4 : cJ1_put_2.data.toList.drop 95 = dktJ1_put_2_4 := dk_seg dksJ1_put_2_3 24 rfl rfl
theorem dksJ1_put_2_5 : cJ1_put_2.data.toList.drop 118 = dktJ1_put_2_5 := dk_seg dksJ1_put_2_4 23 rfl rfl
theorem dksJ1_put_2_6 : cJ1_put_2.data.toList.drop 141 = dktJ1_put_2_6 := dk_seg dksJ1_put_2_5 23 rfl rfl
theorem dksJ1_put_2_7 : cJ1_put_2.data.toList.drop 163 = dktJ1_put_2_7 := dk_seg dksJ1_put_2_6 22 rfl rfl
theorem dksJ1_put_2_8 : cJ1_put_2.data.toList.drop 187 = dktJ1_put_2_8 := dk_seg dksJ1_put_2_7 24 rfl rfl
theorem dksJ1_put_2_9 : cJ1_put_2.data.toList.drop 211 = dktJ1_put_2_9 := dk_seg dksJ1_put_2_8 24 rfl rfl
theorem dJ1_put_2_0 : decode cJ1_put_2 0 = .ok (.aload_n 0, 1) := dk_42 (dk_at dksJ1_put_2_0 0 rfl rfl)
theorem dJ1_put_2_1 : decode cJ1_put_2 1 = .ok (.getfield 101, 3) := dk_180 0 101 (dk_at dksJ1_put_2_0 1 rfl rfl)
theorem dJ1_put_2_4 : decode cJ1_put_2 4 = .ok (.astore 4, 2) := dk_58 4 (dk_at dksJ1_put_2_0 4 rfl rfl)
theorem dJ1_put_2_6 : decode cJ1_put_2 6 = .ok (.aload 4, 2) := dk_25 4 (dk_at dksJ1_put_2_0 6 rfl rfl)
theorem dJ1_put_2_8 : decode cJ1_put_2 8 = .ok (.ifnonnull 11, 3) := dk_199 0 11 (dk_at dksJ1_put_2_0 8 rfl rfl)
theorem dJ1_put_2_11 : decode cJ1_put_2 11 = .ok (.aload_n 0, 1) := dk_42 (dk_at dksJ1_put_2_0 11 rfl rfl)
theorem dJ1_put_2_12 : decode cJ1_put_2 12 = .ok (.aload_n 1, 1) := dk_43 (dk_at dksJ1_put_2_0 12 rfl rfl)
theorem dJ1_put_2_13 : decode cJ1_put_2 13 = .ok (.aload_n 2, 1) := dk_44 (dk_at dksJ1_put_2_0 13 rfl rfl)
theorem dJ1_put_2_14 : decode cJ1_put_2 14 = .ok (.invokevirtual 135, 3) := dk_182 0 135 (dk_at dksJ1_put_2_0 14 rfl rfl)
theorem dJ1_put_2_17 : decode cJ1_put_2 17 = .ok (.aconst_null, 1) := dk_1 (dk_at dksJ1_put_2_0 17 rfl rfl)
theorem dJ1_put_2_18 : decode cJ1_put_2 18 = .ok (.areturn, 1) := dk_176 (dk_at dksJ1_put_2_0 18 rfl rfl)
theorem dJ1_put_2_19 : decode cJ1_put_2 19 = .ok (.aload_n 0, 1) := dk_42 (dk_at dksJ1_put_2_0 19 rfl rfl)
theorem dJ1_put_2_20 : decode cJ1_put_2 20 = .ok (.getfield 16, 3) := dk_180 0 16 (dk_at dksJ1_put_2_0 20 rfl rfl)
theorem dJ1_put_2_23 : decode cJ1_put_2 23 = .ok (.astore 7, 2) := dk_58 7 (dk_at dksJ1_put_2_1 0 rfl rfl)
theorem dJ1_put_2_25 : decode cJ1_put_2 25 = .ok (.aload 7, 2) := dk_25 7 (dk_at dksJ1_put_2_1 2 rfl rfl)
theorem dJ1_put_2_27 : decode cJ1_put_2 27 = .ok (.ifnull 85, 3) := dk_198 0 85 (dk_at dksJ1_put_2_1 4 rfl rfl)
theorem dJ1_put_2_30 : decode cJ1_put_2 30 = .ok (.aload 4, 2) := dk_25 4 (dk_at dksJ1_put_2_1 7 rfl rfl)
theorem dJ1_put_2_32 : decode cJ1_put_2 32 = .ok (.astore 6, 2) := dk_58 6 (dk_at dksJ1_put_2_1 9 rfl rfl)
theorem dJ1_put_2_34 : decode cJ1_put_2 34 = .ok (.aload 7, 2) := dk_25 7 (dk_at dksJ1_put_2_1 11 rfl rfl)
theorem dJ1_put_2_36 : decode cJ1_put_2 36 = .ok (.aload_n 1, 1) := dk_43 (dk_at dksJ1_put_2_1 13 rfl rfl)
theorem dJ1_put_2_37 : decode cJ1_put_2 37 = .ok (.aload 4, 2) := dk_25 4 (dk_at dksJ1_put_2_1 14 rfl rfl)
theorem dJ1_put_2_39 : decode cJ1_put_2 39 = .ok (.getfield 105, 3) := dk_180 0 105 (dk_at dksJ1_put_2_1 16 rfl rfl)
theorem dJ1_put_2_42 : decode cJ1_put_2 42 = .ok (.invokeinterface 117 3, 5) := by decide +kernel
theorem dJ1_put_2_47 : decode cJ1_put_2 47 = .ok (.istore 5, 2) := dk_54 5 (dk_at dksJ1_put_2_2 0 rfl rfl)
theorem dJ1_put_2_49 : decode cJ1_put_2 49 = .ok (.iload 5, 2) := dk_21 5 (dk_at dksJ1_put_2_2 2 rfl rfl)
theorem dJ1_put_2_51 : decode cJ1_put_2 51 = .ok (.ifCond .ge 13, 3) := dk_156 0 13 (dk_at dksJ1_put_2_2 4 rfl rfl)
theorem dJ1_put_2_54 : decode cJ1_put_2 54 = .ok (.aload 4, 2) := dk_25 4 (dk_at dksJ1_put_2_2 7 rfl rfl)
theorem dJ1_put_2_56 : decode cJ1_put_2 56 = .ok (.getfield 111, 3) := dk_180 0 111 (dk_at dksJ1_put_2_2 9 rfl rfl)
theorem dJ1_put_2_59 : decode cJ1_put_2 59 = .ok (.astore 4, 2) := dk_58 4 (dk_at dksJ1_put_2_2 12 rfl rfl)
theorem dJ1_put_2_61 : decode cJ1_put_2 61 = .ok (.goto 43, 3) := dk_167 0 43 (dk_at dksJ1_put_2_2 14 rfl rfl)
theorem dJ1_put_2_64 : decode cJ1_put_2 64 = .ok (.iload 5, 2) := dk_21 5 (dk_at dksJ1_put_2_2 17 rfl rfl)
theorem dJ1_put_2_66 : decode cJ1_put_2 66 = .ok (.ifCond .le 13, 3) := dk_158 0 13 (dk_at dksJ1_put_2_2 19 rfl rfl)
theorem dJ1_put_2_69 : decode cJ1_put_2 69 = .ok (.aload 4, 2) := dk_25 4 (dk_at dksJ1_put_2_2 22 rfl rfl)
theorem dJ1_put_2_71 : decode cJ1_put_2 71 = .ok (.getfield 114, 3) := dk_180 0 114 (dk_at dksJ1_put_2_3 0 rfl rfl)
theorem dJ1_put_2_74 : decode cJ1_put_2 74 = .ok (.astore 4, 2) := dk_58 4 (dk_at dksJ1_put_2_3 3 rfl rfl)
theorem dJ1_put_2_76 : decode cJ1_put_2 76 = .ok (.goto 28, 3) := dk_167 0 28 (dk_at dksJ1_put_2_3 5 rfl rfl)
theorem dJ1_put_2_79 : decode cJ1_put_2 79 = .ok (.aload 4, 2) := dk_25 4 (dk_at dksJ1_put_2_3 8 rfl rfl)
theorem dJ1_put_2_81 : decode cJ1_put_2 81 = .ok (.getfield 58, 3) := dk_180 0 58 (dk_at dksJ1_put_2_3 10 rfl rfl)
theorem dJ1_put_2_84 : decode cJ1_put_2 84 = .ok (.astore 8, 2) := dk_58 8 (dk_at dksJ1_put_2_3 13 rfl rfl)
theorem dJ1_put_2_86 : decode cJ1_put_2 86 = .ok (.iload_n 3, 1) := dk_29 (dk_at dksJ1_put_2_3 15 rfl rfl)
theorem dJ1_put_2_87 : decode cJ1_put_2 87 = .ok (.ifCond .ne 8, 3) := dk_154 0 8 (dk_at dksJ1_put_2_3 16 rfl rfl)
theorem dJ1_put_2_90 : decode cJ1_put_2 90 = .ok (.aload 8, 2) := dk_25 8 (dk_at dksJ1_put_2_3 19 rfl rfl)
theorem dJ1_put_2_92 : decode cJ1_put_2 92 = .ok (.ifnonnull 9, 3) := dk_199 0 9 (dk_at dksJ1_put_2_3 21 rfl rfl)
theorem dJ1_put_2_95 : decode cJ1_put_2 95 = .ok (.aload 4, 2) := dk_25 4 (dk_at dksJ1_put_2_4 0 rfl rfl)
theorem dJ1_put_2_97 : decode cJ1_put_2 97 = .ok (.aload_n 2, 1) := dk_44 (dk_at dksJ1_put_2_4 2 rfl rfl)
theorem dJ1_put_2_98 : decode cJ1_put_2 98 = .ok (.putfield 58, 3) := dk_181 0 58 (dk_at dksJ1_put_2_4 3 rfl rfl)
theorem dJ1_put_2_101 : decode cJ1_put_2 101 = .ok (.aload 8, 2) := dk_25 8 (dk_at dksJ1_put_2_4 6 rfl rfl)
theorem dJ1_put_2_103 : decode cJ1_put_2 103 = .ok (.areturn, 1) := dk_176 (dk_at dksJ1_put_2_4 8 rfl rfl)
theorem dJ1_put_2_104 : decode cJ1_put_2 104 = .ok (.aload 4, 2) := dk_25 4 (dk_at dksJ1_put_2_4 9 rfl rfl)
theorem dJ1_put_2_106 : decode cJ1_put_2 106 = .ok (.ifnonnull (-76), 3) := dk_199 255 180 (dk_at dksJ1_put_2_4 11 rfl rfl)
theorem dJ1_put_2_109 : decode cJ1_put_2 109 = .ok (.goto 92, 3) := dk_167 0 92 (dk_at dksJ1_put_2_4 14 rfl rfl)
theorem dJ1_put_2_112 : decode cJ1_put_2 112 = .ok (.aload_n 1, 1) := dk_43 (dk_at dksJ1_put_2_4 17 rfl rfl)
theorem dJ1_put_2_113 : decode cJ1_put_2 113 = .ok (.invokestatic 95, 3) := dk_184 0 95 (dk_at dksJ1_put_2_4 18 rfl rfl)
theorem dJ1_put_2_116 : decode cJ1_put_2 116 = .ok (.pop, 1) := dk_87 (dk_at dksJ1_put_2_4 21 rfl rfl)
theorem dJ1_put_2_117 : decode cJ1_put_2 117 = .ok (.aload_n 1, 1) := dk_43 (dk_at dksJ1_put_2_4 22 rfl rfl)
theorem dJ1_put_2_118 : decode cJ1_put_2 118 = .ok (.checkcast 99, 3) := dk_192 0 99 (dk_at dksJ1_put_2_5 0 rfl rfl)
theorem dJ1_put_2_121 : decode cJ1_put_2 121 = .ok (.astore 8, 2) := dk_58 8 (dk_at dksJ1_put_2_5 3 rfl rfl)
theorem dJ1_put_2_123 : decode cJ1_put_2 123 = .ok (.aload 4, 2) := dk_25 4 (dk_at dksJ1_put_2_5 5 rfl rfl)
theorem dJ1_put_2_125 : decode cJ1_put_2 125 = .ok (.astore 6, 2) := dk_58 6 (dk_at dksJ1_put_2_5 7 rfl rfl)
theorem dJ1_put_2_127 : decode cJ1_put_2 127 = .ok (.aload 8, 2) := dk_25 8 (dk_at dksJ1_put_2_5 9 rfl rfl)
theorem dJ1_put_2_129 : decode cJ1_put_2 129 = .ok (.aload 4, 2) := dk_25 4 (dk_at dksJ1_put_2_5 11 rfl rfl)
theorem dJ1_put_2_131 : decode cJ1_put_2 131 = .ok (.getfield 105, 3) := dk_180 0 105 (dk_at dksJ1_put_2_5 13 rfl rfl)
theorem dJ1_put_2_134 : decode cJ1_put_2 134 = .ok (.invokeinterface 107 2, 5) := by decide +kernel
theorem dJ1_put_2_139 : decode cJ1_put_2 139 = .ok (.istore 5, 2) := dk_54 5 (dk_at dksJ1_put_2_5 21 rfl rfl)
theorem dJ1_put_2_141 : decode cJ1_put_2 141 = .ok (.iload 5, 2) := dk_21 5 (dk_at dksJ1_put_2_6 0 rfl rfl)
theorem dJ1_put_2_143 : decode cJ1_put_2 143 = .ok (.ifCond .ge 13, 3) := dk_156 0 13 (dk_at dksJ1_put_2_6 2 rfl rfl)
theorem dJ1_put_2_146 : decode cJ1_put_2 146 = .ok (.aload 4, 2) := dk_25 4 (dk_at dksJ1_put_2_6 5 rfl rfl)
theorem dJ1_put_2_148 : decode cJ1_put_2 148 = .ok (.getfield 111, 3) := dk_180 0 111 (dk_at dksJ1_put_2_6 7 rfl rfl)
theorem dJ1_put_2_151 : decode cJ1_put_2 151 = .ok (.astore 4, 2) := dk_58 4 (dk_at dksJ1_put_2_6 10 rfl rfl)
theorem dJ1_put_2_153 : decode cJ1_put_2 153 = .ok (.goto 43, 3) := dk_167 0 43 (dk_at dksJ1_put_2_6 12 rfl rfl)
theorem dJ1_put_2_156 : decode cJ1_put_2 156 = .ok (.iload 5, 2) := dk_21 5 (dk_at dksJ1_put_2_6 15 rfl rfl)
theorem dJ1_put_2_158 : decode cJ1_put_2 158 = .ok (.ifCond .le 13, 3) := dk_158 0 13 (dk_at dksJ1_put_2_6 17 rfl rfl)
theorem dJ1_put_2_161 : decode cJ1_put_2 161 = .ok (.aload 4, 2) := dk_25 4 (dk_at dksJ1_put_2_6 20 rfl rfl)
theorem dJ1_put_2_163 : decode cJ1_put_2 163 = .ok (.getfield 114, 3) := dk_180 0 114 (dk_at dksJ1_put_2_7 0 rfl rfl)
theorem dJ1_put_2_166 : decode cJ1_put_2 166 = .ok (.astore 4, 2) := dk_58 4 (dk_at dksJ1_put_2_7 3 rfl rfl)
theorem dJ1_put_2_168 : decode cJ1_put_2 168 = .ok (.goto 28, 3) := dk_167 0 28 (dk_at dksJ1_put_2_7 5 rfl rfl)
theorem dJ1_put_2_171 : decode cJ1_put_2 171 = .ok (.aload 4, 2) := dk_25 4 (dk_at dksJ1_put_2_7 8 rfl rfl)
theorem dJ1_put_2_173 : decode cJ1_put_2 173 = .ok (.getfield 58, 3) := dk_180 0 58 (dk_at dksJ1_put_2_7 10 rfl rfl)
theorem dJ1_put_2_176 : decode cJ1_put_2 176 = .ok (.astore 9, 2) := dk_58 9 (dk_at dksJ1_put_2_7 13 rfl rfl)
theorem dJ1_put_2_178 : decode cJ1_put_2 178 = .ok (.iload_n 3, 1) := dk_29 (dk_at dksJ1_put_2_7 15 rfl rfl)
theorem dJ1_put_2_179 : decode cJ1_put_2 179 = .ok (.ifCond .ne 8, 3) := dk_154 0 8 (dk_at dksJ1_put_2_7 16 rfl rfl)
theorem dJ1_put_2_182 : decode cJ1_put_2 182 = .ok (.aload 9, 2) := dk_25 9 (dk_at dksJ1_put_2_7 19 rfl rfl)
theorem dJ1_put_2_184 : decode cJ1_put_2 184 = .ok (.ifnonnull 9, 3) := dk_199 0 9 (dk_at dksJ1_put_2_7 21 rfl rfl)
theorem dJ1_put_2_187 : decode cJ1_put_2 187 = .ok (.aload 4, 2) := dk_25 4 (dk_at dksJ1_put_2_8 0 rfl rfl)
theorem dJ1_put_2_189 : decode cJ1_put_2 189 = .ok (.aload_n 2, 1) := dk_44 (dk_at dksJ1_put_2_8 2 rfl rfl)
theorem dJ1_put_2_190 : decode cJ1_put_2 190 = .ok (.putfield 58, 3) := dk_181 0 58 (dk_at dksJ1_put_2_8 3 rfl rfl)
theorem dJ1_put_2_193 : decode cJ1_put_2 193 = .ok (.aload 9, 2) := dk_25 9 (dk_at dksJ1_put_2_8 6 rfl rfl)
theorem dJ1_put_2_195 : decode cJ1_put_2 195 = .ok (.areturn, 1) := dk_176 (dk_at dksJ1_put_2_8 8 rfl rfl)
theorem dJ1_put_2_196 : decode cJ1_put_2 196 = .ok (.aload 4, 2) := dk_25 4 (dk_at dksJ1_put_2_8 9 rfl rfl)
theorem dJ1_put_2_198 : decode cJ1_put_2 198 = .ok (.ifnonnull (-75), 3) := dk_199 255 181 (dk_at dksJ1_put_2_8 11 rfl rfl)
theorem dJ1_put_2_201 : decode cJ1_put_2 201 = .ok (.aload_n 0, 1) := dk_42 (dk_at dksJ1_put_2_8 14 rfl rfl)
theorem dJ1_put_2_202 : decode cJ1_put_2 202 = .ok (.aload_n 1, 1) := dk_43 (dk_at dksJ1_put_2_8 15 rfl rfl)
theorem dJ1_put_2_203 : decode cJ1_put_2 203 = .ok (.aload_n 2, 1) := dk_44 (dk_at dksJ1_put_2_8 16 rfl rfl)
theorem dJ1_put_2_204 : decode cJ1_put_2 204 = .ok (.aload 6, 2) := dk_25 6 (dk_at dksJ1_put_2_8 17 rfl rfl)
theorem dJ1_put_2_206 : decode cJ1_put_2 206 = .ok (.iload 5, 2) := dk_21 5 (dk_at dksJ1_put_2_8 19 rfl rfl)
theorem dJ1_put_2_208 : decode cJ1_put_2 208 = .ok (.ifCond .ge 7, 3) := dk_156 0 7 (dk_at dksJ1_put_2_8 21 rfl rfl)
theorem dJ1_put_2_211 : decode cJ1_put_2 211 = .ok (.iconst 1, 1) := dk_4 (dk_at dksJ1_put_2_9 0 rfl rfl)
theorem dJ1_put_2_212 : decode cJ1_put_2 212 = .ok (.goto 4, 3) := dk_167 0 4 (dk_at dksJ1_put_2_9 1 rfl rfl)
theorem dJ1_put_2_215 : decode cJ1_put_2 215 = .ok (.iconst 0, 1) := dk_3 (dk_at dksJ1_put_2_9 4 rfl rfl)
theorem dJ1_put_2_216 : decode cJ1_put_2 216 = .ok (.invokevirtual 139, 3) := dk_182 0 139 (dk_at dksJ1_put_2_9 5 rfl rfl)
theorem dJ1_put_2_219 : decode cJ1_put_2 219 = .ok (.aconst_null, 1) := dk_1 (dk_at dksJ1_put_2_9 8 rfl rfl)
theorem dJ1_put_2_220 : decode cJ1_put_2 220 = .ok (.areturn, 1) := dk_176 (dk_at dksJ1_put_2_9 9 rfl rfl)
abbrev cJ1_addEntryToEmptyMap : ByteArray := prog_57_method_30_code
def yJ1_addEntryToEmptyMap : MethodName := ⟨RJ1, "addEntryToEmptyMap", "(Ljava/lang/Object;Ljava/lang/Object;)V"⟩
def dkwJ1_addEntryToEmptyMap_1 : List UInt8 := [181, 0, 7, 42, 89, 180, 0, 13, 4, 96, 181, 0, 13, 177]
abbrev dktJ1_addEntryToEmptyMap_1 : List UInt8 := dkwJ1_addEntryToEmptyMap_1 ++ []
def dkwJ1_addEntryToEmptyMap_0 : List UInt8 := [42, 43, 43, 182, 0, 123, 87, 42, 187, 0, 59, 89, 43, 44, 1, 183, 0, 167, 181, 0, 101, 42, 4]
abbrev dktJ1_addEntryToEmptyMap_0 : List UInt8 := dkwJ1_addEntryToEmptyMap_0 ++ dktJ1_addEntryToEmptyMap_1
theorem dksJ1_addEntryToEmptyMap_0 : cJ1_addEntryToEmptyMap.data.toList.drop 0 = dktJ1_addEntryToEmptyMap_0 := by decide +kernel
theorem dksJ1_addEntryToEmptyMap_1 : cJ1_addEntryToEmptyMap.data.toList.drop 23 = dktJ1_addEntryToEmptyMap_1 := dk_seg dksJ1_addEntryToEmptyMap_0 23 rfl rfl
theorem dJ1_addEntryToEmptyMap_0 : decode cJ1_addEntryToEmptyMap 0 = .ok (.aload_n 0, 1) := dk_42 (dk_at dksJ1_addEntryToEmptyMap_0 0 rfl rfl)
theorem dJ1_addEntryToEmptyMap_1 : decode cJ1_addEntryToEmptyMap 1 = .ok (.aload_n 1, 1) := dk_43 (dk_at dksJ1_addEntryToEmptyMap_0 1 rfl rfl)
theorem dJ1_addEntryToEmptyMap_2 : decode cJ1_addEntryToEmptyMap 2 = .ok (.aload_n 1, 1) := dk_43 (dk_at dksJ1_addEntryToEmptyMap_0 2 rfl rfl)
theorem dJ1_addEntryToEmptyMap_3 : decode cJ1_addEntryToEmptyMap 3 = .ok (.invokevirtual 123, 3) := dk_182 0 123 (dk_at dksJ1_addEntryToEmptyMap_0 3 rfl rfl)
theorem dJ1_addEntryToEmptyMap_6 : decode cJ1_addEntryToEmptyMap 6 = .ok (.pop, 1) := dk_87 (dk_at dksJ1_addEntryToEmptyMap_0 6 rfl rfl)
theorem dJ1_addEntryToEmptyMap_7 : decode cJ1_addEntryToEmptyMap 7 = .ok (.aload_n 0, 1) := dk_42 (dk_at dksJ1_addEntryToEmptyMap_0 7 rfl rfl)
theorem dJ1_addEntryToEmptyMap_8 : decode cJ1_addEntryToEmptyMap 8 = .ok (.new 59, 3) := dk_187 0 59 (dk_at dksJ1_addEntryToEmptyMap_0 8 rfl rfl)
theorem dJ1_addEntryToEmptyMap_11 : decode cJ1_addEntryToEmptyMap 11 = .ok (.dup, 1) := dk_89 (dk_at dksJ1_addEntryToEmptyMap_0 11 rfl rfl)
theorem dJ1_addEntryToEmptyMap_12 : decode cJ1_addEntryToEmptyMap 12 = .ok (.aload_n 1, 1) := dk_43 (dk_at dksJ1_addEntryToEmptyMap_0 12 rfl rfl)
theorem dJ1_addEntryToEmptyMap_13 : decode cJ1_addEntryToEmptyMap 13 = .ok (.aload_n 2, 1) := dk_44 (dk_at dksJ1_addEntryToEmptyMap_0 13 rfl rfl)
theorem dJ1_addEntryToEmptyMap_14 : decode cJ1_addEntryToEmptyMap 14 = .ok (.aconst_null, 1) := dk_1 (dk_at dksJ1_addEntryToEmptyMap_0 14 rfl rfl)
theorem dJ1_addEntryToEmptyMap_15 : decode cJ1_addEntryToEmptyMap 15 = .ok (.invokespecial 167, 3) := dk_183 0 167 (dk_at dksJ1_addEntryToEmptyMap_0 15 rfl rfl)
theorem dJ1_addEntryToEmptyMap_18 : decode cJ1_addEntryToEmptyMap 18 = .ok (.putfield 101, 3) := dk_181 0 101 (dk_at dksJ1_addEntryToEmptyMap_0 18 rfl rfl)
theorem dJ1_addEntryToEmptyMap_21 : decode cJ1_addEntryToEmptyMap 21 = .ok (.aload_n 0, 1) := dk_42 (dk_at dksJ1_addEntryToEmptyMap_0 21 rfl rfl)
theorem dJ1_addEntryToEmptyMap_22 : decode cJ1_addEntryToEmptyMap 22 = .ok (.iconst 1, 1) := dk_4 (dk_at dksJ1_addEntryToEmptyMap_0 22 rfl rfl)
theorem dJ1_addEntryToEmptyMap_23 : decode cJ1_addEntryToEmptyMap 23 = .ok (.putfield 7, 3) := dk_181 0 7 (dk_at dksJ1_addEntryToEmptyMap_1 0 rfl rfl)
theorem dJ1_addEntryToEmptyMap_26 : decode cJ1_addEntryToEmptyMap 26 = .ok (.aload_n 0, 1) := dk_42 (dk_at dksJ1_addEntryToEmptyMap_1 3 rfl rfl)
theorem dJ1_addEntryToEmptyMap_27 : decode cJ1_addEntryToEmptyMap 27 = .ok (.dup, 1) := dk_89 (dk_at dksJ1_addEntryToEmptyMap_1 4 rfl rfl)
theorem dJ1_addEntryToEmptyMap_28 : decode cJ1_addEntryToEmptyMap 28 = .ok (.getfield 13, 3) := dk_180 0 13 (dk_at dksJ1_addEntryToEmptyMap_1 5 rfl rfl)
theorem dJ1_addEntryToEmptyMap_31 : decode cJ1_addEntryToEmptyMap 31 = .ok (.iconst 1, 1) := dk_4 (dk_at dksJ1_addEntryToEmptyMap_1 8 rfl rfl)
theorem dJ1_addEntryToEmptyMap_32 : decode cJ1_addEntryToEmptyMap 32 = .ok (.iadd, 1) := dk_96 (dk_at dksJ1_addEntryToEmptyMap_1 9 rfl rfl)
theorem dJ1_addEntryToEmptyMap_33 : decode cJ1_addEntryToEmptyMap 33 = .ok (.putfield 13, 3) := dk_181 0 13 (dk_at dksJ1_addEntryToEmptyMap_1 10 rfl rfl)
theorem dJ1_addEntryToEmptyMap_36 : decode cJ1_addEntryToEmptyMap 36 = .ok (.return_, 1) := dk_177 (dk_at dksJ1_addEntryToEmptyMap_1 13 rfl rfl)
abbrev cJ1_compare : ByteArray := prog_57_method_67_code
def yJ1_compare : MethodName := ⟨RJ1, "compare", "(Ljava/lang/Object;Ljava/lang/Object;)I"⟩
def dkwJ1_compare_1 : List UInt8 := [43, 44, 185, 0, 117, 3, 0, 172]
abbrev dktJ1_compare_1 : List UInt8 := dkwJ1_compare_1 ++ []
def dkwJ1_compare_0 : List UInt8 := [42, 180, 0, 16, 199, 0, 16, 43, 192, 0, 99, 44, 185, 0, 107, 2, 0, 167, 0, 14, 42, 180, 0, 16]
abbrev dktJ1_compare_0 : List UInt8 := dkwJ1_compare_0 ++ dktJ1_compare_1
theorem dksJ1_compare_0 : cJ1_compare.data.toList.drop 0 = dktJ1_compare_0 := by decide +kernel
theorem dksJ1_compare_1 : cJ1_compare.data.toList.drop 24 = dktJ1_compare_1 := dk_seg dksJ1_compare_0 24 rfl rfl
theorem dJ1_compare_0 : decode cJ1_compare 0 = .ok (.aload_n 0, 1) := dk_42 (dk_at dksJ1_compare_0 0 rfl rfl)
theorem dJ1_compare_1 : decode cJ1_compare 1 = .ok (.getfield 16, 3) := dk_180 0 16 (dk_at dksJ1_compare_0 1 rfl rfl)
theorem dJ1_compare_4 : decode cJ1_compare 4 = .ok (.ifnonnull 16, 3) := dk_199 0 16 (dk_at dksJ1_compare_0 4 rfl rfl)
theorem dJ1_compare_7 : decode cJ1_compare 7 = .ok (.aload_n 1, 1) := dk_43 (dk_at dksJ1_compare_0 7 rfl rfl)
theorem dJ1_compare_8 : decode cJ1_compare 8 = .ok (.checkcast 99, 3) := dk_192 0 99 (dk_at dksJ1_compare_0 8 rfl rfl)
theorem dJ1_compare_11 : decode cJ1_compare 11 = .ok (.aload_n 2, 1) := dk_44 (dk_at dksJ1_compare_0 11 rfl rfl)
theorem dJ1_compare_12 : decode cJ1_compare 12 = .ok (.invokeinterface 107 2, 5) := by decide +kernel
theorem dJ1_compare_17 : decode cJ1_compare 17 = .ok (.goto 14, 3) := dk_167 0 14 (dk_at dksJ1_compare_0 17 rfl rfl)
theorem dJ1_compare_20 : decode cJ1_compare 20 = .ok (.aload_n 0, 1) := dk_42 (dk_at dksJ1_compare_0 20 rfl rfl)
theorem dJ1_compare_21 : decode cJ1_compare 21 = .ok (.getfield 16, 3) := dk_180 0 16 (dk_at dksJ1_compare_0 21 rfl rfl)
theorem dJ1_compare_24 : decode cJ1_compare 24 = .ok (.aload_n 1, 1) := dk_43 (dk_at dksJ1_compare_1 0 rfl rfl)
theorem dJ1_compare_25 : decode cJ1_compare 25 = .ok (.aload_n 2, 1) := dk_44 (dk_at dksJ1_compare_1 1 rfl rfl)
theorem dJ1_compare_26 : decode cJ1_compare 26 = .ok (.invokeinterface 117 3, 5) := by decide +kernel
theorem dJ1_compare_31 : decode cJ1_compare 31 = .ok (.ireturn, 1) := dk_172 (dk_at dksJ1_compare_1 7 rfl rfl)
abbrev cJ1_addEntry : ByteArray := prog_57_method_29_code
def yJ1_addEntry : MethodName := ⟨RJ1, "addEntry", "(Ljava/lang/Object;Ljava/lang/Object;Ljava/util/TreeMap$Entry;Z)V"⟩
def dkwJ1_addEntry_2 : List UInt8 := [181, 0, 7, 42, 89, 180, 0, 13, 4, 96, 181, 0, 13, 177]
abbrev dktJ1_addEntry_2 : List UInt8 := dkwJ1_addEntry_2 ++ []
def dkwJ1_addEntry_1 : List UInt8 := [167, 0, 9, 45, 25, 5, 181, 0, 114, 42, 25, 5, 182, 0, 170, 42, 89, 180, 0, 7, 4, 96]
abbrev dktJ1_addEntry_1 : List UInt8 := dkwJ1_addEntry_1 ++ dktJ1_addEntry_2
def dkwJ1_addEntry_0 : List UInt8 := [187, 0, 59, 89, 43, 44, 45, 183, 0, 167, 58, 5, 21, 4, 153, 0, 12, 45, 25, 5, 181, 0, 111]
abbrev dktJ1_addEntry_0 : List UInt8 := dkwJ1_addEntry_0 ++ dktJ1_addEntry_1
theorem dksJ1_addEntry_0 : cJ1_addEntry.data.toList.drop 0 = dktJ1_addEntry_0 := by decide +kernel
theorem dksJ1_addEntry_1 : cJ1_addEntry.data.toList.drop 23 = dktJ1_addEntry_1 := dk_seg dksJ1_addEntry_0 23 rfl rfl
theorem dksJ1_addEntry_2 : cJ1_addEntry.data.toList.drop 45 = dktJ1_addEntry_2 := dk_seg dksJ1_addEntry_1 22 rfl rfl
theorem dJ1_addEntry_0 : decode cJ1_addEntry 0 = .ok (.new 59, 3) := dk_187 0 59 (dk_at dksJ1_addEntry_0 0 rfl rfl)
theorem dJ1_addEntry_3 : decode cJ1_addEntry 3 = .ok (.dup, 1) := dk_89 (dk_at dksJ1_addEntry_0 3 rfl rfl)
theorem dJ1_addEntry_4 : decode cJ1_addEntry 4 = .ok (.aload_n 1, 1) := dk_43 (dk_at dksJ1_addEntry_0 4 rfl rfl)
theorem dJ1_addEntry_5 : decode cJ1_addEntry 5 = .ok (.aload_n 2, 1) := dk_44 (dk_at dksJ1_addEntry_0 5 rfl rfl)
theorem dJ1_addEntry_6 : decode cJ1_addEntry 6 = .ok (.aload_n 3, 1) := dk_45 (dk_at dksJ1_addEntry_0 6 rfl rfl)
theorem dJ1_addEntry_7 : decode cJ1_addEntry 7 = .ok (.invokespecial 167, 3) := dk_183 0 167 (dk_at dksJ1_addEntry_0 7 rfl rfl)
theorem dJ1_addEntry_10 : decode cJ1_addEntry 10 = .ok (.astore 5, 2) := dk_58 5 (dk_at dksJ1_addEntry_0 10 rfl rfl)
theorem dJ1_addEntry_12 : decode cJ1_addEntry 12 = .ok (.iload 4, 2) := dk_21 4 (dk_at dksJ1_addEntry_0 12 rfl rfl)
theorem dJ1_addEntry_14 : decode cJ1_addEntry 14 = .ok (.ifCond .eq 12, 3) := dk_153 0 12 (dk_at dksJ1_addEntry_0 14 rfl rfl)
theorem dJ1_addEntry_17 : decode cJ1_addEntry 17 = .ok (.aload_n 3, 1) := dk_45 (dk_at dksJ1_addEntry_0 17 rfl rfl)
theorem dJ1_addEntry_18 : decode cJ1_addEntry 18 = .ok (.aload 5, 2) := dk_25 5 (dk_at dksJ1_addEntry_0 18 rfl rfl)
theorem dJ1_addEntry_20 : decode cJ1_addEntry 20 = .ok (.putfield 111, 3) := dk_181 0 111 (dk_at dksJ1_addEntry_0 20 rfl rfl)
theorem dJ1_addEntry_23 : decode cJ1_addEntry 23 = .ok (.goto 9, 3) := dk_167 0 9 (dk_at dksJ1_addEntry_1 0 rfl rfl)
theorem dJ1_addEntry_26 : decode cJ1_addEntry 26 = .ok (.aload_n 3, 1) := dk_45 (dk_at dksJ1_addEntry_1 3 rfl rfl)
theorem dJ1_addEntry_27 : decode cJ1_addEntry 27 = .ok (.aload 5, 2) := dk_25 5 (dk_at dksJ1_addEntry_1 4 rfl rfl)
theorem dJ1_addEntry_29 : decode cJ1_addEntry 29 = .ok (.putfield 114, 3) := dk_181 0 114 (dk_at dksJ1_addEntry_1 6 rfl rfl)
theorem dJ1_addEntry_32 : decode cJ1_addEntry 32 = .ok (.aload_n 0, 1) := dk_42 (dk_at dksJ1_addEntry_1 9 rfl rfl)
theorem dJ1_addEntry_33 : decode cJ1_addEntry 33 = .ok (.aload 5, 2) := dk_25 5 (dk_at dksJ1_addEntry_1 10 rfl rfl)
theorem dJ1_addEntry_35 : decode cJ1_addEntry 35 = .ok (.invokevirtual 170, 3) := dk_182 0 170 (dk_at dksJ1_addEntry_1 12 rfl rfl)
theorem dJ1_addEntry_38 : decode cJ1_addEntry 38 = .ok (.aload_n 0, 1) := dk_42 (dk_at dksJ1_addEntry_1 15 rfl rfl)
theorem dJ1_addEntry_39 : decode cJ1_addEntry 39 = .ok (.dup, 1) := dk_89 (dk_at dksJ1_addEntry_1 16 rfl rfl)
theorem dJ1_addEntry_40 : decode cJ1_addEntry 40 = .ok (.getfield 7, 3) := dk_180 0 7 (dk_at dksJ1_addEntry_1 17 rfl rfl)
theorem dJ1_addEntry_43 : decode cJ1_addEntry 43 = .ok (.iconst 1, 1) := dk_4 (dk_at dksJ1_addEntry_1 20 rfl rfl)
theorem dJ1_addEntry_44 : decode cJ1_addEntry 44 = .ok (.iadd, 1) := dk_96 (dk_at dksJ1_addEntry_1 21 rfl rfl)
theorem dJ1_addEntry_45 : decode cJ1_addEntry 45 = .ok (.putfield 7, 3) := dk_181 0 7 (dk_at dksJ1_addEntry_2 0 rfl rfl)
theorem dJ1_addEntry_48 : decode cJ1_addEntry 48 = .ok (.aload_n 0, 1) := dk_42 (dk_at dksJ1_addEntry_2 3 rfl rfl)
theorem dJ1_addEntry_49 : decode cJ1_addEntry 49 = .ok (.dup, 1) := dk_89 (dk_at dksJ1_addEntry_2 4 rfl rfl)
theorem dJ1_addEntry_50 : decode cJ1_addEntry 50 = .ok (.getfield 13, 3) := dk_180 0 13 (dk_at dksJ1_addEntry_2 5 rfl rfl)
theorem dJ1_addEntry_53 : decode cJ1_addEntry 53 = .ok (.iconst 1, 1) := dk_4 (dk_at dksJ1_addEntry_2 8 rfl rfl)
theorem dJ1_addEntry_54 : decode cJ1_addEntry 54 = .ok (.iadd, 1) := dk_96 (dk_at dksJ1_addEntry_2 9 rfl rfl)
theorem dJ1_addEntry_55 : decode cJ1_addEntry 55 = .ok (.putfield 13, 3) := dk_181 0 13 (dk_at dksJ1_addEntry_2 10 rfl rfl)
theorem dJ1_addEntry_58 : decode cJ1_addEntry 58 = .ok (.return_, 1) := dk_177 (dk_at dksJ1_addEntry_2 13 rfl rfl)
abbrev cJ1_fixAfterInsertion : ByteArray := prog_57_method_83_code
def yJ1_fixAfterInsertion : MethodName := ⟨RJ1, "fixAfterInsertion", "(Ljava/util/TreeMap$Entry;)V"⟩
def dkwJ1_fixAfterInsertion_11 : List UInt8 := [42, 180, 0, 101, 4, 181, 1, 34, 177]
abbrev dktJ1_fixAfterInsertion_11 : List UInt8 := dkwJ1_fixAfterInsertion_11 ++ []
def dkwJ1_fixAfterInsertion_10 : List UInt8 := [184, 1, 38, 184, 1, 38, 3, 184, 1, 51, 42, 43, 184, 1, 38, 184, 1, 38, 182, 1, 55, 167, 255, 6]
abbrev dktJ1_fixAfterInsertion_10 : List UInt8 := dkwJ1_fixAfterInsertion_10 ++ dktJ1_fixAfterInsertion_11
def dkwJ1_fixAfterInsertion_9 : List UInt8 := [166, 0, 13, 43, 184, 1, 38, 76, 42, 43, 182, 1, 58, 43, 184, 1, 38, 4, 184, 1, 51, 43]
abbrev dktJ1_fixAfterInsertion_9 : List UInt8 := dkwJ1_fixAfterInsertion_9 ++ dktJ1_fixAfterInsertion_10
def dkwJ1_fixAfterInsertion_8 : List UInt8 := [184, 1, 51, 43, 184, 1, 38, 184, 1, 38, 76, 167, 0, 54, 43, 43, 184, 1, 38, 184, 1, 41]
abbrev dktJ1_fixAfterInsertion_8 : List UInt8 := dkwJ1_fixAfterInsertion_8 ++ dktJ1_fixAfterInsertion_9
def dkwJ1_fixAfterInsertion_7 : List UInt8 := [154, 0, 38, 43, 184, 1, 38, 4, 184, 1, 51, 44, 4, 184, 1, 51, 43, 184, 1, 38, 184, 1, 38, 3]
abbrev dktJ1_fixAfterInsertion_7 : List UInt8 := dkwJ1_fixAfterInsertion_7 ++ dktJ1_fixAfterInsertion_8
def dkwJ1_fixAfterInsertion_6 : List UInt8 := [184, 1, 38, 182, 1, 58, 167, 255, 113, 43, 184, 1, 38, 184, 1, 38, 184, 1, 41, 77, 44, 184, 1, 47]
abbrev dktJ1_fixAfterInsertion_6 : List UInt8 := dkwJ1_fixAfterInsertion_6 ++ dktJ1_fixAfterInsertion_7
def dkwJ1_fixAfterInsertion_5 : List UInt8 := [43, 184, 1, 38, 4, 184, 1, 51, 43, 184, 1, 38, 184, 1, 38, 3, 184, 1, 51, 42, 43, 184, 1, 38]
abbrev dktJ1_fixAfterInsertion_5 : List UInt8 := dkwJ1_fixAfterInsertion_5 ++ dktJ1_fixAfterInsertion_6
def dkwJ1_fixAfterInsertion_4 : List UInt8 := [167, 0, 54, 43, 43, 184, 1, 38, 184, 1, 44, 166, 0, 13, 43, 184, 1, 38, 76, 42, 43, 182, 1, 55]
abbrev dktJ1_fixAfterInsertion_4 : List UInt8 := dkwJ1_fixAfterInsertion_4 ++ dktJ1_fixAfterInsertion_5
def dkwJ1_fixAfterInsertion_3 : List UInt8 := [184, 1, 51, 43, 184, 1, 38, 184, 1, 38, 3, 184, 1, 51, 43, 184, 1, 38, 184, 1, 38, 76]
abbrev dktJ1_fixAfterInsertion_3 : List UInt8 := dkwJ1_fixAfterInsertion_3 ++ dktJ1_fixAfterInsertion_4
def dkwJ1_fixAfterInsertion_2 : List UInt8 := [184, 1, 38, 184, 1, 44, 77, 44, 184, 1, 47, 154, 0, 38, 43, 184, 1, 38, 4, 184, 1, 51, 44, 4]
abbrev dktJ1_fixAfterInsertion_2 : List UInt8 := dkwJ1_fixAfterInsertion_2 ++ dktJ1_fixAfterInsertion_3
def dkwJ1_fixAfterInsertion_1 : List UInt8 := [154, 0, 234, 43, 184, 1, 38, 43, 184, 1, 38, 184, 1, 38, 184, 1, 41, 166, 0, 110, 43, 184, 1, 38]
abbrev dktJ1_fixAfterInsertion_1 : List UInt8 := dkwJ1_fixAfterInsertion_1 ++ dktJ1_fixAfterInsertion_2
def dkwJ1_fixAfterInsertion_0 : List UInt8 := [43, 3, 181, 1, 34, 43, 198, 0, 252, 43, 42, 180, 0, 101, 165, 0, 244, 43, 180, 0, 124, 180, 1, 34]
abbrev dktJ1_fixAfterInsertion_0 : List UInt8 := dkwJ1_fixAfterInsertion_0 ++ dktJ1_fixAfterInsertion_1
theorem dksJ1_fixAfterInsertion_0 : cJ1_fixAfterInsertion.data.toList.drop 0 = dktJ1_fixAfterInsertion_0 := by decide +kernel
theorem dksJ1_fixAfterInsertion_1 : cJ1_fixAfterInsertion.data.toList.drop 24 = dktJ1_fixAfterInsertion_1 := dk_seg dksJ1_fixAfterInsertion_0 24 rfl rfl
theorem dksJ1_fixAfterInsertion_2 : cJ1_fixAfterInsertion.data.toList.drop 48 = dktJ1_fixAfterInsertion_2 := dk_seg dksJ1_fixAfterInsertion_1 24 rfl rfl
theorem dksJ1_fixAfterInsertion_3 : cJ1_fixAfterInsertion.data.toList.drop 72 = dktJ1_fixAfterInsertion_3 := dk_seg dksJ1_fixAfterInsertion_2 24 rfl rfl
theorem dksJ1_fixAfterInsertion_4 : cJ1_fixAfterInsertion.data.toList.drop 94 = dktJ1_fixAfterInsertion_4 := dk_seg dksJ1_fixAfterInsertion_3 22 rfl rfl
theorem dksJ1_fixAfterInsertion_5 : cJ1_fixAfterInsertion.data.toList.drop 118 = dktJ1_fixAfterInsertion_5 := dk_seg dksJ1_fixAfterInsertion_4 24 rfl rfl
theorem dksJ1_fixAfterInsertion_6 : cJ1_fixAfterInsertion.data.toList.drop 142 = dktJ1_fixAfterInsertion_6 := dk_seg dksJ1_fixAfterInsertion_5 24 rfl rfl
theorem dksJ1_fixAfterInsertion_7 : cJ1_fixAfterInsertion.data.toList.drop 166 = dktJ1_fixAfterInsertion_7 := dk_seg dksJ1_fixAfterInsertion_6 24 rfl rfl
theorem dksJ1_fixAfterInsertion_8 : cJ1_fixAfterInsertion.data.toList.drop 190 = dktJ1_fixAfterInsertion_8 := dk_seg dksJ1_fixAfterInsertion_7 24 rfl rfl
theorem dksJ1_fixAfterInsertion_9 : cJ1_fixAfterInsertion.data.toList.drop 212 = dktJ1_fixAfterInsertion_9 := dk_seg dksJ1_fixAfterInsertion_8 22 rfl rfl
theorem dksJ1_fixAfterInsertion_10 : cJ1_fixAfterInsertion.data.toList.drop 234 = dktJ1_fixAfterInsertion_10 := dk_seg dksJ1_fixAfterInsertion_9 22 rfl rfl
theorem dksJ1_fixAfterInsertion_11 : cJ1_fixAfterInsertion.data.toList.drop 258 = dktJ1_fixAfterInsertion_11 := dk_seg dksJ1_fixAfterInsertion_10 24 rfl rfl
theorem dJ1_fixAfterInsertion_0 : decode cJ1_fixAfterInsertion 0 = .ok (.aload_n 1, 1) := dk_43 (dk_at dksJ1_fixAfterInsertion_0 0 rfl rfl)
theorem dJ1_fixAfterInsertion_1 : decode cJ1_fixAfterInsertion 1 = .ok (.iconst 0, 1) := dk_3 (dk_at dksJ1_fixAfterInsertion_0 1 rfl rfl)
theorem dJ1_fixAfterInsertion_2 : decode cJ1_fixAfterInsertion 2 = .ok (.putfield 290, 3) := dk_181 1 34 (dk_at dksJ1_fixAfterInsertion_0 2 rfl rfl)
theorem dJ1_fixAfterInsertion_5 : decode cJ1_fixAfterInsertion 5 = .ok (.aload_n 1, 1) := dk_43 (dk_at dksJ1_fixAfterInsertion_0 5 rfl rfl)
theorem dJ1_fixAfterInsertion_6 : decode cJ1_fixAfterInsertion 6 = .ok (.ifnull 252, 3) := dk_198 0 252 (dk_at dksJ1_fixAfterInsertion_0 6 rfl rfl)
theorem dJ1_fixAfterInsertion_9 : decode cJ1_fixAfterInsertion 9 = .ok (.aload_n 1, 1) := dk_43 (dk_at dksJ1_fixAfterInsertion_0 9 rfl rfl)
theorem dJ1_fixAfterInsertion_10 : decode cJ1_fixAfterInsertion 10 = .ok (.aload_n 0, 1) := dk_42 (dk_at dksJ1_fixAfterInsertion_0 10 rfl rfl)
theorem dJ1_fixAfterInsertion_11 : decode cJ1_fixAfterInsertion 11 = .ok (.getfield 101, 3) := dk_180 0 101 (dk_at dksJ1_fixAfterInsertion_0 11 rfl rfl)
theorem dJ1_fixAfterInsertion_14 : decode cJ1_fixAfterInsertion 14 = .ok (.if_acmp .eq 244, 3) := dk_165 0 244 (dk_at dksJ1_fixAfterInsertion_0 14 rfl rfl)
theorem dJ1_fixAfterInsertion_17 : decode cJ1_fixAfterInsertion 17 = .ok (.aload_n 1, 1) := dk_43 (dk_at dksJ1_fixAfterInsertion_0 17 rfl rfl)
theorem dJ1_fixAfterInsertion_18 : decode cJ1_fixAfterInsertion 18 = .ok (.getfield 124, 3) := dk_180 0 124 (dk_at dksJ1_fixAfterInsertion_0 18 rfl rfl)
theorem dJ1_fixAfterInsertion_21 : decode cJ1_fixAfterInsertion 21 = .ok (.getfield 290, 3) := dk_180 1 34 (dk_at dksJ1_fixAfterInsertion_0 21 rfl rfl)
theorem dJ1_fixAfterInsertion_24 : decode cJ1_fixAfterInsertion 24 = .ok (.ifCond .ne 234, 3) := dk_154 0 234 (dk_at dksJ1_fixAfterInsertion_1 0 rfl rfl)
theorem dJ1_fixAfterInsertion_27 : decode cJ1_fixAfterInsertion 27 = .ok (.aload_n 1, 1) := dk_43 (dk_at dksJ1_fixAfterInsertion_1 3 rfl rfl)
theorem dJ1_fixAfterInsertion_28 : decode cJ1_fixAfterInsertion 28 = .ok (.invokestatic 294, 3) := dk_184 1 38 (dk_at dksJ1_fixAfterInsertion_1 4 rfl rfl)
theorem dJ1_fixAfterInsertion_31 : decode cJ1_fixAfterInsertion 31 = .ok (.aload_n 1, 1) := dk_43 (dk_at dksJ1_fixAfterInsertion_1 7 rfl rfl)
theorem dJ1_fixAfterInsertion_32 : decode cJ1_fixAfterInsertion 32 = .ok (.invokestatic 294, 3) := dk_184 1 38 (dk_at dksJ1_fixAfterInsertion_1 8 rfl rfl)
theorem dJ1_fixAfterInsertion_35 : decode cJ1_fixAfterInsertion 35 = .ok (.invokestatic 294, 3) := dk_184 1 38 (dk_at dksJ1_fixAfterInsertion_1 11 rfl rfl)
theorem dJ1_fixAfterInsertion_38 : decode cJ1_fixAfterInsertion 38 = .ok (.invokestatic 297, 3) := dk_184 1 41 (dk_at dksJ1_fixAfterInsertion_1 14 rfl rfl)
theorem dJ1_fixAfterInsertion_41 : decode cJ1_fixAfterInsertion 41 = .ok (.if_acmp .ne 110, 3) := dk_166 0 110 (dk_at dksJ1_fixAfterInsertion_1 17 rfl rfl)
theorem dJ1_fixAfterInsertion_44 : decode cJ1_fixAfterInsertion 44 = .ok (.aload_n 1, 1) := dk_43 (dk_at dksJ1_fixAfterInsertion_1 20 rfl rfl)
theorem dJ1_fixAfterInsertion_45 : decode cJ1_fixAfterInsertion 45 = .ok (.invokestatic 294, 3) := dk_184 1 38 (dk_at dksJ1_fixAfterInsertion_1 21 rfl rfl)
theorem dJ1_fixAfterInsertion_48 : decode cJ1_fixAfterInsertion 48 = .ok (.invokestatic 294, 3) := dk_184 1 38 (dk_at dksJ1_fixAfterInsertion_2 0 rfl rfl)
theorem dJ1_fixAfterInsertion_51 : decode cJ1_fixAfterInsertion 51 = .ok (.invokestatic 300, 3) := dk_184 1 44 (dk_at dksJ1_fixAfterInsertion_2 3 rfl rfl)
theorem dJ1_fixAfterInsertion_54 : decode cJ1_fixAfterInsertion 54 = .ok (.astore_n 2, 1) := dk_77 (dk_at dksJ1_fixAfterInsertion_2 6 rfl rfl)
theorem dJ1_fixAfterInsertion_55 : decode cJ1_fixAfterInsertion 55 = .ok (.aload_n 2, 1) := dk_44 (dk_at dksJ1_fixAfterInsertion_2 7 rfl rfl)
theorem dJ1_fixAfterInsertion_56 : decode cJ1_fixAfterInsertion 56 = .ok (.invokestatic 303, 3) := dk_184 1 47 (dk_at dksJ1_fixAfterInsertion_2 8 rfl rfl)
theorem dJ1_fixAfterInsertion_59 : decode cJ1_fixAfterInsertion 59 = .ok (.ifCond .ne 38, 3) := dk_154 0 38 (dk_at dksJ1_fixAfterInsertion_2 11 rfl rfl)
theorem dJ1_fixAfterInsertion_62 : decode cJ1_fixAfterInsertion 62 = .ok (.aload_n 1, 1) := dk_43 (dk_at dksJ1_fixAfterInsertion_2 14 rfl rfl)
theorem dJ1_fixAfterInsertion_63 : decode cJ1_fixAfterInsertion 63 = .ok (.invokestatic 294, 3) := dk_184 1 38 (dk_at dksJ1_fixAfterInsertion_2 15 rfl rfl)
theorem dJ1_fixAfterInsertion_66 : decode cJ1_fixAfterInsertion 66 = .ok (.iconst 1, 1) := dk_4 (dk_at dksJ1_fixAfterInsertion_2 18 rfl rfl)
theorem dJ1_fixAfterInsertion_67 : decode cJ1_fixAfterInsertion 67 = .ok (.invokestatic 307, 3) := dk_184 1 51 (dk_at dksJ1_fixAfterInsertion_2 19 rfl rfl)
theorem dJ1_fixAfterInsertion_70 : decode cJ1_fixAfterInsertion 70 = .ok (.aload_n 2, 1) := dk_44 (dk_at dksJ1_fixAfterInsertion_2 22 rfl rfl)
theorem dJ1_fixAfterInsertion_71 : decode cJ1_fixAfterInsertion 71 = .ok (.iconst 1, 1) := dk_4 (dk_at dksJ1_fixAfterInsertion_2 23 rfl rfl)
theorem dJ1_fixAfterInsertion_72 : decode cJ1_fixAfterInsertion 72 = .ok (.invokestatic 307, 3) := dk_184 1 51 (dk_at dksJ1_fixAfterInsertion_3 0 rfl rfl)
theorem dJ1_fixAfterInsertion_75 : decode cJ1_fixAfterInsertion 75 = .ok (.aload_n 1, 1) := dk_43 (dk_at dksJ1_fixAfterInsertion_3 3 rfl rfl)
theorem dJ1_fixAfterInsertion_76 : decode cJ1_fixAfterInsertion 76 = .ok (.invokestatic 294, 3) := dk_184 1 38 (dk_at dksJ1_fixAfterInsertion_3 4 rfl rfl)
theorem dJ1_fixAfterInsertion_79 : decode cJ1_fixAfterInsertion 79 = .ok (.invokestatic 294, 3) := dk_184 1 38 (dk_at dksJ1_fixAfterInsertion_3 7 rfl rfl)
theorem dJ1_fixAfterInsertion_82 : decode cJ1_fixAfterInsertion 82 = .ok (.iconst 0, 1) := dk_3 (dk_at dksJ1_fixAfterInsertion_3 10 rfl rfl)
theorem dJ1_fixAfterInsertion_83 : decode cJ1_fixAfterInsertion 83 = .ok (.invokestatic 307, 3) := dk_184 1 51 (dk_at dksJ1_fixAfterInsertion_3 11 rfl rfl)
theorem dJ1_fixAfterInsertion_86 : decode cJ1_fixAfterInsertion 86 = .ok (.aload_n 1, 1) := dk_43 (dk_at dksJ1_fixAfterInsertion_3 14 rfl rfl)
theorem dJ1_fixAfterInsertion_87 : decode cJ1_fixAfterInsertion 87 = .ok (.invokestatic 294, 3) := dk_184 1 38 (dk_at dksJ1_fixAfterInsertion_3 15 rfl rfl)
theorem dJ1_fixAfterInsertion_90 : decode cJ1_fixAfterInsertion 90 = .ok (.invokestatic 294, 3) := dk_184 1 38 (dk_at dksJ1_fixAfterInsertion_3 18 rfl rfl)
theorem dJ1_fixAfterInsertion_93 : decode cJ1_fixAfterInsertion 93 = .ok (.astore_n 1, 1) := dk_76 (dk_at dksJ1_fixAfterInsertion_3 21 rfl rfl)
theorem dJ1_fixAfterInsertion_94 : decode cJ1_fixAfterInsertion 94 = .ok (.goto 54, 3) := dk_167 0 54 (dk_at dksJ1_fixAfterInsertion_4 0 rfl rfl)
theorem dJ1_fixAfterInsertion_97 : decode cJ1_fixAfterInsertion 97 = .ok (.aload_n 1, 1) := dk_43 (dk_at dksJ1_fixAfterInsertion_4 3 rfl rfl)
theorem dJ1_fixAfterInsertion_98 : decode cJ1_fixAfterInsertion 98 = .ok (.aload_n 1, 1) := dk_43 (dk_at dksJ1_fixAfterInsertion_4 4 rfl rfl)
theorem dJ1_fixAfterInsertion_99 : decode cJ1_fixAfterInsertion 99 = .ok (.invokestatic 294, 3) := dk_184 1 38 (dk_at dksJ1_fixAfterInsertion_4 5 rfl rfl)
theorem dJ1_fixAfterInsertion_102 : decode cJ1_fixAfterInsertion 102 = .ok (.invokestatic 300, 3) := dk_184 1 44 (dk_at dksJ1_fixAfterInsertion_4 8 rfl rfl)
theorem dJ1_fixAfterInsertion_105 : decode cJ1_fixAfterInsertion 105 = .ok (.if_acmp .ne 13, 3) := dk_166 0 13 (dk_at dksJ1_fixAfterInsertion_4 11 rfl rfl)
theorem dJ1_fixAfterInsertion_108 : decode cJ1_fixAfterInsertion 108 = .ok (.aload_n 1, 1) := dk_43 (dk_at dksJ1_fixAfterInsertion_4 14 rfl rfl)
theorem dJ1_fixAfterInsertion_109 : decode cJ1_fixAfterInsertion 109 = .ok (.invokestatic 294, 3) := dk_184 1 38 (dk_at dksJ1_fixAfterInsertion_4 15 rfl rfl)
theorem dJ1_fixAfterInsertion_112 : decode cJ1_fixAfterInsertion 112 = .ok (.astore_n 1, 1) := dk_76 (dk_at dksJ1_fixAfterInsertion_4 18 rfl rfl)
theorem dJ1_fixAfterInsertion_113 : decode cJ1_fixAfterInsertion 113 = .ok (.aload_n 0, 1) := dk_42 (dk_at dksJ1_fixAfterInsertion_4 19 rfl rfl)
theorem dJ1_fixAfterInsertion_114 : decode cJ1_fixAfterInsertion 114 = .ok (.aload_n 1, 1) := dk_43 (dk_at dksJ1_fixAfterInsertion_4 20 rfl rfl)
theorem dJ1_fixAfterInsertion_115 : decode cJ1_fixAfterInsertion 115 = .ok (.invokevirtual 311, 3) := dk_182 1 55 (dk_at dksJ1_fixAfterInsertion_4 21 rfl rfl)
theorem dJ1_fixAfterInsertion_118 : decode cJ1_fixAfterInsertion 118 = .ok (.aload_n 1, 1) := dk_43 (dk_at dksJ1_fixAfterInsertion_5 0 rfl rfl)
theorem dJ1_fixAfterInsertion_119 : decode cJ1_fixAfterInsertion 119 = .ok (.invokestatic 294, 3) := dk_184 1 38 (dk_at dksJ1_fixAfterInsertion_5 1 rfl rfl)
theorem dJ1_fixAfterInsertion_122 : decode cJ1_fixAfterInsertion 122 = .ok (.iconst 1, 1) := dk_4 (dk_at dksJ1_fixAfterInsertion_5 4 rfl rfl)
theorem dJ1_fixAfterInsertion_123 : decode cJ1_fixAfterInsertion 123 = .ok (.invokestatic 307, 3) := dk_184 1 51 (dk_at dksJ1_fixAfterInsertion_5 5 rfl rfl)
theorem dJ1_fixAfterInsertion_126 : decode cJ1_fixAfterInsertion 126 = .ok (.aload_n 1, 1) := dk_43 (dk_at dksJ1_fixAfterInsertion_5 8 rfl rfl)
theorem dJ1_fixAfterInsertion_127 : decode cJ1_fixAfterInsertion 127 = .ok (.invokestatic 294, 3) := dk_184 1 38 (dk_at dksJ1_fixAfterInsertion_5 9 rfl rfl)
theorem dJ1_fixAfterInsertion_130 : decode cJ1_fixAfterInsertion 130 = .ok (.invokestatic 294, 3) := dk_184 1 38 (dk_at dksJ1_fixAfterInsertion_5 12 rfl rfl)
theorem dJ1_fixAfterInsertion_133 : decode cJ1_fixAfterInsertion 133 = .ok (.iconst 0, 1) := dk_3 (dk_at dksJ1_fixAfterInsertion_5 15 rfl rfl)
theorem dJ1_fixAfterInsertion_134 : decode cJ1_fixAfterInsertion 134 = .ok (.invokestatic 307, 3) := dk_184 1 51 (dk_at dksJ1_fixAfterInsertion_5 16 rfl rfl)
theorem dJ1_fixAfterInsertion_137 : decode cJ1_fixAfterInsertion 137 = .ok (.aload_n 0, 1) := dk_42 (dk_at dksJ1_fixAfterInsertion_5 19 rfl rfl)
theorem dJ1_fixAfterInsertion_138 : decode cJ1_fixAfterInsertion 138 = .ok (.aload_n 1, 1) := dk_43 (dk_at dksJ1_fixAfterInsertion_5 20 rfl rfl)
theorem dJ1_fixAfterInsertion_139 : decode cJ1_fixAfterInsertion 139 = .ok (.invokestatic 294, 3) := dk_184 1 38 (dk_at dksJ1_fixAfterInsertion_5 21 rfl rfl)
theorem dJ1_fixAfterInsertion_142 : decode cJ1_fixAfterInsertion 142 = .ok (.invokestatic 294, 3) := dk_184 1 38 (dk_at dksJ1_fixAfterInsertion_6 0 rfl rfl)
theorem dJ1_fixAfterInsertion_145 : decode cJ1_fixAfterInsertion 145 = .ok (.invokevirtual 314, 3) := dk_182 1 58 (dk_at dksJ1_fixAfterInsertion_6 3 rfl rfl)
theorem dJ1_fixAfterInsertion_148 : decode cJ1_fixAfterInsertion 148 = .ok (.goto (-143), 3) := dk_167 255 113 (dk_at dksJ1_fixAfterInsertion_6 6 rfl rfl)
theorem dJ1_fixAfterInsertion_151 : decode cJ1_fixAfterInsertion 151 = .ok (.aload_n 1, 1) := dk_43 (dk_at dksJ1_fixAfterInsertion_6 9 rfl rfl)
theorem dJ1_fixAfterInsertion_152 : decode cJ1_fixAfterInsertion 152 = .ok (.invokestatic 294, 3) := dk_184 1 38 (dk_at dksJ1_fixAfterInsertion_6 10 rfl rfl)
theorem dJ1_fixAfterInsertion_155 : decode cJ1_fixAfterInsertion 155 = .ok (.invokestatic 294, 3) := dk_184 1 38 (dk_at dksJ1_fixAfterInsertion_6 13 rfl rfl)
theorem dJ1_fixAfterInsertion_158 : decode cJ1_fixAfterInsertion 158 = .ok (.invokestatic 297, 3) := dk_184 1 41 (dk_at dksJ1_fixAfterInsertion_6 16 rfl rfl)
theorem dJ1_fixAfterInsertion_161 : decode cJ1_fixAfterInsertion 161 = .ok (.astore_n 2, 1) := dk_77 (dk_at dksJ1_fixAfterInsertion_6 19 rfl rfl)
theorem dJ1_fixAfterInsertion_162 : decode cJ1_fixAfterInsertion 162 = .ok (.aload_n 2, 1) := dk_44 (dk_at dksJ1_fixAfterInsertion_6 20 rfl rfl)
theorem dJ1_fixAfterInsertion_163 : decode cJ1_fixAfterInsertion 163 = .ok (.invokestatic 303, 3) := dk_184 1 47 (dk_at dksJ1_fixAfterInsertion_6 21 rfl rfl)
theorem dJ1_fixAfterInsertion_166 : decode cJ1_fixAfterInsertion 166 = .ok (.ifCond .ne 38, 3) := dk_154 0 38 (dk_at dksJ1_fixAfterInsertion_7 0 rfl rfl)
theorem dJ1_fixAfterInsertion_169 : decode cJ1_fixAfterInsertion 169 = .ok (.aload_n 1, 1) := dk_43 (dk_at dksJ1_fixAfterInsertion_7 3 rfl rfl)
theorem dJ1_fixAfterInsertion_170 : decode cJ1_fixAfterInsertion 170 = .ok (.invokestatic 294, 3) := dk_184 1 38 (dk_at dksJ1_fixAfterInsertion_7 4 rfl rfl)
theorem dJ1_fixAfterInsertion_173 : decode cJ1_fixAfterInsertion 173 = .ok (.iconst 1, 1) := dk_4 (dk_at dksJ1_fixAfterInsertion_7 7 rfl rfl)
theorem dJ1_fixAfterInsertion_174 : decode cJ1_fixAfterInsertion 174 = .ok (.invokestatic 307, 3) := dk_184 1 51 (dk_at dksJ1_fixAfterInsertion_7 8 rfl rfl)
theorem dJ1_fixAfterInsertion_177 : decode cJ1_fixAfterInsertion 177 = .ok (.aload_n 2, 1) := dk_44 (dk_at dksJ1_fixAfterInsertion_7 11 rfl rfl)
theorem dJ1_fixAfterInsertion_178 : decode cJ1_fixAfterInsertion 178 = .ok (.iconst 1, 1) := dk_4 (dk_at dksJ1_fixAfterInsertion_7 12 rfl rfl)
theorem dJ1_fixAfterInsertion_179 : decode cJ1_fixAfterInsertion 179 = .ok (.invokestatic 307, 3) := dk_184 1 51 (dk_at dksJ1_fixAfterInsertion_7 13 rfl rfl)
theorem dJ1_fixAfterInsertion_182 : decode cJ1_fixAfterInsertion 182 = .ok (.aload_n 1, 1) := dk_43 (dk_at dksJ1_fixAfterInsertion_7 16 rfl rfl)
theorem dJ1_fixAfterInsertion_183 : decode cJ1_fixAfterInsertion 183 = .ok (.invokestatic 294, 3) := dk_184 1 38 (dk_at dksJ1_fixAfterInsertion_7 17 rfl rfl)
theorem dJ1_fixAfterInsertion_186 : decode cJ1_fixAfterInsertion 186 = .ok (.invokestatic 294, 3) := dk_184 1 38 (dk_at dksJ1_fixAfterInsertion_7 20 rfl rfl)
theorem dJ1_fixAfterInsertion_189 : decode cJ1_fixAfterInsertion 189 = .ok (.iconst 0, 1) := dk_3 (dk_at dksJ1_fixAfterInsertion_7 23 rfl rfl)
theorem dJ1_fixAfterInsertion_190 : decode cJ1_fixAfterInsertion 190 = .ok (.invokestatic 307, 3) := dk_184 1 51 (dk_at dksJ1_fixAfterInsertion_8 0 rfl rfl)
theorem dJ1_fixAfterInsertion_193 : decode cJ1_fixAfterInsertion 193 = .ok (.aload_n 1, 1) := dk_43 (dk_at dksJ1_fixAfterInsertion_8 3 rfl rfl)
theorem dJ1_fixAfterInsertion_194 : decode cJ1_fixAfterInsertion 194 = .ok (.invokestatic 294, 3) := dk_184 1 38 (dk_at dksJ1_fixAfterInsertion_8 4 rfl rfl)
theorem dJ1_fixAfterInsertion_197 : decode cJ1_fixAfterInsertion 197 = .ok (.invokestatic 294, 3) := dk_184 1 38 (dk_at dksJ1_fixAfterInsertion_8 7 rfl rfl)
theorem dJ1_fixAfterInsertion_200 : decode cJ1_fixAfterInsertion 200 = .ok (.astore_n 1, 1) := dk_76 (dk_at dksJ1_fixAfterInsertion_8 10 rfl rfl)
theorem dJ1_fixAfterInsertion_201 : decode cJ1_fixAfterInsertion 201 = .ok (.goto 54, 3) := dk_167 0 54 (dk_at dksJ1_fixAfterInsertion_8 11 rfl rfl)
theorem dJ1_fixAfterInsertion_204 : decode cJ1_fixAfterInsertion 204 = .ok (.aload_n 1, 1) := dk_43 (dk_at dksJ1_fixAfterInsertion_8 14 rfl rfl)
theorem dJ1_fixAfterInsertion_205 : decode cJ1_fixAfterInsertion 205 = .ok (.aload_n 1, 1) := dk_43 (dk_at dksJ1_fixAfterInsertion_8 15 rfl rfl)
theorem dJ1_fixAfterInsertion_206 : decode cJ1_fixAfterInsertion 206 = .ok (.invokestatic 294, 3) := dk_184 1 38 (dk_at dksJ1_fixAfterInsertion_8 16 rfl rfl)
theorem dJ1_fixAfterInsertion_209 : decode cJ1_fixAfterInsertion 209 = .ok (.invokestatic 297, 3) := dk_184 1 41 (dk_at dksJ1_fixAfterInsertion_8 19 rfl rfl)
theorem dJ1_fixAfterInsertion_212 : decode cJ1_fixAfterInsertion 212 = .ok (.if_acmp .ne 13, 3) := dk_166 0 13 (dk_at dksJ1_fixAfterInsertion_9 0 rfl rfl)
theorem dJ1_fixAfterInsertion_215 : decode cJ1_fixAfterInsertion 215 = .ok (.aload_n 1, 1) := dk_43 (dk_at dksJ1_fixAfterInsertion_9 3 rfl rfl)
theorem dJ1_fixAfterInsertion_216 : decode cJ1_fixAfterInsertion 216 = .ok (.invokestatic 294, 3) := dk_184 1 38 (dk_at dksJ1_fixAfterInsertion_9 4 rfl rfl)
theorem dJ1_fixAfterInsertion_219 : decode cJ1_fixAfterInsertion 219 = .ok (.astore_n 1, 1) := dk_76 (dk_at dksJ1_fixAfterInsertion_9 7 rfl rfl)
theorem dJ1_fixAfterInsertion_220 : decode cJ1_fixAfterInsertion 220 = .ok (.aload_n 0, 1) := dk_42 (dk_at dksJ1_fixAfterInsertion_9 8 rfl rfl)
theorem dJ1_fixAfterInsertion_221 : decode cJ1_fixAfterInsertion 221 = .ok (.aload_n 1, 1) := dk_43 (dk_at dksJ1_fixAfterInsertion_9 9 rfl rfl)
theorem dJ1_fixAfterInsertion_222 : decode cJ1_fixAfterInsertion 222 = .ok (.invokevirtual 314, 3) := dk_182 1 58 (dk_at dksJ1_fixAfterInsertion_9 10 rfl rfl)
theorem dJ1_fixAfterInsertion_225 : decode cJ1_fixAfterInsertion 225 = .ok (.aload_n 1, 1) := dk_43 (dk_at dksJ1_fixAfterInsertion_9 13 rfl rfl)
theorem dJ1_fixAfterInsertion_226 : decode cJ1_fixAfterInsertion 226 = .ok (.invokestatic 294, 3) := dk_184 1 38 (dk_at dksJ1_fixAfterInsertion_9 14 rfl rfl)
theorem dJ1_fixAfterInsertion_229 : decode cJ1_fixAfterInsertion 229 = .ok (.iconst 1, 1) := dk_4 (dk_at dksJ1_fixAfterInsertion_9 17 rfl rfl)
theorem dJ1_fixAfterInsertion_230 : decode cJ1_fixAfterInsertion 230 = .ok (.invokestatic 307, 3) := dk_184 1 51 (dk_at dksJ1_fixAfterInsertion_9 18 rfl rfl)
theorem dJ1_fixAfterInsertion_233 : decode cJ1_fixAfterInsertion 233 = .ok (.aload_n 1, 1) := dk_43 (dk_at dksJ1_fixAfterInsertion_9 21 rfl rfl)
theorem dJ1_fixAfterInsertion_234 : decode cJ1_fixAfterInsertion 234 = .ok (.invokestatic 294, 3) := dk_184 1 38 (dk_at dksJ1_fixAfterInsertion_10 0 rfl rfl)
theorem dJ1_fixAfterInsertion_237 : decode cJ1_fixAfterInsertion 237 = .ok (.invokestatic 294, 3) := dk_184 1 38 (dk_at dksJ1_fixAfterInsertion_10 3 rfl rfl)
theorem dJ1_fixAfterInsertion_240 : decode cJ1_fixAfterInsertion 240 = .ok (.iconst 0, 1) := dk_3 (dk_at dksJ1_fixAfterInsertion_10 6 rfl rfl)
theorem dJ1_fixAfterInsertion_241 : decode cJ1_fixAfterInsertion 241 = .ok (.invokestatic 307, 3) := dk_184 1 51 (dk_at dksJ1_fixAfterInsertion_10 7 rfl rfl)
theorem dJ1_fixAfterInsertion_244 : decode cJ1_fixAfterInsertion 244 = .ok (.aload_n 0, 1) := dk_42 (dk_at dksJ1_fixAfterInsertion_10 10 rfl rfl)
theorem dJ1_fixAfterInsertion_245 : decode cJ1_fixAfterInsertion 245 = .ok (.aload_n 1, 1) := dk_43 (dk_at dksJ1_fixAfterInsertion_10 11 rfl rfl)
theorem dJ1_fixAfterInsertion_246 : decode cJ1_fixAfterInsertion 246 = .ok (.invokestatic 294, 3) := dk_184 1 38 (dk_at dksJ1_fixAfterInsertion_10 12 rfl rfl)
theorem dJ1_fixAfterInsertion_249 : decode cJ1_fixAfterInsertion 249 = .ok (.invokestatic 294, 3) := dk_184 1 38 (dk_at dksJ1_fixAfterInsertion_10 15 rfl rfl)
theorem dJ1_fixAfterInsertion_252 : decode cJ1_fixAfterInsertion 252 = .ok (.invokevirtual 311, 3) := dk_182 1 55 (dk_at dksJ1_fixAfterInsertion_10 18 rfl rfl)
theorem dJ1_fixAfterInsertion_255 : decode cJ1_fixAfterInsertion 255 = .ok (.goto (-250), 3) := dk_167 255 6 (dk_at dksJ1_fixAfterInsertion_10 21 rfl rfl)
theorem dJ1_fixAfterInsertion_258 : decode cJ1_fixAfterInsertion 258 = .ok (.aload_n 0, 1) := dk_42 (dk_at dksJ1_fixAfterInsertion_11 0 rfl rfl)
theorem dJ1_fixAfterInsertion_259 : decode cJ1_fixAfterInsertion 259 = .ok (.getfield 101, 3) := dk_180 0 101 (dk_at dksJ1_fixAfterInsertion_11 1 rfl rfl)
theorem dJ1_fixAfterInsertion_262 : decode cJ1_fixAfterInsertion 262 = .ok (.iconst 1, 1) := dk_4 (dk_at dksJ1_fixAfterInsertion_11 4 rfl rfl)
theorem dJ1_fixAfterInsertion_263 : decode cJ1_fixAfterInsertion 263 = .ok (.putfield 290, 3) := dk_181 1 34 (dk_at dksJ1_fixAfterInsertion_11 5 rfl rfl)
theorem dJ1_fixAfterInsertion_266 : decode cJ1_fixAfterInsertion 266 = .ok (.return_, 1) := dk_177 (dk_at dksJ1_fixAfterInsertion_11 8 rfl rfl)
abbrev cJ1_parentOf : ByteArray := prog_57_method_77_code
def yJ1_parentOf : MethodName := ⟨RJ1, "parentOf", "(Ljava/util/TreeMap$Entry;)Ljava/util/TreeMap$Entry;"⟩
def dkwJ1_parentOf_0 : List UInt8 := [42, 199, 0, 7, 1, 167, 0, 7, 42, 180, 0, 124, 176]
abbrev dktJ1_parentOf_0 : List UInt8 := dkwJ1_parentOf_0 ++ []
theorem dksJ1_parentOf_0 : cJ1_parentOf.data.toList.drop 0 = dktJ1_parentOf_0 := by decide +kernel
theorem dJ1_parentOf_0 : decode cJ1_parentOf 0 = .ok (.aload_n 0, 1) := dk_42 (dk_at dksJ1_parentOf_0 0 rfl rfl)
theorem dJ1_parentOf_1 : decode cJ1_parentOf 1 = .ok (.ifnonnull 7, 3) := dk_199 0 7 (dk_at dksJ1_parentOf_0 1 rfl rfl)
theorem dJ1_parentOf_4 : decode cJ1_parentOf 4 = .ok (.aconst_null, 1) := dk_1 (dk_at dksJ1_parentOf_0 4 rfl rfl)
theorem dJ1_parentOf_5 : decode cJ1_parentOf 5 = .ok (.goto 7, 3) := dk_167 0 7 (dk_at dksJ1_parentOf_0 5 rfl rfl)
theorem dJ1_parentOf_8 : decode cJ1_parentOf 8 = .ok (.aload_n 0, 1) := dk_42 (dk_at dksJ1_parentOf_0 8 rfl rfl)
theorem dJ1_parentOf_9 : decode cJ1_parentOf 9 = .ok (.getfield 124, 3) := dk_180 0 124 (dk_at dksJ1_parentOf_0 9 rfl rfl)
theorem dJ1_parentOf_12 : decode cJ1_parentOf 12 = .ok (.areturn, 1) := dk_176 (dk_at dksJ1_parentOf_0 12 rfl rfl)
abbrev cJ1_leftOf : ByteArray := prog_57_method_79_code
def yJ1_leftOf : MethodName := ⟨RJ1, "leftOf", "(Ljava/util/TreeMap$Entry;)Ljava/util/TreeMap$Entry;"⟩
def dkwJ1_leftOf_0 : List UInt8 := [42, 199, 0, 7, 1, 167, 0, 7, 42, 180, 0, 111, 176]
abbrev dktJ1_leftOf_0 : List UInt8 := dkwJ1_leftOf_0 ++ []
theorem dksJ1_leftOf_0 : cJ1_leftOf.data.toList.drop 0 = dktJ1_leftOf_0 := by decide +kernel
theorem dJ1_leftOf_0 : decode cJ1_leftOf 0 = .ok (.aload_n 0, 1) := dk_42 (dk_at dksJ1_leftOf_0 0 rfl rfl)
theorem dJ1_leftOf_1 : decode cJ1_leftOf 1 = .ok (.ifnonnull 7, 3) := dk_199 0 7 (dk_at dksJ1_leftOf_0 1 rfl rfl)
theorem dJ1_leftOf_4 : decode cJ1_leftOf 4 = .ok (.aconst_null, 1) := dk_1 (dk_at dksJ1_leftOf_0 4 rfl rfl)
theorem dJ1_leftOf_5 : decode cJ1_leftOf 5 = .ok (.goto 7, 3) := dk_167 0 7 (dk_at dksJ1_leftOf_0 5 rfl rfl)
theorem dJ1_leftOf_8 : decode cJ1_leftOf 8 = .ok (.aload_n 0, 1) := dk_42 (dk_at dksJ1_leftOf_0 8 rfl rfl)
theorem dJ1_leftOf_9 : decode cJ1_leftOf 9 = .ok (.getfield 111, 3) := dk_180 0 111 (dk_at dksJ1_leftOf_0 9 rfl rfl)
theorem dJ1_leftOf_12 : decode cJ1_leftOf 12 = .ok (.areturn, 1) := dk_176 (dk_at dksJ1_leftOf_0 12 rfl rfl)
abbrev cJ1_rightOf : ByteArray := prog_57_method_80_code
def yJ1_rightOf : MethodName := ⟨RJ1, "rightOf", "(Ljava/util/TreeMap$Entry;)Ljava/util/TreeMap$Entry;"⟩
def dkwJ1_rightOf_0 : List UInt8 := [42, 199, 0, 7, 1, 167, 0, 7, 42, 180, 0, 114, 176]
abbrev dktJ1_rightOf_0 : List UInt8 := dkwJ1_rightOf_0 ++ []
theorem dksJ1_rightOf_0 : cJ1_rightOf.data.toList.drop 0 = dktJ1_rightOf_0 := by decide +kernel
theorem dJ1_rightOf_0 : decode cJ1_rightOf 0 = .ok (.aload_n 0, 1) := dk_42 (dk_at dksJ1_rightOf_0 0 rfl rfl)
theorem dJ1_rightOf_1 : decode cJ1_rightOf 1 = .ok (.ifnonnull 7, 3) := dk_199 0 7 (dk_at dksJ1_rightOf_0 1 rfl rfl)
theorem dJ1_rightOf_4 : decode cJ1_rightOf 4 = .ok (.aconst_null, 1) := dk_1 (dk_at dksJ1_rightOf_0 4 rfl rfl)
theorem dJ1_rightOf_5 : decode cJ1_rightOf 5 = .ok (.goto 7, 3) := dk_167 0 7 (dk_at dksJ1_rightOf_0 5 rfl rfl)
theorem dJ1_rightOf_8 : decode cJ1_rightOf 8 = .ok (.aload_n 0, 1) := dk_42 (dk_at dksJ1_rightOf_0 8 rfl rfl)
theorem dJ1_rightOf_9 : decode cJ1_rightOf 9 = .ok (.getfield 114, 3) := dk_180 0 114 (dk_at dksJ1_rightOf_0 9 rfl rfl)
theorem dJ1_rightOf_12 : decode cJ1_rightOf 12 = .ok (.areturn, 1) := dk_176 (dk_at dksJ1_rightOf_0 12 rfl rfl)
abbrev cJ1_colorOf : ByteArray := prog_57_method_76_code
def yJ1_colorOf : MethodName := ⟨RJ1, "colorOf", "(Ljava/util/TreeMap$Entry;)Z"⟩
def dkwJ1_colorOf_0 : List UInt8 := [42, 199, 0, 7, 4, 167, 0, 7, 42, 180, 1, 34, 172]
abbrev dktJ1_colorOf_0 : List UInt8 := dkwJ1_colorOf_0 ++ []
theorem dksJ1_colorOf_0 : cJ1_colorOf.data.toList.drop 0 = dktJ1_colorOf_0 := by decide +kernel
theorem dJ1_colorOf_0 : decode cJ1_colorOf 0 = .ok (.aload_n 0, 1) := dk_42 (dk_at dksJ1_colorOf_0 0 rfl rfl)
theorem dJ1_colorOf_1 : decode cJ1_colorOf 1 = .ok (.ifnonnull 7, 3) := dk_199 0 7 (dk_at dksJ1_colorOf_0 1 rfl rfl)
theorem dJ1_colorOf_4 : decode cJ1_colorOf 4 = .ok (.iconst 1, 1) := dk_4 (dk_at dksJ1_colorOf_0 4 rfl rfl)
theorem dJ1_colorOf_5 : decode cJ1_colorOf 5 = .ok (.goto 7, 3) := dk_167 0 7 (dk_at dksJ1_colorOf_0 5 rfl rfl)
theorem dJ1_colorOf_8 : decode cJ1_colorOf 8 = .ok (.aload_n 0, 1) := dk_42 (dk_at dksJ1_colorOf_0 8 rfl rfl)
theorem dJ1_colorOf_9 : decode cJ1_colorOf 9 = .ok (.getfield 290, 3) := dk_180 1 34 (dk_at dksJ1_colorOf_0 9 rfl rfl)
theorem dJ1_colorOf_12 : decode cJ1_colorOf 12 = .ok (.ireturn, 1) := dk_172 (dk_at dksJ1_colorOf_0 12 rfl rfl)
abbrev cJ1_setColor : ByteArray := prog_57_method_78_code
def yJ1_setColor : MethodName := ⟨RJ1, "setColor", "(Ljava/util/TreeMap$Entry;Z)V"⟩
def dkwJ1_setColor_0 : List UInt8 := [42, 198, 0, 8, 42, 27, 181, 1, 34, 177]
abbrev dktJ1_setColor_0 : List UInt8 := dkwJ1_setColor_0 ++ []
theorem dksJ1_setColor_0 : cJ1_setColor.data.toList.drop 0 = dktJ1_setColor_0 := by decide +kernel
theorem dJ1_setColor_0 : decode cJ1_setColor 0 = .ok (.aload_n 0, 1) := dk_42 (dk_at dksJ1_setColor_0 0 rfl rfl)
theorem dJ1_setColor_1 : decode cJ1_setColor 1 = .ok (.ifnull 8, 3) := dk_198 0 8 (dk_at dksJ1_setColor_0 1 rfl rfl)
theorem dJ1_setColor_4 : decode cJ1_setColor 4 = .ok (.aload_n 0, 1) := dk_42 (dk_at dksJ1_setColor_0 4 rfl rfl)
theorem dJ1_setColor_5 : decode cJ1_setColor 5 = .ok (.iload_n 1, 1) := dk_27 (dk_at dksJ1_setColor_0 5 rfl rfl)
theorem dJ1_setColor_6 : decode cJ1_setColor 6 = .ok (.putfield 290, 3) := dk_181 1 34 (dk_at dksJ1_setColor_0 6 rfl rfl)
theorem dJ1_setColor_9 : decode cJ1_setColor 9 = .ok (.return_, 1) := dk_177 (dk_at dksJ1_setColor_0 9 rfl rfl)
abbrev cJ1_rotateLeft : ByteArray := prog_57_method_81_code
def yJ1_rotateLeft : MethodName := ⟨RJ1, "rotateLeft", "(Ljava/util/TreeMap$Entry;)V"⟩
def dkwJ1_rotateLeft_4 : List UInt8 := [177]
abbrev dktJ1_rotateLeft_4 : List UInt8 := dkwJ1_rotateLeft_4 ++ []
def dkwJ1_rotateLeft_3 : List UInt8 := [181, 0, 111, 167, 0, 11, 43, 180, 0, 124, 44, 181, 0, 114, 44, 43, 181, 0, 111, 43, 44, 181, 0, 124]
abbrev dktJ1_rotateLeft_3 : List UInt8 := dkwJ1_rotateLeft_3 ++ dktJ1_rotateLeft_4
def dkwJ1_rotateLeft_2 : List UInt8 := [44, 181, 0, 101, 167, 0, 33, 43, 180, 0, 124, 180, 0, 111, 43, 166, 0, 14, 43, 180, 0, 124, 44]
abbrev dktJ1_rotateLeft_2 : List UInt8 := dkwJ1_rotateLeft_2 ++ dktJ1_rotateLeft_3
def dkwJ1_rotateLeft_1 : List UInt8 := [44, 180, 0, 111, 43, 181, 0, 124, 44, 43, 180, 0, 124, 181, 0, 124, 43, 180, 0, 124, 199, 0, 11, 42]
abbrev dktJ1_rotateLeft_1 : List UInt8 := dkwJ1_rotateLeft_1 ++ dktJ1_rotateLeft_2
def dkwJ1_rotateLeft_0 : List UInt8 := [43, 198, 0, 94, 43, 180, 0, 114, 77, 43, 44, 180, 0, 111, 181, 0, 114, 44, 180, 0, 111, 198, 0, 11]
abbrev dktJ1_rotateLeft_0 : List UInt8 := dkwJ1_rotateLeft_0 ++ dktJ1_rotateLeft_1
theorem dksJ1_rotateLeft_0 : cJ1_rotateLeft.data.toList.drop 0 = dktJ1_rotateLeft_0 := by decide +kernel
theorem dksJ1_rotateLeft_1 : cJ1_rotateLeft.data.toList.drop 24 = dktJ1_rotateLeft_1 := dk_seg dksJ1_rotateLeft_0 24 rfl rfl
theorem dksJ1_rotateLeft_2 : cJ1_rotateLeft.data.toList.drop 48 = dktJ1_rotateLeft_2 := dk_seg dksJ1_rotateLeft_1 24 rfl rfl
theorem dksJ1_rotateLeft_3 : cJ1_rotateLeft.data.toList.drop 71 = dktJ1_rotateLeft_3 := dk_seg dksJ1_rotateLeft_2 23 rfl rfl
theorem dksJ1_rotateLeft_4 : cJ1_rotateLeft.data.toList.drop 95 = dktJ1_rotateLeft_4 := dk_seg dksJ1_rotateLeft_3 24 rfl rfl
theorem dJ1_rotateLeft_0 : decode cJ1_rotateLeft 0 = .ok (.aload_n 1, 1) := dk_43 (dk_at dksJ1_rotateLeft_0 0 rfl rfl)
theorem dJ1_rotateLeft_1 : decode cJ1_rotateLeft 1 = .ok (.ifnull 94, 3) := dk_198 0 94 (dk_at dksJ1_rotateLeft_0 1 rfl rfl)
theorem dJ1_rotateLeft_4 : decode cJ1_rotateLeft 4 = .ok (.aload_n 1, 1) := dk_43 (dk_at dksJ1_rotateLeft_0 4 rfl rfl)
theorem dJ1_rotateLeft_5 : decode cJ1_rotateLeft 5 = .ok (.getfield 114, 3) := dk_180 0 114 (dk_at dksJ1_rotateLeft_0 5 rfl rfl)
theorem dJ1_rotateLeft_8 : decode cJ1_rotateLeft 8 = .ok (.astore_n 2, 1) := dk_77 (dk_at dksJ1_rotateLeft_0 8 rfl rfl)
theorem dJ1_rotateLeft_9 : decode cJ1_rotateLeft 9 = .ok (.aload_n 1, 1) := dk_43 (dk_at dksJ1_rotateLeft_0 9 rfl rfl)
theorem dJ1_rotateLeft_10 : decode cJ1_rotateLeft 10 = .ok (.aload_n 2, 1) := dk_44 (dk_at dksJ1_rotateLeft_0 10 rfl rfl)
theorem dJ1_rotateLeft_11 : decode cJ1_rotateLeft 11 = .ok (.getfield 111, 3) := dk_180 0 111 (dk_at dksJ1_rotateLeft_0 11 rfl rfl)
theorem dJ1_rotateLeft_14 : decode cJ1_rotateLeft 14 = .ok (.putfield 114, 3) := dk_181 0 114 (dk_at dksJ1_rotateLeft_0 14 rfl rfl)
theorem dJ1_rotateLeft_17 : decode cJ1_rotateLeft 17 = .ok (.aload_n 2, 1) := dk_44 (dk_at dksJ1_rotateLeft_0 17 rfl rfl)
theorem dJ1_rotateLeft_18 : decode cJ1_rotateLeft 18 = .ok (.getfield 111, 3) := dk_180 0 111 (dk_at dksJ1_rotateLeft_0 18 rfl rfl)
theorem dJ1_rotateLeft_21 : decode cJ1_rotateLeft 21 = .ok (.ifnull 11, 3) := dk_198 0 11 (dk_at dksJ1_rotateLeft_0 21 rfl rfl)
theorem dJ1_rotateLeft_24 : decode cJ1_rotateLeft 24 = .ok (.aload_n 2, 1) := dk_44 (dk_at dksJ1_rotateLeft_1 0 rfl rfl)
theorem dJ1_rotateLeft_25 : decode cJ1_rotateLeft 25 = .ok (.getfield 111, 3) := dk_180 0 111 (dk_at dksJ1_rotateLeft_1 1 rfl rfl)
theorem dJ1_rotateLeft_28 : decode cJ1_rotateLeft 28 = .ok (.aload_n 1, 1) := dk_43 (dk_at dksJ1_rotateLeft_1 4 rfl rfl)
theorem dJ1_rotateLeft_29 : decode cJ1_rotateLeft 29 = .ok (.putfield 124, 3) := dk_181 0 124 (dk_at dksJ1_rotateLeft_1 5 rfl rfl)
theorem dJ1_rotateLeft_32 : decode cJ1_rotateLeft 32 = .ok (.aload_n 2, 1) := dk_44 (dk_at dksJ1_rotateLeft_1 8 rfl rfl)
theorem dJ1_rotateLeft_33 : decode cJ1_rotateLeft 33 = .ok (.aload_n 1, 1) := dk_43 (dk_at dksJ1_rotateLeft_1 9 rfl rfl)
theorem dJ1_rotateLeft_34 : decode cJ1_rotateLeft 34 = .ok (.getfield 124, 3) := dk_180 0 124 (dk_at dksJ1_rotateLeft_1 10 rfl rfl)
theorem dJ1_rotateLeft_37 : decode cJ1_rotateLeft 37 = .ok (.putfield 124, 3) := dk_181 0 124 (dk_at dksJ1_rotateLeft_1 13 rfl rfl)
theorem dJ1_rotateLeft_40 : decode cJ1_rotateLeft 40 = .ok (.aload_n 1, 1) := dk_43 (dk_at dksJ1_rotateLeft_1 16 rfl rfl)
theorem dJ1_rotateLeft_41 : decode cJ1_rotateLeft 41 = .ok (.getfield 124, 3) := dk_180 0 124 (dk_at dksJ1_rotateLeft_1 17 rfl rfl)
theorem dJ1_rotateLeft_44 : decode cJ1_rotateLeft 44 = .ok (.ifnonnull 11, 3) := dk_199 0 11 (dk_at dksJ1_rotateLeft_1 20 rfl rfl)
theorem dJ1_rotateLeft_47 : decode cJ1_rotateLeft 47 = .ok (.aload_n 0, 1) := dk_42 (dk_at dksJ1_rotateLeft_1 23 rfl rfl)
theorem dJ1_rotateLeft_48 : decode cJ1_rotateLeft 48 = .ok (.aload_n 2, 1) := dk_44 (dk_at dksJ1_rotateLeft_2 0 rfl rfl)
theorem dJ1_rotateLeft_49 : decode cJ1_rotateLeft 49 = .ok (.putfield 101, 3) := dk_181 0 101 (dk_at dksJ1_rotateLeft_2 1 rfl rfl)
theorem dJ1_rotateLeft_52 : decode cJ1_rotateLeft 52 = .ok (.goto 33, 3) := dk_167 0 33 (dk_at dksJ1_rotateLeft_2 4 rfl rfl)
theorem dJ1_rotateLeft_55 : decode cJ1_rotateLeft 55 = .ok (.aload_n 1, 1) := dk_43 (dk_at dksJ1_rotateLeft_2 7 rfl rfl)
theorem dJ1_rotateLeft_56 : decode cJ1_rotateLeft 56 = .ok (.getfield 124, 3) := dk_180 0 124 (dk_at dksJ1_rotateLeft_2 8 rfl rfl)
theorem dJ1_rotateLeft_59 : decode cJ1_rotateLeft 59 = .ok (.getfield 111, 3) := dk_180 0 111 (dk_at dksJ1_rotateLeft_2 11 rfl rfl)
theorem dJ1_rotateLeft_62 : decode cJ1_rotateLeft 62 = .ok (.aload_n 1, 1) := dk_43 (dk_at dksJ1_rotateLeft_2 14 rfl rfl)
theorem dJ1_rotateLeft_63 : decode cJ1_rotateLeft 63 = .ok (.if_acmp .ne 14, 3) := dk_166 0 14 (dk_at dksJ1_rotateLeft_2 15 rfl rfl)
theorem dJ1_rotateLeft_66 : decode cJ1_rotateLeft 66 = .ok (.aload_n 1, 1) := dk_43 (dk_at dksJ1_rotateLeft_2 18 rfl rfl)
theorem dJ1_rotateLeft_67 : decode cJ1_rotateLeft 67 = .ok (.getfield 124, 3) := dk_180 0 124 (dk_at dksJ1_rotateLeft_2 19 rfl rfl)
theorem dJ1_rotateLeft_70 : decode cJ1_rotateLeft 70 = .ok (.aload_n 2, 1) := dk_44 (dk_at dksJ1_rotateLeft_2 22 rfl rfl)
theorem dJ1_rotateLeft_71 : decode cJ1_rotateLeft 71 = .ok (.putfield 111, 3) := dk_181 0 111 (dk_at dksJ1_rotateLeft_3 0 rfl rfl)
theorem dJ1_rotateLeft_74 : decode cJ1_rotateLeft 74 = .ok (.goto 11, 3) := dk_167 0 11 (dk_at dksJ1_rotateLeft_3 3 rfl rfl)
theorem dJ1_rotateLeft_77 : decode cJ1_rotateLeft 77 = .ok (.aload_n 1, 1) := dk_43 (dk_at dksJ1_rotateLeft_3 6 rfl rfl)
theorem dJ1_rotateLeft_78 : decode cJ1_rotateLeft 78 = .ok (.getfield 124, 3) := dk_180 0 124 (dk_at dksJ1_rotateLeft_3 7 rfl rfl)
theorem dJ1_rotateLeft_81 : decode cJ1_rotateLeft 81 = .ok (.aload_n 2, 1) := dk_44 (dk_at dksJ1_rotateLeft_3 10 rfl rfl)
theorem dJ1_rotateLeft_82 : decode cJ1_rotateLeft 82 = .ok (.putfield 114, 3) := dk_181 0 114 (dk_at dksJ1_rotateLeft_3 11 rfl rfl)
theorem dJ1_rotateLeft_85 : decode cJ1_rotateLeft 85 = .ok (.aload_n 2, 1) := dk_44 (dk_at dksJ1_rotateLeft_3 14 rfl rfl)
theorem dJ1_rotateLeft_86 : decode cJ1_rotateLeft 86 = .ok (.aload_n 1, 1) := dk_43 (dk_at dksJ1_rotateLeft_3 15 rfl rfl)
theorem dJ1_rotateLeft_87 : decode cJ1_rotateLeft 87 = .ok (.putfield 111, 3) := dk_181 0 111 (dk_at dksJ1_rotateLeft_3 16 rfl rfl)
theorem dJ1_rotateLeft_90 : decode cJ1_rotateLeft 90 = .ok (.aload_n 1, 1) := dk_43 (dk_at dksJ1_rotateLeft_3 19 rfl rfl)
theorem dJ1_rotateLeft_91 : decode cJ1_rotateLeft 91 = .ok (.aload_n 2, 1) := dk_44 (dk_at dksJ1_rotateLeft_3 20 rfl rfl)
theorem dJ1_rotateLeft_92 : decode cJ1_rotateLeft 92 = .ok (.putfield 124, 3) := dk_181 0 124 (dk_at dksJ1_rotateLeft_3 21 rfl rfl)
theorem dJ1_rotateLeft_95 : decode cJ1_rotateLeft 95 = .ok (.return_, 1) := dk_177 (dk_at dksJ1_rotateLeft_4 0 rfl rfl)
abbrev cJ1_rotateRight : ByteArray := prog_57_method_82_code
def yJ1_rotateRight : MethodName := ⟨RJ1, "rotateRight", "(Ljava/util/TreeMap$Entry;)V"⟩
def dkwJ1_rotateRight_4 : List UInt8 := [177]
abbrev dktJ1_rotateRight_4 : List UInt8 := dkwJ1_rotateRight_4 ++ []
def dkwJ1_rotateRight_3 : List UInt8 := [181, 0, 114, 167, 0, 11, 43, 180, 0, 124, 44, 181, 0, 111, 44, 43, 181, 0, 114, 43, 44, 181, 0, 124]
abbrev dktJ1_rotateRight_3 : List UInt8 := dkwJ1_rotateRight_3 ++ dktJ1_rotateRight_4
def dkwJ1_rotateRight_2 : List UInt8 := [44, 181, 0, 101, 167, 0, 33, 43, 180, 0, 124, 180, 0, 114, 43, 166, 0, 14, 43, 180, 0, 124, 44]
abbrev dktJ1_rotateRight_2 : List UInt8 := dkwJ1_rotateRight_2 ++ dktJ1_rotateRight_3
def dkwJ1_rotateRight_1 : List UInt8 := [44, 180, 0, 114, 43, 181, 0, 124, 44, 43, 180, 0, 124, 181, 0, 124, 43, 180, 0, 124, 199, 0, 11, 42]
abbrev dktJ1_rotateRight_1 : List UInt8 := dkwJ1_rotateRight_1 ++ dktJ1_rotateRight_2
def dkwJ1_rotateRight_0 : List UInt8 := [43, 198, 0, 94, 43, 180, 0, 111, 77, 43, 44, 180, 0, 114, 181, 0, 111, 44, 180, 0, 114, 198, 0, 11]
abbrev dktJ1_rotateRight_0 : List UInt8 := dkwJ1_rotateRight_0 ++ dktJ1_rotateRight_1
theorem dksJ1_rotateRight_0 : cJ1_rotateRight.data.toList.drop 0 = dktJ1_rotateRight_0 := by decide +kernel
theorem dksJ1_rotateRight_1 : cJ1_rotateRight.data.toList.drop 24 = dktJ1_rotateRight_1 := dk_seg dksJ1_rotateRight_0 24 rfl rfl
theorem dksJ1_rotateRight_2 : cJ1_rotateRight.data.toList.drop 48 = dktJ1_rotateRight_2 := dk_seg dksJ1_rotateRight_1 24 rfl rfl
theorem dksJ1_rotateRight_3 : cJ1_rotateRight.data.toList.drop 71 = dktJ1_rotateRight_3 := dk_seg dksJ1_rotateRight_2 23 rfl rfl
theorem dksJ1_rotateRight_4 : cJ1_rotateRight.data.toList.drop 95 = dktJ1_rotateRight_4 := dk_seg dksJ1_rotateRight_3 24 rfl rfl
theorem dJ1_rotateRight_0 : decode cJ1_rotateRight 0 = .ok (.aload_n 1, 1) := dk_43 (dk_at dksJ1_rotateRight_0 0 rfl rfl)
theorem dJ1_rotateRight_1 : decode cJ1_rotateRight 1 = .ok (.ifnull 94, 3) := dk_198 0 94 (dk_at dksJ1_rotateRight_0 1 rfl rfl)
theorem dJ1_rotateRight_4 : decode cJ1_rotateRight 4 = .ok (.aload_n 1, 1) := dk_43 (dk_at dksJ1_rotateRight_0 4 rfl rfl)
theorem dJ1_rotateRight_5 : decode cJ1_rotateRight 5 = .ok (.getfield 111, 3) := dk_180 0 111 (dk_at dksJ1_rotateRight_0 5 rfl rfl)
theorem dJ1_rotateRight_8 : decode cJ1_rotateRight 8 = .ok (.astore_n 2, 1) := dk_77 (dk_at dksJ1_rotateRight_0 8 rfl rfl)
theorem dJ1_rotateRight_9 : decode cJ1_rotateRight 9 = .ok (.aload_n 1, 1) := dk_43 (dk_at dksJ1_rotateRight_0 9 rfl rfl)
theorem dJ1_rotateRight_10 : decode cJ1_rotateRight 10 = .ok (.aload_n 2, 1) := dk_44 (dk_at dksJ1_rotateRight_0 10 rfl rfl)
theorem dJ1_rotateRight_11 : decode cJ1_rotateRight 11 = .ok (.getfield 114, 3) := dk_180 0 114 (dk_at dksJ1_rotateRight_0 11 rfl rfl)
theorem dJ1_rotateRight_14 : decode cJ1_rotateRight 14 = .ok (.putfield 111, 3) := dk_181 0 111 (dk_at dksJ1_rotateRight_0 14 rfl rfl)
theorem dJ1_rotateRight_17 : decode cJ1_rotateRight 17 = .ok (.aload_n 2, 1) := dk_44 (dk_at dksJ1_rotateRight_0 17 rfl rfl)
theorem dJ1_rotateRight_18 : decode cJ1_rotateRight 18 = .ok (.getfield 114, 3) := dk_180 0 114 (dk_at dksJ1_rotateRight_0 18 rfl rfl)
theorem dJ1_rotateRight_21 : decode cJ1_rotateRight 21 = .ok (.ifnull 11, 3) := dk_198 0 11 (dk_at dksJ1_rotateRight_0 21 rfl rfl)
theorem dJ1_rotateRight_24 : decode cJ1_rotateRight 24 = .ok (.aload_n 2, 1) := dk_44 (dk_at dksJ1_rotateRight_1 0 rfl rfl)
theorem dJ1_rotateRight_25 : decode cJ1_rotateRight 25 = .ok (.getfield 114, 3) := dk_180 0 114 (dk_at dksJ1_rotateRight_1 1 rfl rfl)
theorem dJ1_rotateRight_28 : decode cJ1_rotateRight 28 = .ok (.aload_n 1, 1) := dk_43 (dk_at dksJ1_rotateRight_1 4 rfl rfl)
theorem dJ1_rotateRight_29 : decode cJ1_rotateRight 29 = .ok (.putfield 124, 3) := dk_181 0 124 (dk_at dksJ1_rotateRight_1 5 rfl rfl)
theorem dJ1_rotateRight_32 : decode cJ1_rotateRight 32 = .ok (.aload_n 2, 1) := dk_44 (dk_at dksJ1_rotateRight_1 8 rfl rfl)
theorem dJ1_rotateRight_33 : decode cJ1_rotateRight 33 = .ok (.aload_n 1, 1) := dk_43 (dk_at dksJ1_rotateRight_1 9 rfl rfl)
theorem dJ1_rotateRight_34 : decode cJ1_rotateRight 34 = .ok (.getfield 124, 3) := dk_180 0 124 (dk_at dksJ1_rotateRight_1 10 rfl rfl)
theorem dJ1_rotateRight_37 : decode cJ1_rotateRight 37 = .ok (.putfield 124, 3) := dk_181 0 124 (dk_at dksJ1_rotateRight_1 13 rfl rfl)
theorem dJ1_rotateRight_40 : decode cJ1_rotateRight 40 = .ok (.aload_n 1, 1) := dk_43 (dk_at dksJ1_rotateRight_1 16 rfl rfl)
theorem dJ1_rotateRight_41 : decode cJ1_rotateRight 41 = .ok (.getfield 124, 3) := dk_180 0 124 (dk_at dksJ1_rotateRight_1 17 rfl rfl)
theorem dJ1_rotateRight_44 : decode cJ1_rotateRight 44 = .ok (.ifnonnull 11, 3) := dk_199 0 11 (dk_at dksJ1_rotateRight_1 20 rfl rfl)
theorem dJ1_rotateRight_47 : decode cJ1_rotateRight 47 = .ok (.aload_n 0, 1) := dk_42 (dk_at dksJ1_rotateRight_1 23 rfl rfl)
theorem dJ1_rotateRight_48 : decode cJ1_rotateRight 48 = .ok (.aload_n 2, 1) := dk_44 (dk_at dksJ1_rotateRight_2 0 rfl rfl)
theorem dJ1_rotateRight_49 : decode cJ1_rotateRight 49 = .ok (.putfield 101, 3) := dk_181 0 101 (dk_at dksJ1_rotateRight_2 1 rfl rfl)
theorem dJ1_rotateRight_52 : decode cJ1_rotateRight 52 = .ok (.goto 33, 3) := dk_167 0 33 (dk_at dksJ1_rotateRight_2 4 rfl rfl)
theorem dJ1_rotateRight_55 : decode cJ1_rotateRight 55 = .ok (.aload_n 1, 1) := dk_43 (dk_at dksJ1_rotateRight_2 7 rfl rfl)
theorem dJ1_rotateRight_56 : decode cJ1_rotateRight 56 = .ok (.getfield 124, 3) := dk_180 0 124 (dk_at dksJ1_rotateRight_2 8 rfl rfl)
theorem dJ1_rotateRight_59 : decode cJ1_rotateRight 59 = .ok (.getfield 114, 3) := dk_180 0 114 (dk_at dksJ1_rotateRight_2 11 rfl rfl)
theorem dJ1_rotateRight_62 : decode cJ1_rotateRight 62 = .ok (.aload_n 1, 1) := dk_43 (dk_at dksJ1_rotateRight_2 14 rfl rfl)
theorem dJ1_rotateRight_63 : decode cJ1_rotateRight 63 = .ok (.if_acmp .ne 14, 3) := dk_166 0 14 (dk_at dksJ1_rotateRight_2 15 rfl rfl)
theorem dJ1_rotateRight_66 : decode cJ1_rotateRight 66 = .ok (.aload_n 1, 1) := dk_43 (dk_at dksJ1_rotateRight_2 18 rfl rfl)
theorem dJ1_rotateRight_67 : decode cJ1_rotateRight 67 = .ok (.getfield 124, 3) := dk_180 0 124 (dk_at dksJ1_rotateRight_2 19 rfl rfl)
theorem dJ1_rotateRight_70 : decode cJ1_rotateRight 70 = .ok (.aload_n 2, 1) := dk_44 (dk_at dksJ1_rotateRight_2 22 rfl rfl)
theorem dJ1_rotateRight_71 : decode cJ1_rotateRight 71 = .ok (.putfield 114, 3) := dk_181 0 114 (dk_at dksJ1_rotateRight_3 0 rfl rfl)
theorem dJ1_rotateRight_74 : decode cJ1_rotateRight 74 = .ok (.goto 11, 3) := dk_167 0 11 (dk_at dksJ1_rotateRight_3 3 rfl rfl)
theorem dJ1_rotateRight_77 : decode cJ1_rotateRight 77 = .ok (.aload_n 1, 1) := dk_43 (dk_at dksJ1_rotateRight_3 6 rfl rfl)
theorem dJ1_rotateRight_78 : decode cJ1_rotateRight 78 = .ok (.getfield 124, 3) := dk_180 0 124 (dk_at dksJ1_rotateRight_3 7 rfl rfl)
theorem dJ1_rotateRight_81 : decode cJ1_rotateRight 81 = .ok (.aload_n 2, 1) := dk_44 (dk_at dksJ1_rotateRight_3 10 rfl rfl)
theorem dJ1_rotateRight_82 : decode cJ1_rotateRight 82 = .ok (.putfield 111, 3) := dk_181 0 111 (dk_at dksJ1_rotateRight_3 11 rfl rfl)
theorem dJ1_rotateRight_85 : decode cJ1_rotateRight 85 = .ok (.aload_n 2, 1) := dk_44 (dk_at dksJ1_rotateRight_3 14 rfl rfl)
theorem dJ1_rotateRight_86 : decode cJ1_rotateRight 86 = .ok (.aload_n 1, 1) := dk_43 (dk_at dksJ1_rotateRight_3 15 rfl rfl)
theorem dJ1_rotateRight_87 : decode cJ1_rotateRight 87 = .ok (.putfield 114, 3) := dk_181 0 114 (dk_at dksJ1_rotateRight_3 16 rfl rfl)
theorem dJ1_rotateRight_90 : decode cJ1_rotateRight 90 = .ok (.aload_n 1, 1) := dk_43 (dk_at dksJ1_rotateRight_3 19 rfl rfl)
theorem dJ1_rotateRight_91 : decode cJ1_rotateRight 91 = .ok (.aload_n 2, 1) := dk_44 (dk_at dksJ1_rotateRight_3 20 rfl rfl)
theorem dJ1_rotateRight_92 : decode cJ1_rotateRight 92 = .ok (.putfield 124, 3) := dk_181 0 124 (dk_at dksJ1_rotateRight_3 21 rfl rfl)
theorem dJ1_rotateRight_95 : decode cJ1_rotateRight 95 = .ok (.return_, 1) := dk_177 (dk_at dksJ1_rotateRight_4 0 rfl rfl)
abbrev cJ1_get : ByteArray := prog_57_method_8_code
def yJ1_get : MethodName := ⟨RJ1, "get", "(Ljava/lang/Object;)Ljava/lang/Object;"⟩
def dkwJ1_get_0 : List UInt8 := [42, 43, 182, 0, 50, 77, 44, 199, 0, 7, 1, 167, 0, 7, 44, 180, 0, 58, 176]
abbrev dktJ1_get_0 : List UInt8 := dkwJ1_get_0 ++ []
theorem dksJ1_get_0 : cJ1_get.data.toList.drop 0 = dktJ1_get_0 := by decide +kernel
theorem dJ1_get_0 : decode cJ1_get 0 = .ok (.aload_n 0, 1) := dk_42 (dk_at dksJ1_get_0 0 rfl rfl)
theorem dJ1_get_1 : decode cJ1_get 1 = .ok (.aload_n 1, 1) := dk_43 (dk_at dksJ1_get_0 1 rfl rfl)
theorem dJ1_get_2 : decode cJ1_get 2 = .ok (.invokevirtual 50, 3) := dk_182 0 50 (dk_at dksJ1_get_0 2 rfl rfl)
theorem dJ1_get_5 : decode cJ1_get 5 = .ok (.astore_n 2, 1) := dk_77 (dk_at dksJ1_get_0 5 rfl rfl)
theorem dJ1_get_6 : decode cJ1_get 6 = .ok (.aload_n 2, 1) := dk_44 (dk_at dksJ1_get_0 6 rfl rfl)
theorem dJ1_get_7 : decode cJ1_get 7 = .ok (.ifnonnull 7, 3) := dk_199 0 7 (dk_at dksJ1_get_0 7 rfl rfl)
theorem dJ1_get_10 : decode cJ1_get 10 = .ok (.aconst_null, 1) := dk_1 (dk_at dksJ1_get_0 10 rfl rfl)
theorem dJ1_get_11 : decode cJ1_get 11 = .ok (.goto 7, 3) := dk_167 0 7 (dk_at dksJ1_get_0 11 rfl rfl)
theorem dJ1_get_14 : decode cJ1_get 14 = .ok (.aload_n 2, 1) := dk_44 (dk_at dksJ1_get_0 14 rfl rfl)
theorem dJ1_get_15 : decode cJ1_get 15 = .ok (.getfield 58, 3) := dk_180 0 58 (dk_at dksJ1_get_0 15 rfl rfl)
theorem dJ1_get_18 : decode cJ1_get 18 = .ok (.areturn, 1) := dk_176 (dk_at dksJ1_get_0 18 rfl rfl)
abbrev cJ1_getEntry : ByteArray := prog_57_method_15_code
def yJ1_getEntry : MethodName := ⟨RJ1, "getEntry", "(Ljava/lang/Object;)Ljava/util/TreeMap$Entry;"⟩
def dkwJ1_getEntry_3 : List UInt8 := [45, 176, 167, 255, 212, 1, 176]
abbrev dktJ1_getEntry_3 : List UInt8 := dkwJ1_getEntry_3 ++ []
def dkwJ1_getEntry_2 : List UInt8 := [156, 0, 11, 45, 180, 0, 111, 78, 167, 0, 18, 21, 4, 158, 0, 11, 45, 180, 0, 114, 78, 167, 0, 5]
abbrev dktJ1_getEntry_2 : List UInt8 := dkwJ1_getEntry_2 ++ dktJ1_getEntry_3
def dkwJ1_getEntry_1 : List UInt8 := [180, 0, 101, 78, 45, 198, 0, 46, 44, 45, 180, 0, 105, 185, 0, 107, 2, 0, 54, 4, 21, 4]
abbrev dktJ1_getEntry_1 : List UInt8 := dkwJ1_getEntry_1 ++ dktJ1_getEntry_2
def dkwJ1_getEntry_0 : List UInt8 := [42, 180, 0, 16, 198, 0, 9, 42, 43, 182, 0, 92, 176, 43, 184, 0, 95, 87, 43, 192, 0, 99, 77, 42]
abbrev dktJ1_getEntry_0 : List UInt8 := dkwJ1_getEntry_0 ++ dktJ1_getEntry_1
theorem dksJ1_getEntry_0 : cJ1_getEntry.data.toList.drop 0 = dktJ1_getEntry_0 := by decide +kernel
theorem dksJ1_getEntry_1 : cJ1_getEntry.data.toList.drop 24 = dktJ1_getEntry_1 := dk_seg dksJ1_getEntry_0 24 rfl rfl
theorem dksJ1_getEntry_2 : cJ1_getEntry.data.toList.drop 46 = dktJ1_getEntry_2 := dk_seg dksJ1_getEntry_1 22 rfl rfl
theorem dksJ1_getEntry_3 : cJ1_getEntry.data.toList.drop 70 = dktJ1_getEntry_3 := dk_seg dksJ1_getEntry_2 24 rfl rfl
theorem dJ1_getEntry_0 : decode cJ1_getEntry 0 = .ok (.aload_n 0, 1) := dk_42 (dk_at dksJ1_getEntry_0 0 rfl rfl)
theorem dJ1_getEntry_1 : decode cJ1_getEntry 1 = .ok (.getfield 16, 3) := dk_180 0 16 (dk_at dksJ1_getEntry_0 1 rfl rfl)
theorem dJ1_getEntry_4 : decode cJ1_getEntry 4 = .ok (.ifnull 9, 3) := dk_198 0 9 (dk_at dksJ1_getEntry_0 4 rfl rfl)
theorem dJ1_getEntry_7 : decode cJ1_getEntry 7 = .ok (.aload_n 0, 1) := dk_42 (dk_at dksJ1_getEntry_0 7 rfl rfl)
theorem dJ1_getEntry_8 : decode cJ1_getEntry 8 = .ok (.aload_n 1, 1) := dk_43 (dk_at dksJ1_getEntry_0 8 rfl rfl)
theorem dJ1_getEntry_9 : decode cJ1_getEntry 9 = .ok (.invokevirtual 92, 3) := dk_182 0 92 (dk_at dksJ1_getEntry_0 9 rfl rfl)
theorem dJ1_getEntry_12 : decode cJ1_getEntry 12 = .ok (.areturn, 1) := dk_176 (dk_at dksJ1_getEntry_0 12 rfl rfl)
theorem dJ1_getEntry_13 : decode cJ1_getEntry 13 = .ok (.aload_n 1, 1) := dk_43 (dk_at dksJ1_getEntry_0 13 rfl rfl)
theorem dJ1_getEntry_14 : decode cJ1_getEntry 14 = .ok (.invokestatic 95, 3) := dk_184 0 95 (dk_at dksJ1_getEntry_0 14 rfl rfl)
theorem dJ1_getEntry_17 : decode cJ1_getEntry 17 = .ok (.pop, 1) := dk_87 (dk_at dksJ1_getEntry_0 17 rfl rfl)
theorem dJ1_getEntry_18 : decode cJ1_getEntry 18 = .ok (.aload_n 1, 1) := dk_43 (dk_at dksJ1_getEntry_0 18 rfl rfl)
theorem dJ1_getEntry_19 : decode cJ1_getEntry 19 = .ok (.checkcast 99, 3) := dk_192 0 99 (dk_at dksJ1_getEntry_0 19 rfl rfl)
theorem dJ1_getEntry_22 : decode cJ1_getEntry 22 = .ok (.astore_n 2, 1) := dk_77 (dk_at dksJ1_getEntry_0 22 rfl rfl)
theorem dJ1_getEntry_23 : decode cJ1_getEntry 23 = .ok (.aload_n 0, 1) := dk_42 (dk_at dksJ1_getEntry_0 23 rfl rfl)
theorem dJ1_getEntry_24 : decode cJ1_getEntry 24 = .ok (.getfield 101, 3) := dk_180 0 101 (dk_at dksJ1_getEntry_1 0 rfl rfl)
theorem dJ1_getEntry_27 : decode cJ1_getEntry 27 = .ok (.astore_n 3, 1) := dk_78 (dk_at dksJ1_getEntry_1 3 rfl rfl)
theorem dJ1_getEntry_28 : decode cJ1_getEntry 28 = .ok (.aload_n 3, 1) := dk_45 (dk_at dksJ1_getEntry_1 4 rfl rfl)
theorem dJ1_getEntry_29 : decode cJ1_getEntry 29 = .ok (.ifnull 46, 3) := dk_198 0 46 (dk_at dksJ1_getEntry_1 5 rfl rfl)
theorem dJ1_getEntry_32 : decode cJ1_getEntry 32 = .ok (.aload_n 2, 1) := dk_44 (dk_at dksJ1_getEntry_1 8 rfl rfl)
theorem dJ1_getEntry_33 : decode cJ1_getEntry 33 = .ok (.aload_n 3, 1) := dk_45 (dk_at dksJ1_getEntry_1 9 rfl rfl)
theorem dJ1_getEntry_34 : decode cJ1_getEntry 34 = .ok (.getfield 105, 3) := dk_180 0 105 (dk_at dksJ1_getEntry_1 10 rfl rfl)
theorem dJ1_getEntry_37 : decode cJ1_getEntry 37 = .ok (.invokeinterface 107 2, 5) := by decide +kernel
theorem dJ1_getEntry_42 : decode cJ1_getEntry 42 = .ok (.istore 4, 2) := dk_54 4 (dk_at dksJ1_getEntry_1 18 rfl rfl)
theorem dJ1_getEntry_44 : decode cJ1_getEntry 44 = .ok (.iload 4, 2) := dk_21 4 (dk_at dksJ1_getEntry_1 20 rfl rfl)
theorem dJ1_getEntry_46 : decode cJ1_getEntry 46 = .ok (.ifCond .ge 11, 3) := dk_156 0 11 (dk_at dksJ1_getEntry_2 0 rfl rfl)
theorem dJ1_getEntry_49 : decode cJ1_getEntry 49 = .ok (.aload_n 3, 1) := dk_45 (dk_at dksJ1_getEntry_2 3 rfl rfl)
theorem dJ1_getEntry_50 : decode cJ1_getEntry 50 = .ok (.getfield 111, 3) := dk_180 0 111 (dk_at dksJ1_getEntry_2 4 rfl rfl)
theorem dJ1_getEntry_53 : decode cJ1_getEntry 53 = .ok (.astore_n 3, 1) := dk_78 (dk_at dksJ1_getEntry_2 7 rfl rfl)
theorem dJ1_getEntry_54 : decode cJ1_getEntry 54 = .ok (.goto 18, 3) := dk_167 0 18 (dk_at dksJ1_getEntry_2 8 rfl rfl)
theorem dJ1_getEntry_57 : decode cJ1_getEntry 57 = .ok (.iload 4, 2) := dk_21 4 (dk_at dksJ1_getEntry_2 11 rfl rfl)
theorem dJ1_getEntry_59 : decode cJ1_getEntry 59 = .ok (.ifCond .le 11, 3) := dk_158 0 11 (dk_at dksJ1_getEntry_2 13 rfl rfl)
theorem dJ1_getEntry_62 : decode cJ1_getEntry 62 = .ok (.aload_n 3, 1) := dk_45 (dk_at dksJ1_getEntry_2 16 rfl rfl)
theorem dJ1_getEntry_63 : decode cJ1_getEntry 63 = .ok (.getfield 114, 3) := dk_180 0 114 (dk_at dksJ1_getEntry_2 17 rfl rfl)
theorem dJ1_getEntry_66 : decode cJ1_getEntry 66 = .ok (.astore_n 3, 1) := dk_78 (dk_at dksJ1_getEntry_2 20 rfl rfl)
theorem dJ1_getEntry_67 : decode cJ1_getEntry 67 = .ok (.goto 5, 3) := dk_167 0 5 (dk_at dksJ1_getEntry_2 21 rfl rfl)
theorem dJ1_getEntry_70 : decode cJ1_getEntry 70 = .ok (.aload_n 3, 1) := dk_45 (dk_at dksJ1_getEntry_3 0 rfl rfl)
theorem dJ1_getEntry_71 : decode cJ1_getEntry 71 = .ok (.areturn, 1) := dk_176 (dk_at dksJ1_getEntry_3 1 rfl rfl)
theorem dJ1_getEntry_72 : decode cJ1_getEntry 72 = .ok (.goto (-44), 3) := dk_167 255 212 (dk_at dksJ1_getEntry_3 2 rfl rfl)
theorem dJ1_getEntry_75 : decode cJ1_getEntry 75 = .ok (.aconst_null, 1) := dk_1 (dk_at dksJ1_getEntry_3 5 rfl rfl)
theorem dJ1_getEntry_76 : decode cJ1_getEntry 76 = .ok (.areturn, 1) := dk_176 (dk_at dksJ1_getEntry_3 6 rfl rfl)
abbrev cJ1_getEntryUsingComparator : ByteArray := prog_57_method_16_code
def yJ1_getEntryUsingComparator : MethodName := ⟨RJ1, "getEntryUsingComparator", "(Ljava/lang/Object;)Ljava/util/TreeMap$Entry;"⟩
abbrev cJ1_containsKey : ByteArray := prog_57_method_6_code
def yJ1_containsKey : MethodName := ⟨RJ1, "containsKey", "(Ljava/lang/Object;)Z"⟩
def dkwJ1_containsKey_0 : List UInt8 := [42, 43, 182, 0, 50, 198, 0, 7, 4, 167, 0, 4, 3, 172]
abbrev dktJ1_containsKey_0 : List UInt8 := dkwJ1_containsKey_0 ++ []
theorem dksJ1_containsKey_0 : cJ1_containsKey.data.toList.drop 0 = dktJ1_containsKey_0 := by decide +kernel
theorem dJ1_containsKey_0 : decode cJ1_containsKey 0 = .ok (.aload_n 0, 1) := dk_42 (dk_at dksJ1_containsKey_0 0 rfl rfl)
theorem dJ1_containsKey_1 : decode cJ1_containsKey 1 = .ok (.aload_n 1, 1) := dk_43 (dk_at dksJ1_containsKey_0 1 rfl rfl)
theorem dJ1_containsKey_2 : decode cJ1_containsKey 2 = .ok (.invokevirtual 50, 3) := dk_182 0 50 (dk_at dksJ1_containsKey_0 2 rfl rfl)
theorem dJ1_containsKey_5 : decode cJ1_containsKey 5 = .ok (.ifnull 7, 3) := dk_198 0 7 (dk_at dksJ1_containsKey_0 5 rfl rfl)
theorem dJ1_containsKey_8 : decode cJ1_containsKey 8 = .ok (.iconst 1, 1) := dk_4 (dk_at dksJ1_containsKey_0 8 rfl rfl)
theorem dJ1_containsKey_9 : decode cJ1_containsKey 9 = .ok (.goto 4, 3) := dk_167 0 4 (dk_at dksJ1_containsKey_0 9 rfl rfl)
theorem dJ1_containsKey_12 : decode cJ1_containsKey 12 = .ok (.iconst 0, 1) := dk_3 (dk_at dksJ1_containsKey_0 12 rfl rfl)
theorem dJ1_containsKey_13 : decode cJ1_containsKey 13 = .ok (.ireturn, 1) := dk_172 (dk_at dksJ1_containsKey_0 13 rfl rfl)
abbrev cJ1_navigableKeySet : ByteArray := prog_57_method_50_code
def yJ1_navigableKeySet : MethodName := ⟨RJ1, "navigableKeySet", "()Ljava/util/NavigableSet;"⟩
def dkwJ1_navigableKeySet_1 : List UInt8 := [181, 0, 191, 176]
abbrev dktJ1_navigableKeySet_1 : List UInt8 := dkwJ1_navigableKeySet_1 ++ []
def dkwJ1_navigableKeySet_0 : List UInt8 := [42, 180, 0, 191, 76, 43, 198, 0, 7, 43, 167, 0, 16, 42, 187, 0, 222, 89, 42, 183, 0, 224, 90]
abbrev dktJ1_navigableKeySet_0 : List UInt8 := dkwJ1_navigableKeySet_0 ++ dktJ1_navigableKeySet_1
theorem dksJ1_navigableKeySet_0 : cJ1_navigableKeySet.data.toList.drop 0 = dktJ1_navigableKeySet_0 := by decide +kernel
theorem dksJ1_navigableKeySet_1 : cJ1_navigableKeySet.data.toList.drop 23 = dktJ1_navigableKeySet_1 := dk_seg dksJ1_navigableKeySet_0 23 rfl rfl
theorem dJ1_navigableKeySet_0 : decode cJ1_navigableKeySet 0 = .ok (.aload_n 0, 1) := dk_42 (dk_at dksJ1_navigableKeySet_0 0 rfl rfl)
theorem dJ1_navigableKeySet_1 : decode cJ1_navigableKeySet 1 = .ok (.getfield 191, 3) := dk_180 0 191 (dk_at dksJ1_navigableKeySet_0 1 rfl rfl)
theorem dJ1_navigableKeySet_4 : decode cJ1_navigableKeySet 4 = .ok (.astore_n 1, 1) := dk_76 (dk_at dksJ1_navigableKeySet_0 4 rfl rfl)
theorem dJ1_navigableKeySet_5 : decode cJ1_navigableKeySet 5 = .ok (.aload_n 1, 1) := dk_43 (dk_at dksJ1_navigableKeySet_0 5 rfl rfl)
theorem dJ1_navigableKeySet_6 : decode cJ1_navigableKeySet 6 = .ok (.ifnull 7, 3) := dk_198 0 7 (dk_at dksJ1_navigableKeySet_0 6 rfl rfl)
theorem dJ1_navigableKeySet_9 : decode cJ1_navigableKeySet 9 = .ok (.aload_n 1, 1) := dk_43 (dk_at dksJ1_navigableKeySet_0 9 rfl rfl)
theorem dJ1_navigableKeySet_10 : decode cJ1_navigableKeySet 10 = .ok (.goto 16, 3) := dk_167 0 16 (dk_at dksJ1_navigableKeySet_0 10 rfl rfl)
theorem dJ1_navigableKeySet_13 : decode cJ1_navigableKeySet 13 = .ok (.aload_n 0, 1) := dk_42 (dk_at dksJ1_navigableKeySet_0 13 rfl rfl)
theorem dJ1_navigableKeySet_14 : decode cJ1_navigableKeySet 14 = .ok (.new 222, 3) := dk_187 0 222 (dk_at dksJ1_navigableKeySet_0 14 rfl rfl)
theorem dJ1_navigableKeySet_17 : decode cJ1_navigableKeySet 17 = .ok (.dup, 1) := dk_89 (dk_at dksJ1_navigableKeySet_0 17 rfl rfl)
theorem dJ1_navigableKeySet_18 : decode cJ1_navigableKeySet 18 = .ok (.aload_n 0, 1) := dk_42 (dk_at dksJ1_navigableKeySet_0 18 rfl rfl)
theorem dJ1_navigableKeySet_19 : decode cJ1_navigableKeySet 19 = .ok (.invokespecial 224, 3) := dk_183 0 224 (dk_at dksJ1_navigableKeySet_0 19 rfl rfl)
theorem dJ1_navigableKeySet_22 : decode cJ1_navigableKeySet 22 = .ok (.dup_x1, 1) := dk_90 (dk_at dksJ1_navigableKeySet_0 22 rfl rfl)
theorem dJ1_navigableKeySet_23 : decode cJ1_navigableKeySet 23 = .ok (.putfield 191, 3) := dk_181 0 191 (dk_at dksJ1_navigableKeySet_1 0 rfl rfl)
theorem dJ1_navigableKeySet_26 : decode cJ1_navigableKeySet 26 = .ok (.areturn, 1) := dk_176 (dk_at dksJ1_navigableKeySet_1 3 rfl rfl)
abbrev cJ1_keyIterator : ByteArray := prog_57_method_65_code
def yJ1_keyIterator : MethodName := ⟨RJ1, "keyIterator", "()Ljava/util/Iterator;"⟩
def dkwJ1_keyIterator_0 : List UInt8 := [187, 1, 13, 89, 42, 42, 182, 0, 54, 183, 1, 15, 176]
abbrev dktJ1_keyIterator_0 : List UInt8 := dkwJ1_keyIterator_0 ++ []
theorem dksJ1_keyIterator_0 : cJ1_keyIterator.data.toList.drop 0 = dktJ1_keyIterator_0 := by decide +kernel
theorem dJ1_keyIterator_0 : decode cJ1_keyIterator 0 = .ok (.new 269, 3) := dk_187 1 13 (dk_at dksJ1_keyIterator_0 0 rfl rfl)
theorem dJ1_keyIterator_3 : decode cJ1_keyIterator 3 = .ok (.dup, 1) := dk_89 (dk_at dksJ1_keyIterator_0 3 rfl rfl)
theorem dJ1_keyIterator_4 : decode cJ1_keyIterator 4 = .ok (.aload_n 0, 1) := dk_42 (dk_at dksJ1_keyIterator_0 4 rfl rfl)
theorem dJ1_keyIterator_5 : decode cJ1_keyIterator 5 = .ok (.aload_n 0, 1) := dk_42 (dk_at dksJ1_keyIterator_0 5 rfl rfl)
theorem dJ1_keyIterator_6 : decode cJ1_keyIterator 6 = .ok (.invokevirtual 54, 3) := dk_182 0 54 (dk_at dksJ1_keyIterator_0 6 rfl rfl)
theorem dJ1_keyIterator_9 : decode cJ1_keyIterator 9 = .ok (.invokespecial 271, 3) := dk_183 1 15 (dk_at dksJ1_keyIterator_0 9 rfl rfl)
theorem dJ1_keyIterator_12 : decode cJ1_keyIterator 12 = .ok (.areturn, 1) := dk_176 (dk_at dksJ1_keyIterator_0 12 rfl rfl)
abbrev cJ1_getFirstEntry : ByteArray := prog_57_method_72_code
def yJ1_getFirstEntry : MethodName := ⟨RJ1, "getFirstEntry", "()Ljava/util/TreeMap$Entry;"⟩
def dkwJ1_getFirstEntry_1 : List UInt8 := [43, 176]
abbrev dktJ1_getFirstEntry_1 : List UInt8 := dkwJ1_getFirstEntry_1 ++ []
def dkwJ1_getFirstEntry_0 : List UInt8 := [42, 180, 0, 101, 76, 43, 198, 0, 18, 43, 180, 0, 111, 198, 0, 11, 43, 180, 0, 111, 76, 167, 255, 244]
abbrev dktJ1_getFirstEntry_0 : List UInt8 := dkwJ1_getFirstEntry_0 ++ dktJ1_getFirstEntry_1
theorem dksJ1_getFirstEntry_0 : cJ1_getFirstEntry.data.toList.drop 0 = dktJ1_getFirstEntry_0 := by decide +kernel
theorem dksJ1_getFirstEntry_1 : cJ1_getFirstEntry.data.toList.drop 24 = dktJ1_getFirstEntry_1 := dk_seg dksJ1_getFirstEntry_0 24 rfl rfl
theorem dJ1_getFirstEntry_0 : decode cJ1_getFirstEntry 0 = .ok (.aload_n 0, 1) := dk_42 (dk_at dksJ1_getFirstEntry_0 0 rfl rfl)
theorem dJ1_getFirstEntry_1 : decode cJ1_getFirstEntry 1 = .ok (.getfield 101, 3) := dk_180 0 101 (dk_at dksJ1_getFirstEntry_0 1 rfl rfl)
theorem dJ1_getFirstEntry_4 : decode cJ1_getFirstEntry 4 = .ok (.astore_n 1, 1) := dk_76 (dk_at dksJ1_getFirstEntry_0 4 rfl rfl)
theorem dJ1_getFirstEntry_5 : decode cJ1_getFirstEntry 5 = .ok (.aload_n 1, 1) := dk_43 (dk_at dksJ1_getFirstEntry_0 5 rfl rfl)
theorem dJ1_getFirstEntry_6 : decode cJ1_getFirstEntry 6 = .ok (.ifnull 18, 3) := dk_198 0 18 (dk_at dksJ1_getFirstEntry_0 6 rfl rfl)
theorem dJ1_getFirstEntry_9 : decode cJ1_getFirstEntry 9 = .ok (.aload_n 1, 1) := dk_43 (dk_at dksJ1_getFirstEntry_0 9 rfl rfl)
theorem dJ1_getFirstEntry_10 : decode cJ1_getFirstEntry 10 = .ok (.getfield 111, 3) := dk_180 0 111 (dk_at dksJ1_getFirstEntry_0 10 rfl rfl)
theorem dJ1_getFirstEntry_13 : decode cJ1_getFirstEntry 13 = .ok (.ifnull 11, 3) := dk_198 0 11 (dk_at dksJ1_getFirstEntry_0 13 rfl rfl)
theorem dJ1_getFirstEntry_16 : decode cJ1_getFirstEntry 16 = .ok (.aload_n 1, 1) := dk_43 (dk_at dksJ1_getFirstEntry_0 16 rfl rfl)
theorem dJ1_getFirstEntry_17 : decode cJ1_getFirstEntry 17 = .ok (.getfield 111, 3) := dk_180 0 111 (dk_at dksJ1_getFirstEntry_0 17 rfl rfl)
theorem dJ1_getFirstEntry_20 : decode cJ1_getFirstEntry 20 = .ok (.astore_n 1, 1) := dk_76 (dk_at dksJ1_getFirstEntry_0 20 rfl rfl)
theorem dJ1_getFirstEntry_21 : decode cJ1_getFirstEntry 21 = .ok (.goto (-12), 3) := dk_167 255 244 (dk_at dksJ1_getFirstEntry_0 21 rfl rfl)
theorem dJ1_getFirstEntry_24 : decode cJ1_getFirstEntry 24 = .ok (.aload_n 1, 1) := dk_43 (dk_at dksJ1_getFirstEntry_1 0 rfl rfl)
theorem dJ1_getFirstEntry_25 : decode cJ1_getFirstEntry 25 = .ok (.areturn, 1) := dk_176 (dk_at dksJ1_getFirstEntry_1 1 rfl rfl)
abbrev cJ1_successor : ByteArray := prog_57_method_74_code
def yJ1_successor : MethodName := ⟨RJ1, "successor", "(Ljava/util/TreeMap$Entry;)Ljava/util/TreeMap$Entry;"⟩
def dkwJ1_successor_2 : List UInt8 := [44, 43, 180, 0, 114, 166, 0, 13, 43, 77, 43, 180, 0, 124, 76, 167, 255, 237, 43, 176]
abbrev dktJ1_successor_2 : List UInt8 := dkwJ1_successor_2 ++ []
def dkwJ1_successor_1 : List UInt8 := [198, 0, 11, 43, 180, 0, 111, 76, 167, 255, 244, 43, 176, 42, 180, 0, 124, 76, 42, 77, 43, 198, 0, 21]
abbrev dktJ1_successor_1 : List UInt8 := dkwJ1_successor_1 ++ dktJ1_successor_2
def dkwJ1_successor_0 : List UInt8 := [42, 199, 0, 5, 1, 176, 42, 180, 0, 114, 198, 0, 25, 42, 180, 0, 114, 76, 43, 180, 0, 111]
abbrev dktJ1_successor_0 : List UInt8 := dkwJ1_successor_0 ++ dktJ1_successor_1
theorem dksJ1_successor_0 : cJ1_successor.data.toList.drop 0 = dktJ1_successor_0 := by decide +kernel
theorem dksJ1_successor_1 : cJ1_successor.data.toList.drop 22 = dktJ1_successor_1 := dk_seg dksJ1_successor_0 22 rfl rfl
theorem dksJ1_successor_2 : cJ1_successor.data.toList.drop 46 = dktJ1_successor_2 := dk_seg dksJ1_successor_1 24 rfl rfl
theorem dJ1_successor_0 : decode cJ1_successor 0 = .ok (.aload_n 0, 1) := dk_42 (dk_at dksJ1_successor_0 0 rfl rfl)
theorem dJ1_successor_1 : decode cJ1_successor 1 = .ok (.ifnonnull 5, 3) := dk_199 0 5 (dk_at dksJ1_successor_0 1 rfl rfl)
theorem dJ1_successor_4 : decode cJ1_successor 4 = .ok (.aconst_null, 1) := dk_1 (dk_at dksJ1_successor_0 4 rfl rfl)
theorem dJ1_successor_5 : decode cJ1_successor 5 = .ok (.areturn, 1) := dk_176 (dk_at dksJ1_successor_0 5 rfl rfl)
theorem dJ1_successor_6 : decode cJ1_successor 6 = .ok (.aload_n 0, 1) := dk_42 (dk_at dksJ1_successor_0 6 rfl rfl)
theorem dJ1_successor_7 : decode cJ1_successor 7 = .ok (.getfield 114, 3) := dk_180 0 114 (dk_at dksJ1_successor_0 7 rfl rfl)
theorem dJ1_successor_10 : decode cJ1_successor 10 = .ok (.ifnull 25, 3) := dk_198 0 25 (dk_at dksJ1_successor_0 10 rfl rfl)
theorem dJ1_successor_13 : decode cJ1_successor 13 = .ok (.aload_n 0, 1) := dk_42 (dk_at dksJ1_successor_0 13 rfl rfl)
theorem dJ1_successor_14 : decode cJ1_successor 14 = .ok (.getfield 114, 3) := dk_180 0 114 (dk_at dksJ1_successor_0 14 rfl rfl)
theorem dJ1_successor_17 : decode cJ1_successor 17 = .ok (.astore_n 1, 1) := dk_76 (dk_at dksJ1_successor_0 17 rfl rfl)
theorem dJ1_successor_18 : decode cJ1_successor 18 = .ok (.aload_n 1, 1) := dk_43 (dk_at dksJ1_successor_0 18 rfl rfl)
theorem dJ1_successor_19 : decode cJ1_successor 19 = .ok (.getfield 111, 3) := dk_180 0 111 (dk_at dksJ1_successor_0 19 rfl rfl)
theorem dJ1_successor_22 : decode cJ1_successor 22 = .ok (.ifnull 11, 3) := dk_198 0 11 (dk_at dksJ1_successor_1 0 rfl rfl)
theorem dJ1_successor_25 : decode cJ1_successor 25 = .ok (.aload_n 1, 1) := dk_43 (dk_at dksJ1_successor_1 3 rfl rfl)
theorem dJ1_successor_26 : decode cJ1_successor 26 = .ok (.getfield 111, 3) := dk_180 0 111 (dk_at dksJ1_successor_1 4 rfl rfl)
theorem dJ1_successor_29 : decode cJ1_successor 29 = .ok (.astore_n 1, 1) := dk_76 (dk_at dksJ1_successor_1 7 rfl rfl)
theorem dJ1_successor_30 : decode cJ1_successor 30 = .ok (.goto (-12), 3) := dk_167 255 244 (dk_at dksJ1_successor_1 8 rfl rfl)
theorem dJ1_successor_33 : decode cJ1_successor 33 = .ok (.aload_n 1, 1) := dk_43 (dk_at dksJ1_successor_1 11 rfl rfl)
theorem dJ1_successor_34 : decode cJ1_successor 34 = .ok (.areturn, 1) := dk_176 (dk_at dksJ1_successor_1 12 rfl rfl)
theorem dJ1_successor_35 : decode cJ1_successor 35 = .ok (.aload_n 0, 1) := dk_42 (dk_at dksJ1_successor_1 13 rfl rfl)
theorem dJ1_successor_36 : decode cJ1_successor 36 = .ok (.getfield 124, 3) := dk_180 0 124 (dk_at dksJ1_successor_1 14 rfl rfl)
theorem dJ1_successor_39 : decode cJ1_successor 39 = .ok (.astore_n 1, 1) := dk_76 (dk_at dksJ1_successor_1 17 rfl rfl)
theorem dJ1_successor_40 : decode cJ1_successor 40 = .ok (.aload_n 0, 1) := dk_42 (dk_at dksJ1_successor_1 18 rfl rfl)
theorem dJ1_successor_41 : decode cJ1_successor 41 = .ok (.astore_n 2, 1) := dk_77 (dk_at dksJ1_successor_1 19 rfl rfl)
theorem dJ1_successor_42 : decode cJ1_successor 42 = .ok (.aload_n 1, 1) := dk_43 (dk_at dksJ1_successor_1 20 rfl rfl)
theorem dJ1_successor_43 : decode cJ1_successor 43 = .ok (.ifnull 21, 3) := dk_198 0 21 (dk_at dksJ1_successor_1 21 rfl rfl)
theorem dJ1_successor_46 : decode cJ1_successor 46 = .ok (.aload_n 2, 1) := dk_44 (dk_at dksJ1_successor_2 0 rfl rfl)
theorem dJ1_successor_47 : decode cJ1_successor 47 = .ok (.aload_n 1, 1) := dk_43 (dk_at dksJ1_successor_2 1 rfl rfl)
theorem dJ1_successor_48 : decode cJ1_successor 48 = .ok (.getfield 114, 3) := dk_180 0 114 (dk_at dksJ1_successor_2 2 rfl rfl)
theorem dJ1_successor_51 : decode cJ1_successor 51 = .ok (.if_acmp .ne 13, 3) := dk_166 0 13 (dk_at dksJ1_successor_2 5 rfl rfl)
theorem dJ1_successor_54 : decode cJ1_successor 54 = .ok (.aload_n 1, 1) := dk_43 (dk_at dksJ1_successor_2 8 rfl rfl)
theorem dJ1_successor_55 : decode cJ1_successor 55 = .ok (.astore_n 2, 1) := dk_77 (dk_at dksJ1_successor_2 9 rfl rfl)
theorem dJ1_successor_56 : decode cJ1_successor 56 = .ok (.aload_n 1, 1) := dk_43 (dk_at dksJ1_successor_2 10 rfl rfl)
theorem dJ1_successor_57 : decode cJ1_successor 57 = .ok (.getfield 124, 3) := dk_180 0 124 (dk_at dksJ1_successor_2 11 rfl rfl)
theorem dJ1_successor_60 : decode cJ1_successor 60 = .ok (.astore_n 1, 1) := dk_76 (dk_at dksJ1_successor_2 14 rfl rfl)
theorem dJ1_successor_61 : decode cJ1_successor 61 = .ok (.goto (-19), 3) := dk_167 255 237 (dk_at dksJ1_successor_2 15 rfl rfl)
theorem dJ1_successor_64 : decode cJ1_successor 64 = .ok (.aload_n 1, 1) := dk_43 (dk_at dksJ1_successor_2 18 rfl rfl)
theorem dJ1_successor_65 : decode cJ1_successor 65 = .ok (.areturn, 1) := dk_176 (dk_at dksJ1_successor_2 19 rfl rfl)

/-! java/lang/StringLatin1 -/
set_option maxRecDepth 100000
def RJ10 : String := "java/lang/StringLatin1"
abbrev cJ10_compareTo : ByteArray := prog_26_method_15_code
def yJ10_compareTo : MethodName := ⟨RJ10, "compareTo", "([B[BII)I"⟩
abbrev cJ10_getChar : ByteArray := prog_26_method_44_code
def yJ10_getChar : MethodName := ⟨RJ10, "getChar", "([BI)C"⟩
abbrev cJ10_compareToUTF16 : ByteArray := prog_26_method_17_code
def yJ10_compareToUTF16 : MethodName := ⟨RJ10, "compareToUTF16", "([B[BII)I"⟩
abbrev cJ10_length : ByteArray := prog_26_method_5_code
def yJ10_length : MethodName := ⟨RJ10, "length", "([B)I"⟩
abbrev cJ10_compareToUTF16Values : ByteArray := prog_26_method_18_code
def yJ10_compareToUTF16Values : MethodName := ⟨RJ10, "compareToUTF16Values", "([B[BII)I"⟩
abbrev cJ10_canEncode : ByteArray := prog_26_method_3_code
def yJ10_canEncode : MethodName := ⟨RJ10, "canEncode", "(C)Z"⟩
def dkwJ10_canEncode_0 : List UInt8 := [26, 17, 0, 255, 163, 0, 7, 4, 167, 0, 4, 3, 172]
abbrev dktJ10_canEncode_0 : List UInt8 := dkwJ10_canEncode_0 ++ []
theorem dksJ10_canEncode_0 : cJ10_canEncode.data.toList.drop 0 = dktJ10_canEncode_0 := by decide +kernel
theorem dJ10_canEncode_0 : decode cJ10_canEncode 0 = .ok (.iload_n 0, 1) := dk_26 (dk_at dksJ10_canEncode_0 0 rfl rfl)
theorem dJ10_canEncode_1 : decode cJ10_canEncode 1 = .ok (.sipush 255, 3) := dk_17 0 255 (dk_at dksJ10_canEncode_0 1 rfl rfl)
theorem dJ10_canEncode_4 : decode cJ10_canEncode 4 = .ok (.if_icmp .gt 7, 3) := dk_163 0 7 (dk_at dksJ10_canEncode_0 4 rfl rfl)
theorem dJ10_canEncode_7 : decode cJ10_canEncode 7 = .ok (.iconst 1, 1) := dk_4 (dk_at dksJ10_canEncode_0 7 rfl rfl)
theorem dJ10_canEncode_8 : decode cJ10_canEncode 8 = .ok (.goto 4, 3) := dk_167 0 4 (dk_at dksJ10_canEncode_0 8 rfl rfl)
theorem dJ10_canEncode_11 : decode cJ10_canEncode 11 = .ok (.iconst 0, 1) := dk_3 (dk_at dksJ10_canEncode_0 11 rfl rfl)
theorem dJ10_canEncode_12 : decode cJ10_canEncode 12 = .ok (.ireturn, 1) := dk_172 (dk_at dksJ10_canEncode_0 12 rfl rfl)
abbrev cJ10_inflate : ByteArray := prog_26_method_50_code
def yJ10_inflate : MethodName := ⟨RJ10, "inflate", "([BI[BII)V"⟩

/-! java/lang/Math -/
set_option maxRecDepth 100000
def RJ11 : String := "java/lang/Math"
abbrev cJ11_min : ByteArray := prog_22_method_69_code
def yJ11_min : MethodName := ⟨RJ11, "min", "(II)I"⟩
def dkwJ11_min_0 : List UInt8 := [26, 27, 163, 0, 7, 26, 167, 0, 4, 27, 172]
abbrev dktJ11_min_0 : List UInt8 := dkwJ11_min_0 ++ []
theorem dksJ11_min_0 : cJ11_min.data.toList.drop 0 = dktJ11_min_0 := by decide +kernel
theorem dJ11_min_0 : decode cJ11_min 0 = .ok (.iload_n 0, 1) := dk_26 (dk_at dksJ11_min_0 0 rfl rfl)
theorem dJ11_min_1 : decode cJ11_min 1 = .ok (.iload_n 1, 1) := dk_27 (dk_at dksJ11_min_0 1 rfl rfl)
theorem dJ11_min_2 : decode cJ11_min 2 = .ok (.if_icmp .gt 7, 3) := dk_163 0 7 (dk_at dksJ11_min_0 2 rfl rfl)
theorem dJ11_min_5 : decode cJ11_min 5 = .ok (.iload_n 0, 1) := dk_26 (dk_at dksJ11_min_0 5 rfl rfl)
theorem dJ11_min_6 : decode cJ11_min 6 = .ok (.goto 4, 3) := dk_167 0 4 (dk_at dksJ11_min_0 6 rfl rfl)
theorem dJ11_min_9 : decode cJ11_min 9 = .ok (.iload_n 1, 1) := dk_27 (dk_at dksJ11_min_0 9 rfl rfl)
theorem dJ11_min_10 : decode cJ11_min 10 = .ok (.ireturn, 1) := dk_172 (dk_at dksJ11_min_0 10 rfl rfl)
abbrev cJ11_max : ByteArray := prog_22_method_65_code
def yJ11_max : MethodName := ⟨RJ11, "max", "(II)I"⟩
def dkwJ11_max_0 : List UInt8 := [26, 27, 161, 0, 7, 26, 167, 0, 4, 27, 172]
abbrev dktJ11_max_0 : List UInt8 := dkwJ11_max_0 ++ []
theorem dksJ11_max_0 : cJ11_max.data.toList.drop 0 = dktJ11_max_0 := by decide +kernel
theorem dJ11_max_0 : decode cJ11_max 0 = .ok (.iload_n 0, 1) := dk_26 (dk_at dksJ11_max_0 0 rfl rfl)
theorem dJ11_max_1 : decode cJ11_max 1 = .ok (.iload_n 1, 1) := dk_27 (dk_at dksJ11_max_0 1 rfl rfl)
theorem dJ11_max_2 : decode cJ11_max 2 = .ok (.if_icmp .lt 7, 3) := dk_161 0 7 (dk_at dksJ11_max_0 2 rfl rfl)
theorem dJ11_max_5 : decode cJ11_max 5 = .ok (.iload_n 0, 1) := dk_26 (dk_at dksJ11_max_0 5 rfl rfl)
theorem dJ11_max_6 : decode cJ11_max 6 = .ok (.goto 4, 3) := dk_167 0 4 (dk_at dksJ11_max_0 6 rfl rfl)
theorem dJ11_max_9 : decode cJ11_max 9 = .ok (.iload_n 1, 1) := dk_27 (dk_at dksJ11_max_0 9 rfl rfl)
theorem dJ11_max_10 : decode cJ11_max 10 = .ok (.ireturn, 1) := dk_172 (dk_at dksJ11_max_0 10 rfl rfl)

/-! jdk/internal/util/ArraysSupport -/
set_option maxRecDepth 100000
def RJ12 : String := "jdk/internal/util/ArraysSupport"
abbrev cJ12_mismatch : ByteArray := prog_66_method_13_code
def yJ12_mismatch : MethodName := ⟨RJ12, "mismatch", "([B[BI)I"⟩
abbrev cJ12_vectorizedMismatch : ByteArray := prog_66_method_3_code
def yJ12_vectorizedMismatch : MethodName := ⟨RJ12, "vectorizedMismatch", "(Ljava/lang/Object;JLjava/lang/Object;JII)I"⟩
abbrev cJ12_newLength : ByteArray := prog_66_method_27_code
def yJ12_newLength : MethodName := ⟨RJ12, "newLength", "(III)I"⟩
def dkwJ12_newLength_1 : List UInt8 := [184, 0, 201, 172]
abbrev dktJ12_newLength_1 : List UInt8 := dkwJ12_newLength_1 ++ []
def dkwJ12_newLength_0 : List UInt8 := [26, 27, 28, 184, 0, 194, 96, 62, 3, 29, 162, 0, 11, 29, 18, 200, 163, 0, 5, 29, 172, 26, 27]
abbrev dktJ12_newLength_0 : List UInt8 := dkwJ12_newLength_0 ++ dktJ12_newLength_1
theorem dksJ12_newLength_0 : cJ12_newLength.data.toList.drop 0 = dktJ12_newLength_0 := by decide +kernel
theorem dksJ12_newLength_1 : cJ12_newLength.data.toList.drop 23 = dktJ12_newLength_1 := dk_seg dksJ12_newLength_0 23 rfl rfl
theorem dJ12_newLength_0 : decode cJ12_newLength 0 = .ok (.iload_n 0, 1) := dk_26 (dk_at dksJ12_newLength_0 0 rfl rfl)
theorem dJ12_newLength_1 : decode cJ12_newLength 1 = .ok (.iload_n 1, 1) := dk_27 (dk_at dksJ12_newLength_0 1 rfl rfl)
theorem dJ12_newLength_2 : decode cJ12_newLength 2 = .ok (.iload_n 2, 1) := dk_28 (dk_at dksJ12_newLength_0 2 rfl rfl)
theorem dJ12_newLength_3 : decode cJ12_newLength 3 = .ok (.invokestatic 194, 3) := dk_184 0 194 (dk_at dksJ12_newLength_0 3 rfl rfl)
theorem dJ12_newLength_6 : decode cJ12_newLength 6 = .ok (.iadd, 1) := dk_96 (dk_at dksJ12_newLength_0 6 rfl rfl)
theorem dJ12_newLength_7 : decode cJ12_newLength 7 = .ok (.istore_n 3, 1) := dk_62 (dk_at dksJ12_newLength_0 7 rfl rfl)
theorem dJ12_newLength_8 : decode cJ12_newLength 8 = .ok (.iconst 0, 1) := dk_3 (dk_at dksJ12_newLength_0 8 rfl rfl)
theorem dJ12_newLength_9 : decode cJ12_newLength 9 = .ok (.iload_n 3, 1) := dk_29 (dk_at dksJ12_newLength_0 9 rfl rfl)
theorem dJ12_newLength_10 : decode cJ12_newLength 10 = .ok (.if_icmp .ge 11, 3) := dk_162 0 11 (dk_at dksJ12_newLength_0 10 rfl rfl)
theorem dJ12_newLength_13 : decode cJ12_newLength 13 = .ok (.iload_n 3, 1) := dk_29 (dk_at dksJ12_newLength_0 13 rfl rfl)
theorem dJ12_newLength_14 : decode cJ12_newLength 14 = .ok (.ldc 200, 2) := dk_18 200 (dk_at dksJ12_newLength_0 14 rfl rfl)
theorem dJ12_newLength_16 : decode cJ12_newLength 16 = .ok (.if_icmp .gt 5, 3) := dk_163 0 5 (dk_at dksJ12_newLength_0 16 rfl rfl)
theorem dJ12_newLength_19 : decode cJ12_newLength 19 = .ok (.iload_n 3, 1) := dk_29 (dk_at dksJ12_newLength_0 19 rfl rfl)
theorem dJ12_newLength_20 : decode cJ12_newLength 20 = .ok (.ireturn, 1) := dk_172 (dk_at dksJ12_newLength_0 20 rfl rfl)
theorem dJ12_newLength_21 : decode cJ12_newLength 21 = .ok (.iload_n 0, 1) := dk_26 (dk_at dksJ12_newLength_0 21 rfl rfl)
theorem dJ12_newLength_22 : decode cJ12_newLength 22 = .ok (.iload_n 1, 1) := dk_27 (dk_at dksJ12_newLength_0 22 rfl rfl)
theorem dJ12_newLength_23 : decode cJ12_newLength 23 = .ok (.invokestatic 201, 3) := dk_184 0 201 (dk_at dksJ12_newLength_1 0 rfl rfl)
theorem dJ12_newLength_26 : decode cJ12_newLength 26 = .ok (.ireturn, 1) := dk_172 (dk_at dksJ12_newLength_1 3 rfl rfl)
abbrev cJ12_hugeLength : ByteArray := prog_66_method_28_code
def yJ12_hugeLength : MethodName := ⟨RJ12, "hugeLength", "(II)I"⟩

/-! jdk/internal/misc/Unsafe -/
set_option maxRecDepth 100000
def RJ13 : String := "jdk/internal/misc/Unsafe"
abbrev cJ13_getLongUnaligned : ByteArray := prog_64_method_334_code
def yJ13_getLongUnaligned : MethodName := ⟨RJ13, "getLongUnaligned", "(Ljava/lang/Object;J)J"⟩
abbrev cJ13_makeLong : ByteArray := prog_64_method_353_code
def yJ13_makeLong : MethodName := ⟨RJ13, "makeLong", "(II)J"⟩
abbrev cJ13_toUnsignedLong : ByteArray := prog_64_method_370_code
def yJ13_toUnsignedLong : MethodName := ⟨RJ13, "toUnsignedLong", "(I)J"⟩
abbrev cJ13_pickPos : ByteArray := prog_64_method_350_code
def yJ13_pickPos : MethodName := ⟨RJ13, "pickPos", "(II)I"⟩
abbrev cJ13_makeLong_2 : ByteArray := prog_64_method_352_code
def yJ13_makeLong_2 : MethodName := ⟨RJ13, "makeLong", "(SSSS)J"⟩
abbrev cJ13_toUnsignedLong_2 : ByteArray := prog_64_method_369_code
def yJ13_toUnsignedLong_2 : MethodName := ⟨RJ13, "toUnsignedLong", "(S)J"⟩
abbrev cJ13_makeLong_3 : ByteArray := prog_64_method_351_code
def yJ13_makeLong_3 : MethodName := ⟨RJ13, "makeLong", "(BBBBBBBB)J"⟩
abbrev cJ13_toUnsignedLong_3 : ByteArray := prog_64_method_368_code
def yJ13_toUnsignedLong_3 : MethodName := ⟨RJ13, "toUnsignedLong", "(B)J"⟩
abbrev cJ13_getIntUnaligned : ByteArray := prog_64_method_336_code
def yJ13_getIntUnaligned : MethodName := ⟨RJ13, "getIntUnaligned", "(Ljava/lang/Object;J)I"⟩
abbrev cJ13_makeInt : ByteArray := prog_64_method_354_code
def yJ13_makeInt : MethodName := ⟨RJ13, "makeInt", "(SS)I"⟩
abbrev cJ13_toUnsignedInt : ByteArray := prog_64_method_367_code
def yJ13_toUnsignedInt : MethodName := ⟨RJ13, "toUnsignedInt", "(S)I"⟩
abbrev cJ13_makeInt_2 : ByteArray := prog_64_method_355_code
def yJ13_makeInt_2 : MethodName := ⟨RJ13, "makeInt", "(BBBB)I"⟩
abbrev cJ13_toUnsignedInt_2 : ByteArray := prog_64_method_366_code
def yJ13_toUnsignedInt_2 : MethodName := ⟨RJ13, "toUnsignedInt", "(B)I"⟩

/-! java/lang/Long -/
set_option maxRecDepth 100000
def RJ14 : String := "java/lang/Long"
abbrev cJ14_numberOfLeadingZeros : ByteArray := prog_21_method_48_code
def yJ14_numberOfLeadingZeros : MethodName := ⟨RJ14, "numberOfLeadingZeros", "(J)I"⟩
abbrev cJ14_numberOfTrailingZeros : ByteArray := prog_21_method_49_code
def yJ14_numberOfTrailingZeros : MethodName := ⟨RJ14, "numberOfTrailingZeros", "(J)I"⟩

/-! java/lang/StringUTF16 -/
set_option maxRecDepth 100000
def RJ15 : String := "java/lang/StringUTF16"
abbrev cJ15_compareTo : ByteArray := prog_27_method_30_code
def yJ15_compareTo : MethodName := ⟨RJ15, "compareTo", "([B[BII)I"⟩
abbrev cJ15_checkOffset : ByteArray := prog_27_method_92_code
def yJ15_checkOffset : MethodName := ⟨RJ15, "checkOffset", "(I[B)V"⟩
abbrev cJ15_length : ByteArray := prog_27_method_6_code
def yJ15_length : MethodName := ⟨RJ15, "length", "([B)I"⟩
abbrev cJ15_compareValues : ByteArray := prog_27_method_31_code
def yJ15_compareValues : MethodName := ⟨RJ15, "compareValues", "([B[BII)I"⟩
abbrev cJ15_getChar : ByteArray := prog_27_method_5_code
def yJ15_getChar : MethodName := ⟨RJ15, "getChar", "([BI)C"⟩
abbrev cJ15_compareToLatin1 : ByteArray := prog_27_method_33_code
def yJ15_compareToLatin1 : MethodName := ⟨RJ15, "compareToLatin1", "([B[BII)I"⟩
abbrev cJ15_newBytesFor : ByteArray := prog_27_method_2_code
def yJ15_newBytesFor : MethodName := ⟨RJ15, "newBytesFor", "(I)[B"⟩
abbrev cJ15_newBytesLength : ByteArray := prog_27_method_3_code
def yJ15_newBytesLength : MethodName := ⟨RJ15, "newBytesLength", "(I)I"⟩
abbrev cJ15_inflate : ByteArray := prog_27_method_86_code
def yJ15_inflate : MethodName := ⟨RJ15, "inflate", "([BI[BII)V"⟩
abbrev cJ15_checkBoundsOffCount : ByteArray := prog_27_method_94_code
def yJ15_checkBoundsOffCount : MethodName := ⟨RJ15, "checkBoundsOffCount", "(II[B)V"⟩
abbrev cJ15_putChar : ByteArray := prog_27_method_4_code
def yJ15_putChar : MethodName := ⟨RJ15, "putChar", "([BII)V"⟩
abbrev cJ15_putCharSB : ByteArray := prog_27_method_71_code
def yJ15_putCharSB : MethodName := ⟨RJ15, "putCharSB", "([BII)V"⟩
abbrev cJ15_checkIndex : ByteArray := prog_27_method_91_code
def yJ15_checkIndex : MethodName := ⟨RJ15, "checkIndex", "(I[B)V"⟩

/-! jdk/internal/util/Preconditions -/
set_option maxRecDepth 100000
def RJ16 : String := "jdk/internal/util/Preconditions"
abbrev cJ16_checkFromToIndex : ByteArray := prog_67_method_12_code
def yJ16_checkFromToIndex : MethodName := ⟨RJ16, "checkFromToIndex", "(IIILjava/util/function/BiFunction;)I"⟩
abbrev cJ16_checkFromIndexSize : ByteArray := prog_67_method_13_code
def yJ16_checkFromIndexSize : MethodName := ⟨RJ16, "checkFromIndexSize", "(IIILjava/util/function/BiFunction;)I"⟩
abbrev cJ16_checkIndex : ByteArray := prog_67_method_11_code
def yJ16_checkIndex : MethodName := ⟨RJ16, "checkIndex", "(IILjava/util/function/BiFunction;)I"⟩
def dkwJ16_checkIndex_0 : List UInt8 := [26, 155, 0, 8, 26, 27, 161, 0, 10, 44, 26, 27, 184, 0, 95, 191, 26, 172]
abbrev dktJ16_checkIndex_0 : List UInt8 := dkwJ16_checkIndex_0 ++ []
theorem dksJ16_checkIndex_0 : cJ16_checkIndex.data.toList.drop 0 = dktJ16_checkIndex_0 := by decide +kernel
theorem dJ16_checkIndex_0 : decode cJ16_checkIndex 0 = .ok (.iload_n 0, 1) := dk_26 (dk_at dksJ16_checkIndex_0 0 rfl rfl)
theorem dJ16_checkIndex_1 : decode cJ16_checkIndex 1 = .ok (.ifCond .lt 8, 3) := dk_155 0 8 (dk_at dksJ16_checkIndex_0 1 rfl rfl)
theorem dJ16_checkIndex_4 : decode cJ16_checkIndex 4 = .ok (.iload_n 0, 1) := dk_26 (dk_at dksJ16_checkIndex_0 4 rfl rfl)
theorem dJ16_checkIndex_5 : decode cJ16_checkIndex 5 = .ok (.iload_n 1, 1) := dk_27 (dk_at dksJ16_checkIndex_0 5 rfl rfl)
theorem dJ16_checkIndex_6 : decode cJ16_checkIndex 6 = .ok (.if_icmp .lt 10, 3) := dk_161 0 10 (dk_at dksJ16_checkIndex_0 6 rfl rfl)
theorem dJ16_checkIndex_9 : decode cJ16_checkIndex 9 = .ok (.aload_n 2, 1) := dk_44 (dk_at dksJ16_checkIndex_0 9 rfl rfl)
theorem dJ16_checkIndex_10 : decode cJ16_checkIndex 10 = .ok (.iload_n 0, 1) := dk_26 (dk_at dksJ16_checkIndex_0 10 rfl rfl)
theorem dJ16_checkIndex_11 : decode cJ16_checkIndex 11 = .ok (.iload_n 1, 1) := dk_27 (dk_at dksJ16_checkIndex_0 11 rfl rfl)
theorem dJ16_checkIndex_12 : decode cJ16_checkIndex 12 = .ok (.invokestatic 95, 3) := dk_184 0 95 (dk_at dksJ16_checkIndex_0 12 rfl rfl)
theorem dJ16_checkIndex_15 : decode cJ16_checkIndex 15 = .ok (.athrow, 1) := dk_191 (dk_at dksJ16_checkIndex_0 15 rfl rfl)
theorem dJ16_checkIndex_16 : decode cJ16_checkIndex 16 = .ok (.iload_n 0, 1) := dk_26 (dk_at dksJ16_checkIndex_0 16 rfl rfl)
theorem dJ16_checkIndex_17 : decode cJ16_checkIndex 17 = .ok (.ireturn, 1) := dk_172 (dk_at dksJ16_checkIndex_0 17 rfl rfl)

/-! java/util/TreeMap$Entry -/
set_option maxRecDepth 100000
def RJ17 : String := "java/util/TreeMap$Entry"
def TJ17 : u_T := fun k => match k with
  | 0 => ("java/util/TreeMap$Entry", "key", "Ljava/lang/Object;", false)
  | 1 => ("java/util/TreeMap$Entry", "value", "Ljava/lang/Object;", false)
  | 2 => ("java/util/TreeMap$Entry", "left", "Ljava/util/TreeMap$Entry;", false)
  | 3 => ("java/util/TreeMap$Entry", "right", "Ljava/util/TreeMap$Entry;", false)
  | 4 => ("java/util/TreeMap$Entry", "parent", "Ljava/util/TreeMap$Entry;", false)
  | _ => ("java/util/TreeMap$Entry", "color", "Z", false)
def tyJ17 : Nat → FieldType := fun k => match k with
  | 0 => .object "java/lang/Object"
  | 1 => .object "java/lang/Object"
  | 2 => .object "java/util/TreeMap$Entry"
  | 3 => .object "java/util/TreeMap$Entry"
  | 4 => .object "java/util/TreeMap$Entry"
  | _ => .boolean
abbrev wsJ170 : List Cond := u_ws RJ17 TJ17 6
theorem nmJ17 : ∀ a, a < 6 → ∀ b, b < 6 → a ≠ b → (TJ17 a).2.1 ≠ (TJ17 b).2.1 := by decide +kernel
theorem tyJ17_ok : ∀ k, k < 6 → parseFieldDescriptor (TJ17 k).2.2.1 = some (tyJ17 k) := by decide +kernel
abbrev cJ17_init : ByteArray := prog_58_method_1_code
def yJ17_init : MethodName := ⟨RJ17, "<init>", "(Ljava/lang/Object;Ljava/lang/Object;Ljava/util/TreeMap$Entry;)V"⟩
def dkwJ17_init_1 : List UInt8 := [177]
abbrev dktJ17_init_1 : List UInt8 := dkwJ17_init_1 ++ []
def dkwJ17_init_0 : List UInt8 := [42, 183, 0, 3, 42, 4, 181, 0, 9, 42, 43, 181, 0, 15, 42, 44, 181, 0, 19, 42, 45, 181, 0, 22]
abbrev dktJ17_init_0 : List UInt8 := dkwJ17_init_0 ++ dktJ17_init_1
theorem dksJ17_init_0 : cJ17_init.data.toList.drop 0 = dktJ17_init_0 := by decide +kernel
theorem dksJ17_init_1 : cJ17_init.data.toList.drop 24 = dktJ17_init_1 := dk_seg dksJ17_init_0 24 rfl rfl
theorem dJ17_init_0 : decode cJ17_init 0 = .ok (.aload_n 0, 1) := dk_42 (dk_at dksJ17_init_0 0 rfl rfl)
theorem dJ17_init_1 : decode cJ17_init 1 = .ok (.invokespecial 3, 3) := dk_183 0 3 (dk_at dksJ17_init_0 1 rfl rfl)
theorem dJ17_init_4 : decode cJ17_init 4 = .ok (.aload_n 0, 1) := dk_42 (dk_at dksJ17_init_0 4 rfl rfl)
theorem dJ17_init_5 : decode cJ17_init 5 = .ok (.iconst 1, 1) := dk_4 (dk_at dksJ17_init_0 5 rfl rfl)
theorem dJ17_init_6 : decode cJ17_init 6 = .ok (.putfield 9, 3) := dk_181 0 9 (dk_at dksJ17_init_0 6 rfl rfl)
theorem dJ17_init_9 : decode cJ17_init 9 = .ok (.aload_n 0, 1) := dk_42 (dk_at dksJ17_init_0 9 rfl rfl)
theorem dJ17_init_10 : decode cJ17_init 10 = .ok (.aload_n 1, 1) := dk_43 (dk_at dksJ17_init_0 10 rfl rfl)
theorem dJ17_init_11 : decode cJ17_init 11 = .ok (.putfield 15, 3) := dk_181 0 15 (dk_at dksJ17_init_0 11 rfl rfl)
theorem dJ17_init_14 : decode cJ17_init 14 = .ok (.aload_n 0, 1) := dk_42 (dk_at dksJ17_init_0 14 rfl rfl)
theorem dJ17_init_15 : decode cJ17_init 15 = .ok (.aload_n 2, 1) := dk_44 (dk_at dksJ17_init_0 15 rfl rfl)
theorem dJ17_init_16 : decode cJ17_init 16 = .ok (.putfield 19, 3) := dk_181 0 19 (dk_at dksJ17_init_0 16 rfl rfl)
theorem dJ17_init_19 : decode cJ17_init 19 = .ok (.aload_n 0, 1) := dk_42 (dk_at dksJ17_init_0 19 rfl rfl)
theorem dJ17_init_20 : decode cJ17_init 20 = .ok (.aload_n 3, 1) := dk_45 (dk_at dksJ17_init_0 20 rfl rfl)
theorem dJ17_init_21 : decode cJ17_init 21 = .ok (.putfield 22, 3) := dk_181 0 22 (dk_at dksJ17_init_0 21 rfl rfl)
theorem dJ17_init_24 : decode cJ17_init 24 = .ok (.return_, 1) := dk_177 (dk_at dksJ17_init_1 0 rfl rfl)

/-! java/util/Objects -/
set_option maxRecDepth 100000
def RJ18 : String := "java/util/Objects"
abbrev cJ18_requireNonNull : ByteArray := prog_47_method_10_code
def yJ18_requireNonNull : MethodName := ⟨RJ18, "requireNonNull", "(Ljava/lang/Object;)Ljava/lang/Object;"⟩
def dkwJ18_requireNonNull_0 : List UInt8 := [42, 199, 0, 11, 187, 0, 84, 89, 183, 0, 86, 191, 42, 176]
abbrev dktJ18_requireNonNull_0 : List UInt8 := dkwJ18_requireNonNull_0 ++ []
theorem dksJ18_requireNonNull_0 : cJ18_requireNonNull.data.toList.drop 0 = dktJ18_requireNonNull_0 := by decide +kernel
theorem dJ18_requireNonNull_0 : decode cJ18_requireNonNull 0 = .ok (.aload_n 0, 1) := dk_42 (dk_at dksJ18_requireNonNull_0 0 rfl rfl)
theorem dJ18_requireNonNull_1 : decode cJ18_requireNonNull 1 = .ok (.ifnonnull 11, 3) := dk_199 0 11 (dk_at dksJ18_requireNonNull_0 1 rfl rfl)
theorem dJ18_requireNonNull_4 : decode cJ18_requireNonNull 4 = .ok (.new 84, 3) := dk_187 0 84 (dk_at dksJ18_requireNonNull_0 4 rfl rfl)
theorem dJ18_requireNonNull_7 : decode cJ18_requireNonNull 7 = .ok (.dup, 1) := dk_89 (dk_at dksJ18_requireNonNull_0 7 rfl rfl)
theorem dJ18_requireNonNull_8 : decode cJ18_requireNonNull 8 = .ok (.invokespecial 86, 3) := dk_183 0 86 (dk_at dksJ18_requireNonNull_0 8 rfl rfl)
theorem dJ18_requireNonNull_11 : decode cJ18_requireNonNull 11 = .ok (.athrow, 1) := dk_191 (dk_at dksJ18_requireNonNull_0 11 rfl rfl)
theorem dJ18_requireNonNull_12 : decode cJ18_requireNonNull 12 = .ok (.aload_n 0, 1) := dk_42 (dk_at dksJ18_requireNonNull_0 12 rfl rfl)
theorem dJ18_requireNonNull_13 : decode cJ18_requireNonNull 13 = .ok (.areturn, 1) := dk_176 (dk_at dksJ18_requireNonNull_0 13 rfl rfl)

/-! java/util/TreeMap$KeySet -/
set_option maxRecDepth 100000
def RJ19 : String := "java/util/TreeMap$KeySet"
def TJ19 : u_T := fun k => match k with
  | _ => ("java/util/TreeMap$KeySet", "m", "Ljava/util/NavigableMap;", true)
def tyJ19 : Nat → FieldType := fun k => match k with
  | _ => .object "java/util/NavigableMap"
abbrev wsJ190 : List Cond := u_ws RJ19 TJ19 1
theorem nmJ19 : ∀ a, a < 1 → ∀ b, b < 1 → a ≠ b → (TJ19 a).2.1 ≠ (TJ19 b).2.1 := by decide +kernel
theorem tyJ19_ok : ∀ k, k < 1 → parseFieldDescriptor (TJ19 k).2.2.1 = some (tyJ19 k) := by decide +kernel
abbrev cJ19_init : ByteArray := prog_60_method_1_code
def yJ19_init : MethodName := ⟨RJ19, "<init>", "(Ljava/util/NavigableMap;)V"⟩
def dkwJ19_init_0 : List UInt8 := [42, 183, 0, 1, 42, 43, 181, 0, 7, 177]
abbrev dktJ19_init_0 : List UInt8 := dkwJ19_init_0 ++ []
theorem dksJ19_init_0 : cJ19_init.data.toList.drop 0 = dktJ19_init_0 := by decide +kernel
theorem dJ19_init_0 : decode cJ19_init 0 = .ok (.aload_n 0, 1) := dk_42 (dk_at dksJ19_init_0 0 rfl rfl)
theorem dJ19_init_1 : decode cJ19_init 1 = .ok (.invokespecial 1, 3) := dk_183 0 1 (dk_at dksJ19_init_0 1 rfl rfl)
theorem dJ19_init_4 : decode cJ19_init 4 = .ok (.aload_n 0, 1) := dk_42 (dk_at dksJ19_init_0 4 rfl rfl)
theorem dJ19_init_5 : decode cJ19_init 5 = .ok (.aload_n 1, 1) := dk_43 (dk_at dksJ19_init_0 5 rfl rfl)
theorem dJ19_init_6 : decode cJ19_init 6 = .ok (.putfield 7, 3) := dk_181 0 7 (dk_at dksJ19_init_0 6 rfl rfl)
theorem dJ19_init_9 : decode cJ19_init 9 = .ok (.return_, 1) := dk_177 (dk_at dksJ19_init_0 9 rfl rfl)
abbrev cJ19_iterator : ByteArray := prog_60_method_2_code
def yJ19_iterator : MethodName := ⟨RJ19, "iterator", "()Ljava/util/Iterator;"⟩
def dkwJ19_iterator_1 : List UInt8 := [180, 0, 7, 192, 0, 19, 182, 0, 21, 176]
abbrev dktJ19_iterator_1 : List UInt8 := dkwJ19_iterator_1 ++ []
def dkwJ19_iterator_0 : List UInt8 := [42, 180, 0, 7, 193, 0, 13, 153, 0, 14, 42, 180, 0, 7, 192, 0, 13, 182, 0, 15, 176, 42]
abbrev dktJ19_iterator_0 : List UInt8 := dkwJ19_iterator_0 ++ dktJ19_iterator_1
theorem dksJ19_iterator_0 : cJ19_iterator.data.toList.drop 0 = dktJ19_iterator_0 := by decide +kernel
theorem dksJ19_iterator_1 : cJ19_iterator.data.toList.drop 22 = dktJ19_iterator_1 := dk_seg dksJ19_iterator_0 22 rfl rfl
theorem dJ19_iterator_0 : decode cJ19_iterator 0 = .ok (.aload_n 0, 1) := dk_42 (dk_at dksJ19_iterator_0 0 rfl rfl)
theorem dJ19_iterator_1 : decode cJ19_iterator 1 = .ok (.getfield 7, 3) := dk_180 0 7 (dk_at dksJ19_iterator_0 1 rfl rfl)
theorem dJ19_iterator_4 : decode cJ19_iterator 4 = .ok (.instanceof 13, 3) := dk_193 0 13 (dk_at dksJ19_iterator_0 4 rfl rfl)
theorem dJ19_iterator_7 : decode cJ19_iterator 7 = .ok (.ifCond .eq 14, 3) := dk_153 0 14 (dk_at dksJ19_iterator_0 7 rfl rfl)
theorem dJ19_iterator_10 : decode cJ19_iterator 10 = .ok (.aload_n 0, 1) := dk_42 (dk_at dksJ19_iterator_0 10 rfl rfl)
theorem dJ19_iterator_11 : decode cJ19_iterator 11 = .ok (.getfield 7, 3) := dk_180 0 7 (dk_at dksJ19_iterator_0 11 rfl rfl)
theorem dJ19_iterator_14 : decode cJ19_iterator 14 = .ok (.checkcast 13, 3) := dk_192 0 13 (dk_at dksJ19_iterator_0 14 rfl rfl)
theorem dJ19_iterator_17 : decode cJ19_iterator 17 = .ok (.invokevirtual 15, 3) := dk_182 0 15 (dk_at dksJ19_iterator_0 17 rfl rfl)
theorem dJ19_iterator_20 : decode cJ19_iterator 20 = .ok (.areturn, 1) := dk_176 (dk_at dksJ19_iterator_0 20 rfl rfl)
theorem dJ19_iterator_21 : decode cJ19_iterator 21 = .ok (.aload_n 0, 1) := dk_42 (dk_at dksJ19_iterator_0 21 rfl rfl)
theorem dJ19_iterator_22 : decode cJ19_iterator 22 = .ok (.getfield 7, 3) := dk_180 0 7 (dk_at dksJ19_iterator_1 0 rfl rfl)
theorem dJ19_iterator_25 : decode cJ19_iterator 25 = .ok (.checkcast 19, 3) := dk_192 0 19 (dk_at dksJ19_iterator_1 3 rfl rfl)
theorem dJ19_iterator_28 : decode cJ19_iterator 28 = .ok (.invokevirtual 21, 3) := dk_182 0 21 (dk_at dksJ19_iterator_1 6 rfl rfl)
theorem dJ19_iterator_31 : decode cJ19_iterator 31 = .ok (.areturn, 1) := dk_176 (dk_at dksJ19_iterator_1 9 rfl rfl)
abbrev cJ19_size : ByteArray := prog_60_method_4_code
def yJ19_size : MethodName := ⟨RJ19, "size", "()I"⟩

/-! java/util/AbstractCollection -/
set_option maxRecDepth 100000
def RJ2 : String := "java/util/AbstractCollection"
abbrev cJ2_init : ByteArray := prog_32_method_1_code
def yJ2_init : MethodName := ⟨RJ2, "<init>", "()V"⟩
theorem dJ2_init_0 : decode cJ2_init 0 = .ok (.aload_n 0, 1) := by decide +kernel
theorem dJ2_init_1 : decode cJ2_init 1 = .ok (.invokespecial 1, 3) := by decide +kernel
theorem dJ2_init_4 : decode cJ2_init 4 = .ok (.return_, 1) := by decide +kernel
abbrev cJ2_isEmpty : ByteArray := prog_32_method_4_code
def yJ2_isEmpty : MethodName := ⟨RJ2, "isEmpty", "()Z"⟩
def dkwJ2_isEmpty_0 : List UInt8 := [42, 182, 0, 7, 154, 0, 7, 4, 167, 0, 4, 3, 172]
abbrev dktJ2_isEmpty_0 : List UInt8 := dkwJ2_isEmpty_0 ++ []
theorem dksJ2_isEmpty_0 : cJ2_isEmpty.data.toList.drop 0 = dktJ2_isEmpty_0 := by decide +kernel
theorem dJ2_isEmpty_0 : decode cJ2_isEmpty 0 = .ok (.aload_n 0, 1) := dk_42 (dk_at dksJ2_isEmpty_0 0 rfl rfl)
theorem dJ2_isEmpty_1 : decode cJ2_isEmpty 1 = .ok (.invokevirtual 7, 3) := dk_182 0 7 (dk_at dksJ2_isEmpty_0 1 rfl rfl)
theorem dJ2_isEmpty_4 : decode cJ2_isEmpty 4 = .ok (.ifCond .ne 7, 3) := dk_154 0 7 (dk_at dksJ2_isEmpty_0 4 rfl rfl)
theorem dJ2_isEmpty_7 : decode cJ2_isEmpty 7 = .ok (.iconst 1, 1) := dk_4 (dk_at dksJ2_isEmpty_0 7 rfl rfl)
theorem dJ2_isEmpty_8 : decode cJ2_isEmpty 8 = .ok (.goto 4, 3) := dk_167 0 4 (dk_at dksJ2_isEmpty_0 8 rfl rfl)
theorem dJ2_isEmpty_11 : decode cJ2_isEmpty 11 = .ok (.iconst 0, 1) := dk_3 (dk_at dksJ2_isEmpty_0 11 rfl rfl)
theorem dJ2_isEmpty_12 : decode cJ2_isEmpty 12 = .ok (.ireturn, 1) := dk_172 (dk_at dksJ2_isEmpty_0 12 rfl rfl)

/-! java/util/TreeMap$PrivateEntryIterator -/
set_option maxRecDepth 100000
def RJ20 : String := "java/util/TreeMap$PrivateEntryIterator"
abbrev cJ20_init : ByteArray := prog_62_method_1_code
def yJ20_init : MethodName := ⟨RJ20, "<init>", "(Ljava/util/TreeMap;Ljava/util/TreeMap$Entry;)V"⟩
def dkwJ20_init_1 : List UInt8 := [181, 0, 26, 177]
abbrev dktJ20_init_1 : List UInt8 := dkwJ20_init_1 ++ []
def dkwJ20_init_0 : List UInt8 := [42, 43, 181, 0, 1, 42, 183, 0, 7, 42, 43, 180, 0, 13, 181, 0, 19, 42, 1, 181, 0, 22, 42, 44]
abbrev dktJ20_init_0 : List UInt8 := dkwJ20_init_0 ++ dktJ20_init_1
theorem dksJ20_init_0 : cJ20_init.data.toList.drop 0 = dktJ20_init_0 := by decide +kernel
theorem dksJ20_init_1 : cJ20_init.data.toList.drop 24 = dktJ20_init_1 := dk_seg dksJ20_init_0 24 rfl rfl
theorem dJ20_init_0 : decode cJ20_init 0 = .ok (.aload_n 0, 1) := dk_42 (dk_at dksJ20_init_0 0 rfl rfl)
theorem dJ20_init_1 : decode cJ20_init 1 = .ok (.aload_n 1, 1) := dk_43 (dk_at dksJ20_init_0 1 rfl rfl)
theorem dJ20_init_2 : decode cJ20_init 2 = .ok (.putfield 1, 3) := dk_181 0 1 (dk_at dksJ20_init_0 2 rfl rfl)
theorem dJ20_init_5 : decode cJ20_init 5 = .ok (.aload_n 0, 1) := dk_42 (dk_at dksJ20_init_0 5 rfl rfl)
theorem dJ20_init_6 : decode cJ20_init 6 = .ok (.invokespecial 7, 3) := dk_183 0 7 (dk_at dksJ20_init_0 6 rfl rfl)
theorem dJ20_init_9 : decode cJ20_init 9 = .ok (.aload_n 0, 1) := dk_42 (dk_at dksJ20_init_0 9 rfl rfl)
theorem dJ20_init_10 : decode cJ20_init 10 = .ok (.aload_n 1, 1) := dk_43 (dk_at dksJ20_init_0 10 rfl rfl)
theorem dJ20_init_11 : decode cJ20_init 11 = .ok (.getfield 13, 3) := dk_180 0 13 (dk_at dksJ20_init_0 11 rfl rfl)
theorem dJ20_init_14 : decode cJ20_init 14 = .ok (.putfield 19, 3) := dk_181 0 19 (dk_at dksJ20_init_0 14 rfl rfl)
theorem dJ20_init_17 : decode cJ20_init 17 = .ok (.aload_n 0, 1) := dk_42 (dk_at dksJ20_init_0 17 rfl rfl)
theorem dJ20_init_18 : decode cJ20_init 18 = .ok (.aconst_null, 1) := dk_1 (dk_at dksJ20_init_0 18 rfl rfl)
theorem dJ20_init_19 : decode cJ20_init 19 = .ok (.putfield 22, 3) := dk_181 0 22 (dk_at dksJ20_init_0 19 rfl rfl)
theorem dJ20_init_22 : decode cJ20_init 22 = .ok (.aload_n 0, 1) := dk_42 (dk_at dksJ20_init_0 22 rfl rfl)
theorem dJ20_init_23 : decode cJ20_init 23 = .ok (.aload_n 2, 1) := dk_44 (dk_at dksJ20_init_0 23 rfl rfl)
theorem dJ20_init_24 : decode cJ20_init 24 = .ok (.putfield 26, 3) := dk_181 0 26 (dk_at dksJ20_init_1 0 rfl rfl)
theorem dJ20_init_27 : decode cJ20_init 27 = .ok (.return_, 1) := dk_177 (dk_at dksJ20_init_1 3 rfl rfl)
abbrev cJ20_hasNext : ByteArray := prog_62_method_2_code
def yJ20_hasNext : MethodName := ⟨RJ20, "hasNext", "()Z"⟩
def dkwJ20_hasNext_0 : List UInt8 := [42, 180, 0, 26, 198, 0, 7, 4, 167, 0, 4, 3, 172]
abbrev dktJ20_hasNext_0 : List UInt8 := dkwJ20_hasNext_0 ++ []
theorem dksJ20_hasNext_0 : cJ20_hasNext.data.toList.drop 0 = dktJ20_hasNext_0 := by decide +kernel
theorem dJ20_hasNext_0 : decode cJ20_hasNext 0 = .ok (.aload_n 0, 1) := dk_42 (dk_at dksJ20_hasNext_0 0 rfl rfl)
theorem dJ20_hasNext_1 : decode cJ20_hasNext 1 = .ok (.getfield 26, 3) := dk_180 0 26 (dk_at dksJ20_hasNext_0 1 rfl rfl)
theorem dJ20_hasNext_4 : decode cJ20_hasNext 4 = .ok (.ifnull 7, 3) := dk_198 0 7 (dk_at dksJ20_hasNext_0 4 rfl rfl)
theorem dJ20_hasNext_7 : decode cJ20_hasNext 7 = .ok (.iconst 1, 1) := dk_4 (dk_at dksJ20_hasNext_0 7 rfl rfl)
theorem dJ20_hasNext_8 : decode cJ20_hasNext 8 = .ok (.goto 4, 3) := dk_167 0 4 (dk_at dksJ20_hasNext_0 8 rfl rfl)
theorem dJ20_hasNext_11 : decode cJ20_hasNext 11 = .ok (.iconst 0, 1) := dk_3 (dk_at dksJ20_hasNext_0 11 rfl rfl)
theorem dJ20_hasNext_12 : decode cJ20_hasNext 12 = .ok (.ireturn, 1) := dk_172 (dk_at dksJ20_hasNext_0 12 rfl rfl)
abbrev cJ20_nextEntry : ByteArray := prog_62_method_3_code
def yJ20_nextEntry : MethodName := ⟨RJ20, "nextEntry", "()Ljava/util/TreeMap$Entry;"⟩
def dkwJ20_nextEntry_2 : List UInt8 := [43, 181, 0, 22, 43, 176]
abbrev dktJ20_nextEntry_2 : List UInt8 := dkwJ20_nextEntry_2 ++ []
def dkwJ20_nextEntry_1 : List UInt8 := [42, 180, 0, 19, 159, 0, 11, 187, 0, 32, 89, 183, 0, 34, 191, 42, 43, 184, 0, 35, 181, 0, 26, 42]
abbrev dktJ20_nextEntry_1 : List UInt8 := dkwJ20_nextEntry_1 ++ dktJ20_nextEntry_2
def dkwJ20_nextEntry_0 : List UInt8 := [42, 180, 0, 26, 76, 43, 199, 0, 11, 187, 0, 29, 89, 183, 0, 31, 191, 42, 180, 0, 1, 180, 0, 13]
abbrev dktJ20_nextEntry_0 : List UInt8 := dkwJ20_nextEntry_0 ++ dktJ20_nextEntry_1
theorem dksJ20_nextEntry_0 : cJ20_nextEntry.data.toList.drop 0 = dktJ20_nextEntry_0 := by decide +kernel
theorem dksJ20_nextEntry_1 : cJ20_nextEntry.data.toList.drop 24 = dktJ20_nextEntry_1 := dk_seg dksJ20_nextEntry_0 24 rfl rfl
theorem dksJ20_nextEntry_2 : cJ20_nextEntry.data.toList.drop 48 = dktJ20_nextEntry_2 := dk_seg dksJ20_nextEntry_1 24 rfl rfl
theorem dJ20_nextEntry_0 : decode cJ20_nextEntry 0 = .ok (.aload_n 0, 1) := dk_42 (dk_at dksJ20_nextEntry_0 0 rfl rfl)
theorem dJ20_nextEntry_1 : decode cJ20_nextEntry 1 = .ok (.getfield 26, 3) := dk_180 0 26 (dk_at dksJ20_nextEntry_0 1 rfl rfl)
theorem dJ20_nextEntry_4 : decode cJ20_nextEntry 4 = .ok (.astore_n 1, 1) := dk_76 (dk_at dksJ20_nextEntry_0 4 rfl rfl)
theorem dJ20_nextEntry_5 : decode cJ20_nextEntry 5 = .ok (.aload_n 1, 1) := dk_43 (dk_at dksJ20_nextEntry_0 5 rfl rfl)
theorem dJ20_nextEntry_6 : decode cJ20_nextEntry 6 = .ok (.ifnonnull 11, 3) := dk_199 0 11 (dk_at dksJ20_nextEntry_0 6 rfl rfl)
theorem dJ20_nextEntry_9 : decode cJ20_nextEntry 9 = .ok (.new 29, 3) := dk_187 0 29 (dk_at dksJ20_nextEntry_0 9 rfl rfl)
theorem dJ20_nextEntry_12 : decode cJ20_nextEntry 12 = .ok (.dup, 1) := dk_89 (dk_at dksJ20_nextEntry_0 12 rfl rfl)
theorem dJ20_nextEntry_13 : decode cJ20_nextEntry 13 = .ok (.invokespecial 31, 3) := dk_183 0 31 (dk_at dksJ20_nextEntry_0 13 rfl rfl)
theorem dJ20_nextEntry_16 : decode cJ20_nextEntry 16 = .ok (.athrow, 1) := dk_191 (dk_at dksJ20_nextEntry_0 16 rfl rfl)
theorem dJ20_nextEntry_17 : decode cJ20_nextEntry 17 = .ok (.aload_n 0, 1) := dk_42 (dk_at dksJ20_nextEntry_0 17 rfl rfl)
theorem dJ20_nextEntry_18 : decode cJ20_nextEntry 18 = .ok (.getfield 1, 3) := dk_180 0 1 (dk_at dksJ20_nextEntry_0 18 rfl rfl)
theorem dJ20_nextEntry_21 : decode cJ20_nextEntry 21 = .ok (.getfield 13, 3) := dk_180 0 13 (dk_at dksJ20_nextEntry_0 21 rfl rfl)
theorem dJ20_nextEntry_24 : decode cJ20_nextEntry 24 = .ok (.aload_n 0, 1) := dk_42 (dk_at dksJ20_nextEntry_1 0 rfl rfl)
theorem dJ20_nextEntry_25 : decode cJ20_nextEntry 25 = .ok (.getfield 19, 3) := dk_180 0 19 (dk_at dksJ20_nextEntry_1 1 rfl rfl)
theorem dJ20_nextEntry_28 : decode cJ20_nextEntry 28 = .ok (.if_icmp .eq 11, 3) := dk_159 0 11 (dk_at dksJ20_nextEntry_1 4 rfl rfl)
theorem dJ20_nextEntry_31 : decode cJ20_nextEntry 31 = .ok (.new 32, 3) := dk_187 0 32 (dk_at dksJ20_nextEntry_1 7 rfl rfl)
theorem dJ20_nextEntry_34 : decode cJ20_nextEntry 34 = .ok (.dup, 1) := dk_89 (dk_at dksJ20_nextEntry_1 10 rfl rfl)
theorem dJ20_nextEntry_35 : decode cJ20_nextEntry 35 = .ok (.invokespecial 34, 3) := dk_183 0 34 (dk_at dksJ20_nextEntry_1 11 rfl rfl)
theorem dJ20_nextEntry_38 : decode cJ20_nextEntry 38 = .ok (.athrow, 1) := dk_191 (dk_at dksJ20_nextEntry_1 14 rfl rfl)
theorem dJ20_nextEntry_39 : decode cJ20_nextEntry 39 = .ok (.aload_n 0, 1) := dk_42 (dk_at dksJ20_nextEntry_1 15 rfl rfl)
theorem dJ20_nextEntry_40 : decode cJ20_nextEntry 40 = .ok (.aload_n 1, 1) := dk_43 (dk_at dksJ20_nextEntry_1 16 rfl rfl)
theorem dJ20_nextEntry_41 : decode cJ20_nextEntry 41 = .ok (.invokestatic 35, 3) := dk_184 0 35 (dk_at dksJ20_nextEntry_1 17 rfl rfl)
theorem dJ20_nextEntry_44 : decode cJ20_nextEntry 44 = .ok (.putfield 26, 3) := dk_181 0 26 (dk_at dksJ20_nextEntry_1 20 rfl rfl)
theorem dJ20_nextEntry_47 : decode cJ20_nextEntry 47 = .ok (.aload_n 0, 1) := dk_42 (dk_at dksJ20_nextEntry_1 23 rfl rfl)
theorem dJ20_nextEntry_48 : decode cJ20_nextEntry 48 = .ok (.aload_n 1, 1) := dk_43 (dk_at dksJ20_nextEntry_2 0 rfl rfl)
theorem dJ20_nextEntry_49 : decode cJ20_nextEntry 49 = .ok (.putfield 22, 3) := dk_181 0 22 (dk_at dksJ20_nextEntry_2 1 rfl rfl)
theorem dJ20_nextEntry_52 : decode cJ20_nextEntry 52 = .ok (.aload_n 1, 1) := dk_43 (dk_at dksJ20_nextEntry_2 4 rfl rfl)
theorem dJ20_nextEntry_53 : decode cJ20_nextEntry 53 = .ok (.areturn, 1) := dk_176 (dk_at dksJ20_nextEntry_2 5 rfl rfl)

/-! java/util/TreeMap$KeyIterator -/
set_option maxRecDepth 100000
def RJ21 : String := "java/util/TreeMap$KeyIterator"
def TJ21 : u_T := fun k => match k with
  | 0 => ("java/util/TreeMap$PrivateEntryIterator", "next", "Ljava/util/TreeMap$Entry;", false)
  | 1 => ("java/util/TreeMap$PrivateEntryIterator", "lastReturned", "Ljava/util/TreeMap$Entry;", false)
  | 2 => ("java/util/TreeMap$PrivateEntryIterator", "expectedModCount", "I", false)
  | _ => ("java/util/TreeMap$PrivateEntryIterator", "this$0", "Ljava/util/TreeMap;", true)
def tyJ21 : Nat → FieldType := fun k => match k with
  | 0 => .object "java/util/TreeMap$Entry"
  | 1 => .object "java/util/TreeMap$Entry"
  | 2 => .int
  | _ => .object "java/util/TreeMap"
abbrev wsJ210 : List Cond := u_ws RJ21 TJ21 4
theorem nmJ21 : ∀ a, a < 4 → ∀ b, b < 4 → a ≠ b → (TJ21 a).2.1 ≠ (TJ21 b).2.1 := by decide +kernel
theorem tyJ21_ok : ∀ k, k < 4 → parseFieldDescriptor (TJ21 k).2.2.1 = some (tyJ21 k) := by decide +kernel
abbrev cJ21_init : ByteArray := prog_59_method_1_code
def yJ21_init : MethodName := ⟨RJ21, "<init>", "(Ljava/util/TreeMap;Ljava/util/TreeMap$Entry;)V"⟩
def dkwJ21_init_0 : List UInt8 := [42, 43, 44, 183, 0, 1, 177]
abbrev dktJ21_init_0 : List UInt8 := dkwJ21_init_0 ++ []
theorem dksJ21_init_0 : cJ21_init.data.toList.drop 0 = dktJ21_init_0 := by decide +kernel
theorem dJ21_init_0 : decode cJ21_init 0 = .ok (.aload_n 0, 1) := dk_42 (dk_at dksJ21_init_0 0 rfl rfl)
theorem dJ21_init_1 : decode cJ21_init 1 = .ok (.aload_n 1, 1) := dk_43 (dk_at dksJ21_init_0 1 rfl rfl)
theorem dJ21_init_2 : decode cJ21_init 2 = .ok (.aload_n 2, 1) := dk_44 (dk_at dksJ21_init_0 2 rfl rfl)
theorem dJ21_init_3 : decode cJ21_init 3 = .ok (.invokespecial 1, 3) := dk_183 0 1 (dk_at dksJ21_init_0 3 rfl rfl)
theorem dJ21_init_6 : decode cJ21_init 6 = .ok (.return_, 1) := dk_177 (dk_at dksJ21_init_0 6 rfl rfl)
abbrev cJ21_next : ByteArray := prog_59_method_2_code
def yJ21_next : MethodName := ⟨RJ21, "next", "()Ljava/lang/Object;"⟩
def dkwJ21_next_0 : List UInt8 := [42, 182, 0, 7, 180, 0, 13, 176]
abbrev dktJ21_next_0 : List UInt8 := dkwJ21_next_0 ++ []
theorem dksJ21_next_0 : cJ21_next.data.toList.drop 0 = dktJ21_next_0 := by decide +kernel
theorem dJ21_next_0 : decode cJ21_next 0 = .ok (.aload_n 0, 1) := dk_42 (dk_at dksJ21_next_0 0 rfl rfl)
theorem dJ21_next_1 : decode cJ21_next 1 = .ok (.invokevirtual 7, 3) := dk_182 0 7 (dk_at dksJ21_next_0 1 rfl rfl)
theorem dJ21_next_4 : decode cJ21_next 4 = .ok (.getfield 13, 3) := dk_180 0 13 (dk_at dksJ21_next_0 4 rfl rfl)
theorem dJ21_next_7 : decode cJ21_next 7 = .ok (.areturn, 1) := dk_176 (dk_at dksJ21_next_0 7 rfl rfl)

/-! java/lang/AbstractStringBuilder -/
set_option maxRecDepth 100000
def RJ22 : String := "java/lang/AbstractStringBuilder"
abbrev cJ22_compareTo : ByteArray := prog_12_method_5_code
def yJ22_compareTo : MethodName := ⟨RJ22, "compareTo", "(Ljava/lang/AbstractStringBuilder;)I"⟩
abbrev cJ22_isLatin1 : ByteArray := prog_12_method_68_code
def yJ22_isLatin1 : MethodName := ⟨RJ22, "isLatin1", "()Z"⟩
def dkwJ22_isLatin1_0 : List UInt8 := [178, 0, 18, 153, 0, 14, 42, 180, 0, 22, 154, 0, 7, 4, 167, 0, 4, 3, 172]
abbrev dktJ22_isLatin1_0 : List UInt8 := dkwJ22_isLatin1_0 ++ []
theorem dksJ22_isLatin1_0 : cJ22_isLatin1.data.toList.drop 0 = dktJ22_isLatin1_0 := by decide +kernel
theorem dJ22_isLatin1_0 : decode cJ22_isLatin1 0 = .ok (.getstatic 18, 3) := dk_178 0 18 (dk_at dksJ22_isLatin1_0 0 rfl rfl)
theorem dJ22_isLatin1_3 : decode cJ22_isLatin1 3 = .ok (.ifCond .eq 14, 3) := dk_153 0 14 (dk_at dksJ22_isLatin1_0 3 rfl rfl)
theorem dJ22_isLatin1_6 : decode cJ22_isLatin1 6 = .ok (.aload_n 0, 1) := dk_42 (dk_at dksJ22_isLatin1_0 6 rfl rfl)
theorem dJ22_isLatin1_7 : decode cJ22_isLatin1 7 = .ok (.getfield 22, 3) := dk_180 0 22 (dk_at dksJ22_isLatin1_0 7 rfl rfl)
theorem dJ22_isLatin1_10 : decode cJ22_isLatin1 10 = .ok (.ifCond .ne 7, 3) := dk_154 0 7 (dk_at dksJ22_isLatin1_0 10 rfl rfl)
theorem dJ22_isLatin1_13 : decode cJ22_isLatin1 13 = .ok (.iconst 1, 1) := dk_4 (dk_at dksJ22_isLatin1_0 13 rfl rfl)
theorem dJ22_isLatin1_14 : decode cJ22_isLatin1 14 = .ok (.goto 4, 3) := dk_167 0 4 (dk_at dksJ22_isLatin1_0 14 rfl rfl)
theorem dJ22_isLatin1_17 : decode cJ22_isLatin1 17 = .ok (.iconst 0, 1) := dk_3 (dk_at dksJ22_isLatin1_0 17 rfl rfl)
theorem dJ22_isLatin1_18 : decode cJ22_isLatin1 18 = .ok (.ireturn, 1) := dk_172 (dk_at dksJ22_isLatin1_0 18 rfl rfl)
abbrev cJ22_init : ByteArray := prog_12_method_2_code
def yJ22_init : MethodName := ⟨RJ22, "<init>", "(I)V"⟩
def dkwJ22_init_1 : List UInt8 := [167, 0, 16, 42, 27, 184, 0, 26, 181, 0, 15, 42, 4, 181, 0, 22, 177]
abbrev dktJ22_init_1 : List UInt8 := dkwJ22_init_1 ++ []
def dkwJ22_init_0 : List UInt8 := [42, 183, 0, 3, 178, 0, 18, 153, 0, 18, 42, 27, 188, 8, 181, 0, 15, 42, 3, 181, 0, 22]
abbrev dktJ22_init_0 : List UInt8 := dkwJ22_init_0 ++ dktJ22_init_1
theorem dksJ22_init_0 : cJ22_init.data.toList.drop 0 = dktJ22_init_0 := by decide +kernel
theorem dksJ22_init_1 : cJ22_init.data.toList.drop 22 = dktJ22_init_1 := dk_seg dksJ22_init_0 22 rfl rfl
theorem dJ22_init_0 : decode cJ22_init 0 = .ok (.aload_n 0, 1) := dk_42 (dk_at dksJ22_init_0 0 rfl rfl)
theorem dJ22_init_1 : decode cJ22_init 1 = .ok (.invokespecial 3, 3) := dk_183 0 3 (dk_at dksJ22_init_0 1 rfl rfl)
theorem dJ22_init_4 : decode cJ22_init 4 = .ok (.getstatic 18, 3) := dk_178 0 18 (dk_at dksJ22_init_0 4 rfl rfl)
theorem dJ22_init_7 : decode cJ22_init 7 = .ok (.ifCond .eq 18, 3) := dk_153 0 18 (dk_at dksJ22_init_0 7 rfl rfl)
theorem dJ22_init_10 : decode cJ22_init 10 = .ok (.aload_n 0, 1) := dk_42 (dk_at dksJ22_init_0 10 rfl rfl)
theorem dJ22_init_11 : decode cJ22_init 11 = .ok (.iload_n 1, 1) := dk_27 (dk_at dksJ22_init_0 11 rfl rfl)
theorem dJ22_init_12 : decode cJ22_init 12 = .ok (.newarray .byte, 2) := dk_188_8 (dk_at dksJ22_init_0 12 rfl rfl)
theorem dJ22_init_14 : decode cJ22_init 14 = .ok (.putfield 15, 3) := dk_181 0 15 (dk_at dksJ22_init_0 14 rfl rfl)
theorem dJ22_init_17 : decode cJ22_init 17 = .ok (.aload_n 0, 1) := dk_42 (dk_at dksJ22_init_0 17 rfl rfl)
theorem dJ22_init_18 : decode cJ22_init 18 = .ok (.iconst 0, 1) := dk_3 (dk_at dksJ22_init_0 18 rfl rfl)
theorem dJ22_init_19 : decode cJ22_init 19 = .ok (.putfield 22, 3) := dk_181 0 22 (dk_at dksJ22_init_0 19 rfl rfl)
theorem dJ22_init_22 : decode cJ22_init 22 = .ok (.goto 16, 3) := dk_167 0 16 (dk_at dksJ22_init_1 0 rfl rfl)
theorem dJ22_init_25 : decode cJ22_init 25 = .ok (.aload_n 0, 1) := dk_42 (dk_at dksJ22_init_1 3 rfl rfl)
theorem dJ22_init_26 : decode cJ22_init 26 = .ok (.iload_n 1, 1) := dk_27 (dk_at dksJ22_init_1 4 rfl rfl)
theorem dJ22_init_27 : decode cJ22_init 27 = .ok (.invokestatic 26, 3) := dk_184 0 26 (dk_at dksJ22_init_1 5 rfl rfl)
theorem dJ22_init_30 : decode cJ22_init 30 = .ok (.putfield 15, 3) := dk_181 0 15 (dk_at dksJ22_init_1 8 rfl rfl)
theorem dJ22_init_33 : decode cJ22_init 33 = .ok (.aload_n 0, 1) := dk_42 (dk_at dksJ22_init_1 11 rfl rfl)
theorem dJ22_init_34 : decode cJ22_init 34 = .ok (.iconst 1, 1) := dk_4 (dk_at dksJ22_init_1 12 rfl rfl)
theorem dJ22_init_35 : decode cJ22_init 35 = .ok (.putfield 22, 3) := dk_181 0 22 (dk_at dksJ22_init_1 13 rfl rfl)
theorem dJ22_init_38 : decode cJ22_init 38 = .ok (.return_, 1) := dk_177 (dk_at dksJ22_init_1 16 rfl rfl)
abbrev cJ22_append : ByteArray := prog_12_method_31_code
def yJ22_append : MethodName := ⟨RJ22, "append", "(C)Ljava/lang/AbstractStringBuilder;"⟩
def dkwJ22_append_3 : List UInt8 := [181, 0, 79, 27, 184, 0, 197, 42, 176]
abbrev dktJ22_append_3 : List UInt8 := dkwJ22_append_3 ++ []
def dkwJ22_append_2 : List UInt8 := [182, 0, 83, 153, 0, 7, 42, 182, 0, 195, 42, 180, 0, 15, 42, 89, 180, 0, 79, 90, 4, 96]
abbrev dktJ22_append_2 : List UInt8 := dkwJ22_append_2 ++ dktJ22_append_3
def dkwJ22_append_1 : List UInt8 := [42, 180, 0, 15, 42, 89, 180, 0, 79, 90, 4, 96, 181, 0, 79, 27, 145, 84, 167, 0, 33, 42]
abbrev dktJ22_append_1 : List UInt8 := dkwJ22_append_1 ++ dktJ22_append_2
def dkwJ22_append_0 : List UInt8 := [42, 42, 180, 0, 79, 4, 96, 182, 0, 100, 42, 182, 0, 83, 153, 0, 31, 27, 184, 0, 191, 153, 0, 24]
abbrev dktJ22_append_0 : List UInt8 := dkwJ22_append_0 ++ dktJ22_append_1
theorem dksJ22_append_0 : cJ22_append.data.toList.drop 0 = dktJ22_append_0 := by decide +kernel
theorem dksJ22_append_1 : cJ22_append.data.toList.drop 24 = dktJ22_append_1 := dk_seg dksJ22_append_0 24 rfl rfl
theorem dksJ22_append_2 : cJ22_append.data.toList.drop 46 = dktJ22_append_2 := dk_seg dksJ22_append_1 22 rfl rfl
theorem dksJ22_append_3 : cJ22_append.data.toList.drop 68 = dktJ22_append_3 := dk_seg dksJ22_append_2 22 rfl rfl
theorem dJ22_append_0 : decode cJ22_append 0 = .ok (.aload_n 0, 1) := dk_42 (dk_at dksJ22_append_0 0 rfl rfl)
theorem dJ22_append_1 : decode cJ22_append 1 = .ok (.aload_n 0, 1) := dk_42 (dk_at dksJ22_append_0 1 rfl rfl)
theorem dJ22_append_2 : decode cJ22_append 2 = .ok (.getfield 79, 3) := dk_180 0 79 (dk_at dksJ22_append_0 2 rfl rfl)
theorem dJ22_append_5 : decode cJ22_append 5 = .ok (.iconst 1, 1) := dk_4 (dk_at dksJ22_append_0 5 rfl rfl)
theorem dJ22_append_6 : decode cJ22_append 6 = .ok (.iadd, 1) := dk_96 (dk_at dksJ22_append_0 6 rfl rfl)
theorem dJ22_append_7 : decode cJ22_append 7 = .ok (.invokevirtual 100, 3) := dk_182 0 100 (dk_at dksJ22_append_0 7 rfl rfl)
theorem dJ22_append_10 : decode cJ22_append 10 = .ok (.aload_n 0, 1) := dk_42 (dk_at dksJ22_append_0 10 rfl rfl)
theorem dJ22_append_11 : decode cJ22_append 11 = .ok (.invokevirtual 83, 3) := dk_182 0 83 (dk_at dksJ22_append_0 11 rfl rfl)
theorem dJ22_append_14 : decode cJ22_append 14 = .ok (.ifCond .eq 31, 3) := dk_153 0 31 (dk_at dksJ22_append_0 14 rfl rfl)
theorem dJ22_append_17 : decode cJ22_append 17 = .ok (.iload_n 1, 1) := dk_27 (dk_at dksJ22_append_0 17 rfl rfl)
theorem dJ22_append_18 : decode cJ22_append 18 = .ok (.invokestatic 191, 3) := dk_184 0 191 (dk_at dksJ22_append_0 18 rfl rfl)
theorem dJ22_append_21 : decode cJ22_append 21 = .ok (.ifCond .eq 24, 3) := dk_153 0 24 (dk_at dksJ22_append_0 21 rfl rfl)
theorem dJ22_append_24 : decode cJ22_append 24 = .ok (.aload_n 0, 1) := dk_42 (dk_at dksJ22_append_1 0 rfl rfl)
theorem dJ22_append_25 : decode cJ22_append 25 = .ok (.getfield 15, 3) := dk_180 0 15 (dk_at dksJ22_append_1 1 rfl rfl)
theorem dJ22_append_28 : decode cJ22_append 28 = .ok (.aload_n 0, 1) := dk_42 (dk_at dksJ22_append_1 4 rfl rfl)
theorem dJ22_append_29 : decode cJ22_append 29 = .ok (.dup, 1) := dk_89 (dk_at dksJ22_append_1 5 rfl rfl)
theorem dJ22_append_30 : decode cJ22_append 30 = .ok (.getfield 79, 3) := dk_180 0 79 (dk_at dksJ22_append_1 6 rfl rfl)
theorem dJ22_append_33 : decode cJ22_append 33 = .ok (.dup_x1, 1) := dk_90 (dk_at dksJ22_append_1 9 rfl rfl)
theorem dJ22_append_34 : decode cJ22_append 34 = .ok (.iconst 1, 1) := dk_4 (dk_at dksJ22_append_1 10 rfl rfl)
theorem dJ22_append_35 : decode cJ22_append 35 = .ok (.iadd, 1) := dk_96 (dk_at dksJ22_append_1 11 rfl rfl)
theorem dJ22_append_36 : decode cJ22_append 36 = .ok (.putfield 79, 3) := dk_181 0 79 (dk_at dksJ22_append_1 12 rfl rfl)
theorem dJ22_append_39 : decode cJ22_append 39 = .ok (.iload_n 1, 1) := dk_27 (dk_at dksJ22_append_1 15 rfl rfl)
theorem dJ22_append_40 : decode cJ22_append 40 = .ok (.i2b, 1) := dk_145 (dk_at dksJ22_append_1 16 rfl rfl)
theorem dJ22_append_41 : decode cJ22_append 41 = .ok (.bastore, 1) := dk_84 (dk_at dksJ22_append_1 17 rfl rfl)
theorem dJ22_append_42 : decode cJ22_append 42 = .ok (.goto 33, 3) := dk_167 0 33 (dk_at dksJ22_append_1 18 rfl rfl)
theorem dJ22_append_45 : decode cJ22_append 45 = .ok (.aload_n 0, 1) := dk_42 (dk_at dksJ22_append_1 21 rfl rfl)
theorem dJ22_append_46 : decode cJ22_append 46 = .ok (.invokevirtual 83, 3) := dk_182 0 83 (dk_at dksJ22_append_2 0 rfl rfl)
theorem dJ22_append_49 : decode cJ22_append 49 = .ok (.ifCond .eq 7, 3) := dk_153 0 7 (dk_at dksJ22_append_2 3 rfl rfl)
theorem dJ22_append_52 : decode cJ22_append 52 = .ok (.aload_n 0, 1) := dk_42 (dk_at dksJ22_append_2 6 rfl rfl)
theorem dJ22_append_53 : decode cJ22_append 53 = .ok (.invokevirtual 195, 3) := dk_182 0 195 (dk_at dksJ22_append_2 7 rfl rfl)
theorem dJ22_append_56 : decode cJ22_append 56 = .ok (.aload_n 0, 1) := dk_42 (dk_at dksJ22_append_2 10 rfl rfl)
theorem dJ22_append_57 : decode cJ22_append 57 = .ok (.getfield 15, 3) := dk_180 0 15 (dk_at dksJ22_append_2 11 rfl rfl)
theorem dJ22_append_60 : decode cJ22_append 60 = .ok (.aload_n 0, 1) := dk_42 (dk_at dksJ22_append_2 14 rfl rfl)
theorem dJ22_append_61 : decode cJ22_append 61 = .ok (.dup, 1) := dk_89 (dk_at dksJ22_append_2 15 rfl rfl)
theorem dJ22_append_62 : decode cJ22_append 62 = .ok (.getfield 79, 3) := dk_180 0 79 (dk_at dksJ22_append_2 16 rfl rfl)
theorem dJ22_append_65 : decode cJ22_append 65 = .ok (.dup_x1, 1) := dk_90 (dk_at dksJ22_append_2 19 rfl rfl)
theorem dJ22_append_66 : decode cJ22_append 66 = .ok (.iconst 1, 1) := dk_4 (dk_at dksJ22_append_2 20 rfl rfl)
theorem dJ22_append_67 : decode cJ22_append 67 = .ok (.iadd, 1) := dk_96 (dk_at dksJ22_append_2 21 rfl rfl)
theorem dJ22_append_68 : decode cJ22_append 68 = .ok (.putfield 79, 3) := dk_181 0 79 (dk_at dksJ22_append_3 0 rfl rfl)
theorem dJ22_append_71 : decode cJ22_append 71 = .ok (.iload_n 1, 1) := dk_27 (dk_at dksJ22_append_3 3 rfl rfl)
theorem dJ22_append_72 : decode cJ22_append 72 = .ok (.invokestatic 197, 3) := dk_184 0 197 (dk_at dksJ22_append_3 4 rfl rfl)
theorem dJ22_append_75 : decode cJ22_append 75 = .ok (.aload_n 0, 1) := dk_42 (dk_at dksJ22_append_3 7 rfl rfl)
theorem dJ22_append_76 : decode cJ22_append 76 = .ok (.areturn, 1) := dk_176 (dk_at dksJ22_append_3 8 rfl rfl)
abbrev cJ22_ensureCapacityInternal : ByteArray := prog_12_method_9_code
def yJ22_ensureCapacityInternal : MethodName := ⟨RJ22, "ensureCapacityInternal", "(I)V"⟩
def dkwJ22_ensureCapacityInternal_1 : List UInt8 := [182, 0, 104, 42, 180, 0, 22, 120, 184, 0, 108, 181, 0, 15, 177]
abbrev dktJ22_ensureCapacityInternal_1 : List UInt8 := dkwJ22_ensureCapacityInternal_1 ++ []
def dkwJ22_ensureCapacityInternal_0 : List UInt8 := [42, 180, 0, 15, 190, 42, 180, 0, 22, 122, 61, 27, 28, 100, 158, 0, 24, 42, 42, 180, 0, 15, 42, 27]
abbrev dktJ22_ensureCapacityInternal_0 : List UInt8 := dkwJ22_ensureCapacityInternal_0 ++ dktJ22_ensureCapacityInternal_1
theorem dksJ22_ensureCapacityInternal_0 : cJ22_ensureCapacityInternal.data.toList.drop 0 = dktJ22_ensureCapacityInternal_0 := by decide +kernel
theorem dksJ22_ensureCapacityInternal_1 : cJ22_ensureCapacityInternal.data.toList.drop 24 = dktJ22_ensureCapacityInternal_1 := dk_seg dksJ22_ensureCapacityInternal_0 24 rfl rfl
theorem dJ22_ensureCapacityInternal_0 : decode cJ22_ensureCapacityInternal 0 = .ok (.aload_n 0, 1) := dk_42 (dk_at dksJ22_ensureCapacityInternal_0 0 rfl rfl)
theorem dJ22_ensureCapacityInternal_1 : decode cJ22_ensureCapacityInternal 1 = .ok (.getfield 15, 3) := dk_180 0 15 (dk_at dksJ22_ensureCapacityInternal_0 1 rfl rfl)
theorem dJ22_ensureCapacityInternal_4 : decode cJ22_ensureCapacityInternal 4 = .ok (.arraylength, 1) := dk_190 (dk_at dksJ22_ensureCapacityInternal_0 4 rfl rfl)
theorem dJ22_ensureCapacityInternal_5 : decode cJ22_ensureCapacityInternal 5 = .ok (.aload_n 0, 1) := dk_42 (dk_at dksJ22_ensureCapacityInternal_0 5 rfl rfl)
theorem dJ22_ensureCapacityInternal_6 : decode cJ22_ensureCapacityInternal 6 = .ok (.getfield 22, 3) := dk_180 0 22 (dk_at dksJ22_ensureCapacityInternal_0 6 rfl rfl)
theorem dJ22_ensureCapacityInternal_9 : decode cJ22_ensureCapacityInternal 9 = .ok (.ishr, 1) := dk_122 (dk_at dksJ22_ensureCapacityInternal_0 9 rfl rfl)
theorem dJ22_ensureCapacityInternal_10 : decode cJ22_ensureCapacityInternal 10 = .ok (.istore_n 2, 1) := dk_61 (dk_at dksJ22_ensureCapacityInternal_0 10 rfl rfl)
theorem dJ22_ensureCapacityInternal_11 : decode cJ22_ensureCapacityInternal 11 = .ok (.iload_n 1, 1) := dk_27 (dk_at dksJ22_ensureCapacityInternal_0 11 rfl rfl)
theorem dJ22_ensureCapacityInternal_12 : decode cJ22_ensureCapacityInternal 12 = .ok (.iload_n 2, 1) := dk_28 (dk_at dksJ22_ensureCapacityInternal_0 12 rfl rfl)
theorem dJ22_ensureCapacityInternal_13 : decode cJ22_ensureCapacityInternal 13 = .ok (.isub, 1) := dk_100 (dk_at dksJ22_ensureCapacityInternal_0 13 rfl rfl)
theorem dJ22_ensureCapacityInternal_14 : decode cJ22_ensureCapacityInternal 14 = .ok (.ifCond .le 24, 3) := dk_158 0 24 (dk_at dksJ22_ensureCapacityInternal_0 14 rfl rfl)
theorem dJ22_ensureCapacityInternal_17 : decode cJ22_ensureCapacityInternal 17 = .ok (.aload_n 0, 1) := dk_42 (dk_at dksJ22_ensureCapacityInternal_0 17 rfl rfl)
theorem dJ22_ensureCapacityInternal_18 : decode cJ22_ensureCapacityInternal 18 = .ok (.aload_n 0, 1) := dk_42 (dk_at dksJ22_ensureCapacityInternal_0 18 rfl rfl)
theorem dJ22_ensureCapacityInternal_19 : decode cJ22_ensureCapacityInternal 19 = .ok (.getfield 15, 3) := dk_180 0 15 (dk_at dksJ22_ensureCapacityInternal_0 19 rfl rfl)
theorem dJ22_ensureCapacityInternal_22 : decode cJ22_ensureCapacityInternal 22 = .ok (.aload_n 0, 1) := dk_42 (dk_at dksJ22_ensureCapacityInternal_0 22 rfl rfl)
theorem dJ22_ensureCapacityInternal_23 : decode cJ22_ensureCapacityInternal 23 = .ok (.iload_n 1, 1) := dk_27 (dk_at dksJ22_ensureCapacityInternal_0 23 rfl rfl)
theorem dJ22_ensureCapacityInternal_24 : decode cJ22_ensureCapacityInternal 24 = .ok (.invokevirtual 104, 3) := dk_182 0 104 (dk_at dksJ22_ensureCapacityInternal_1 0 rfl rfl)
theorem dJ22_ensureCapacityInternal_27 : decode cJ22_ensureCapacityInternal 27 = .ok (.aload_n 0, 1) := dk_42 (dk_at dksJ22_ensureCapacityInternal_1 3 rfl rfl)
theorem dJ22_ensureCapacityInternal_28 : decode cJ22_ensureCapacityInternal 28 = .ok (.getfield 22, 3) := dk_180 0 22 (dk_at dksJ22_ensureCapacityInternal_1 4 rfl rfl)
theorem dJ22_ensureCapacityInternal_31 : decode cJ22_ensureCapacityInternal 31 = .ok (.ishl, 1) := dk_120 (dk_at dksJ22_ensureCapacityInternal_1 7 rfl rfl)
theorem dJ22_ensureCapacityInternal_32 : decode cJ22_ensureCapacityInternal 32 = .ok (.invokestatic 108, 3) := dk_184 0 108 (dk_at dksJ22_ensureCapacityInternal_1 8 rfl rfl)
theorem dJ22_ensureCapacityInternal_35 : decode cJ22_ensureCapacityInternal 35 = .ok (.putfield 15, 3) := dk_181 0 15 (dk_at dksJ22_ensureCapacityInternal_1 11 rfl rfl)
theorem dJ22_ensureCapacityInternal_38 : decode cJ22_ensureCapacityInternal 38 = .ok (.return_, 1) := dk_177 (dk_at dksJ22_ensureCapacityInternal_1 14 rfl rfl)
abbrev cJ22_newCapacity : ByteArray := prog_12_method_10_code
def yJ22_newCapacity : MethodName := ⟨RJ22, "newCapacity", "(I)I"⟩
def dkwJ22_newCapacity_2 : List UInt8 := [183, 0, 124, 191, 21, 5, 42, 180, 0, 22, 122, 172]
abbrev dktJ22_newCapacity_2 : List UInt8 := dkwJ22_newCapacity_2 ++ []
def dkwJ22_newCapacity_1 : List UInt8 := [180, 0, 22, 120, 96, 184, 0, 114, 54, 5, 21, 5, 18, 39, 160, 0, 13, 187, 0, 120, 89, 18, 122]
abbrev dktJ22_newCapacity_1 : List UInt8 := dkwJ22_newCapacity_1 ++ dktJ22_newCapacity_2
def dkwJ22_newCapacity_0 : List UInt8 := [42, 180, 0, 15, 190, 61, 27, 42, 180, 0, 22, 120, 62, 29, 28, 100, 54, 4, 28, 21, 4, 28, 5, 42]
abbrev dktJ22_newCapacity_0 : List UInt8 := dkwJ22_newCapacity_0 ++ dktJ22_newCapacity_1
theorem dksJ22_newCapacity_0 : cJ22_newCapacity.data.toList.drop 0 = dktJ22_newCapacity_0 := by decide +kernel
theorem dksJ22_newCapacity_1 : cJ22_newCapacity.data.toList.drop 24 = dktJ22_newCapacity_1 := dk_seg dksJ22_newCapacity_0 24 rfl rfl
theorem dksJ22_newCapacity_2 : cJ22_newCapacity.data.toList.drop 47 = dktJ22_newCapacity_2 := dk_seg dksJ22_newCapacity_1 23 rfl rfl
theorem dJ22_newCapacity_0 : decode cJ22_newCapacity 0 = .ok (.aload_n 0, 1) := dk_42 (dk_at dksJ22_newCapacity_0 0 rfl rfl)
theorem dJ22_newCapacity_1 : decode cJ22_newCapacity 1 = .ok (.getfield 15, 3) := dk_180 0 15 (dk_at dksJ22_newCapacity_0 1 rfl rfl)
theorem dJ22_newCapacity_4 : decode cJ22_newCapacity 4 = .ok (.arraylength, 1) := dk_190 (dk_at dksJ22_newCapacity_0 4 rfl rfl)
theorem dJ22_newCapacity_5 : decode cJ22_newCapacity 5 = .ok (.istore_n 2, 1) := dk_61 (dk_at dksJ22_newCapacity_0 5 rfl rfl)
theorem dJ22_newCapacity_6 : decode cJ22_newCapacity 6 = .ok (.iload_n 1, 1) := dk_27 (dk_at dksJ22_newCapacity_0 6 rfl rfl)
theorem dJ22_newCapacity_7 : decode cJ22_newCapacity 7 = .ok (.aload_n 0, 1) := dk_42 (dk_at dksJ22_newCapacity_0 7 rfl rfl)
theorem dJ22_newCapacity_8 : decode cJ22_newCapacity 8 = .ok (.getfield 22, 3) := dk_180 0 22 (dk_at dksJ22_newCapacity_0 8 rfl rfl)
theorem dJ22_newCapacity_11 : decode cJ22_newCapacity 11 = .ok (.ishl, 1) := dk_120 (dk_at dksJ22_newCapacity_0 11 rfl rfl)
theorem dJ22_newCapacity_12 : decode cJ22_newCapacity 12 = .ok (.istore_n 3, 1) := dk_62 (dk_at dksJ22_newCapacity_0 12 rfl rfl)
theorem dJ22_newCapacity_13 : decode cJ22_newCapacity 13 = .ok (.iload_n 3, 1) := dk_29 (dk_at dksJ22_newCapacity_0 13 rfl rfl)
theorem dJ22_newCapacity_14 : decode cJ22_newCapacity 14 = .ok (.iload_n 2, 1) := dk_28 (dk_at dksJ22_newCapacity_0 14 rfl rfl)
theorem dJ22_newCapacity_15 : decode cJ22_newCapacity 15 = .ok (.isub, 1) := dk_100 (dk_at dksJ22_newCapacity_0 15 rfl rfl)
theorem dJ22_newCapacity_16 : decode cJ22_newCapacity 16 = .ok (.istore 4, 2) := dk_54 4 (dk_at dksJ22_newCapacity_0 16 rfl rfl)
theorem dJ22_newCapacity_18 : decode cJ22_newCapacity 18 = .ok (.iload_n 2, 1) := dk_28 (dk_at dksJ22_newCapacity_0 18 rfl rfl)
theorem dJ22_newCapacity_19 : decode cJ22_newCapacity 19 = .ok (.iload 4, 2) := dk_21 4 (dk_at dksJ22_newCapacity_0 19 rfl rfl)
theorem dJ22_newCapacity_21 : decode cJ22_newCapacity 21 = .ok (.iload_n 2, 1) := dk_28 (dk_at dksJ22_newCapacity_0 21 rfl rfl)
theorem dJ22_newCapacity_22 : decode cJ22_newCapacity 22 = .ok (.iconst 2, 1) := dk_5 (dk_at dksJ22_newCapacity_0 22 rfl rfl)
theorem dJ22_newCapacity_23 : decode cJ22_newCapacity 23 = .ok (.aload_n 0, 1) := dk_42 (dk_at dksJ22_newCapacity_0 23 rfl rfl)
theorem dJ22_newCapacity_24 : decode cJ22_newCapacity 24 = .ok (.getfield 22, 3) := dk_180 0 22 (dk_at dksJ22_newCapacity_1 0 rfl rfl)
theorem dJ22_newCapacity_27 : decode cJ22_newCapacity 27 = .ok (.ishl, 1) := dk_120 (dk_at dksJ22_newCapacity_1 3 rfl rfl)
theorem dJ22_newCapacity_28 : decode cJ22_newCapacity 28 = .ok (.iadd, 1) := dk_96 (dk_at dksJ22_newCapacity_1 4 rfl rfl)
theorem dJ22_newCapacity_29 : decode cJ22_newCapacity 29 = .ok (.invokestatic 114, 3) := dk_184 0 114 (dk_at dksJ22_newCapacity_1 5 rfl rfl)
theorem dJ22_newCapacity_32 : decode cJ22_newCapacity 32 = .ok (.istore 5, 2) := dk_54 5 (dk_at dksJ22_newCapacity_1 8 rfl rfl)
theorem dJ22_newCapacity_34 : decode cJ22_newCapacity 34 = .ok (.iload 5, 2) := dk_21 5 (dk_at dksJ22_newCapacity_1 10 rfl rfl)
theorem dJ22_newCapacity_36 : decode cJ22_newCapacity 36 = .ok (.ldc 39, 2) := dk_18 39 (dk_at dksJ22_newCapacity_1 12 rfl rfl)
theorem dJ22_newCapacity_38 : decode cJ22_newCapacity 38 = .ok (.if_icmp .ne 13, 3) := dk_160 0 13 (dk_at dksJ22_newCapacity_1 14 rfl rfl)
theorem dJ22_newCapacity_41 : decode cJ22_newCapacity 41 = .ok (.new 120, 3) := dk_187 0 120 (dk_at dksJ22_newCapacity_1 17 rfl rfl)
theorem dJ22_newCapacity_44 : decode cJ22_newCapacity 44 = .ok (.dup, 1) := dk_89 (dk_at dksJ22_newCapacity_1 20 rfl rfl)
theorem dJ22_newCapacity_45 : decode cJ22_newCapacity 45 = .ok (.ldc 122, 2) := dk_18 122 (dk_at dksJ22_newCapacity_1 21 rfl rfl)
theorem dJ22_newCapacity_47 : decode cJ22_newCapacity 47 = .ok (.invokespecial 124, 3) := dk_183 0 124 (dk_at dksJ22_newCapacity_2 0 rfl rfl)
theorem dJ22_newCapacity_50 : decode cJ22_newCapacity 50 = .ok (.athrow, 1) := dk_191 (dk_at dksJ22_newCapacity_2 3 rfl rfl)
theorem dJ22_newCapacity_51 : decode cJ22_newCapacity 51 = .ok (.iload 5, 2) := dk_21 5 (dk_at dksJ22_newCapacity_2 4 rfl rfl)
theorem dJ22_newCapacity_53 : decode cJ22_newCapacity 53 = .ok (.aload_n 0, 1) := dk_42 (dk_at dksJ22_newCapacity_2 6 rfl rfl)
theorem dJ22_newCapacity_54 : decode cJ22_newCapacity 54 = .ok (.getfield 22, 3) := dk_180 0 22 (dk_at dksJ22_newCapacity_2 7 rfl rfl)
theorem dJ22_newCapacity_57 : decode cJ22_newCapacity 57 = .ok (.ishr, 1) := dk_122 (dk_at dksJ22_newCapacity_2 10 rfl rfl)
theorem dJ22_newCapacity_58 : decode cJ22_newCapacity 58 = .ok (.ireturn, 1) := dk_172 (dk_at dksJ22_newCapacity_2 11 rfl rfl)
abbrev cJ22_inflate : ByteArray := prog_12_method_11_code
def yJ22_inflate : MethodName := ⟨RJ22, "inflate", "()V"⟩
abbrev cJ22_length : ByteArray := prog_12_method_6_code
def yJ22_length : MethodName := ⟨RJ22, "length", "()I"⟩
theorem dJ22_length_0 : decode cJ22_length 0 = .ok (.aload_n 0, 1) := by decide +kernel
theorem dJ22_length_1 : decode cJ22_length 1 = .ok (.getfield 79, 3) := by decide +kernel
theorem dJ22_length_4 : decode cJ22_length 4 = .ok (.ireturn, 1) := by decide +kernel
abbrev cJ22_charAt : ByteArray := prog_12_method_14_code
def yJ22_charAt : MethodName := ⟨RJ22, "charAt", "(I)C"⟩
def dkwJ22_charAt_1 : List UInt8 := [21, 4, 184, 0, 144, 28, 154, 0, 12, 45, 27, 51, 17, 0, 255, 126, 146, 172, 45, 27, 184, 0, 148, 172]
abbrev dktJ22_charAt_1 : List UInt8 := dkwJ22_charAt_1 ++ []
def dkwJ22_charAt_0 : List UInt8 := [42, 180, 0, 22, 61, 42, 180, 0, 15, 78, 42, 180, 0, 79, 45, 190, 28, 122, 184, 0, 138, 54, 4, 27]
abbrev dktJ22_charAt_0 : List UInt8 := dkwJ22_charAt_0 ++ dktJ22_charAt_1
theorem dksJ22_charAt_0 : cJ22_charAt.data.toList.drop 0 = dktJ22_charAt_0 := by decide +kernel
theorem dksJ22_charAt_1 : cJ22_charAt.data.toList.drop 24 = dktJ22_charAt_1 := dk_seg dksJ22_charAt_0 24 rfl rfl
theorem dJ22_charAt_0 : decode cJ22_charAt 0 = .ok (.aload_n 0, 1) := dk_42 (dk_at dksJ22_charAt_0 0 rfl rfl)
theorem dJ22_charAt_1 : decode cJ22_charAt 1 = .ok (.getfield 22, 3) := dk_180 0 22 (dk_at dksJ22_charAt_0 1 rfl rfl)
theorem dJ22_charAt_4 : decode cJ22_charAt 4 = .ok (.istore_n 2, 1) := dk_61 (dk_at dksJ22_charAt_0 4 rfl rfl)
theorem dJ22_charAt_5 : decode cJ22_charAt 5 = .ok (.aload_n 0, 1) := dk_42 (dk_at dksJ22_charAt_0 5 rfl rfl)
theorem dJ22_charAt_6 : decode cJ22_charAt 6 = .ok (.getfield 15, 3) := dk_180 0 15 (dk_at dksJ22_charAt_0 6 rfl rfl)
theorem dJ22_charAt_9 : decode cJ22_charAt 9 = .ok (.astore_n 3, 1) := dk_78 (dk_at dksJ22_charAt_0 9 rfl rfl)
theorem dJ22_charAt_10 : decode cJ22_charAt 10 = .ok (.aload_n 0, 1) := dk_42 (dk_at dksJ22_charAt_0 10 rfl rfl)
theorem dJ22_charAt_11 : decode cJ22_charAt 11 = .ok (.getfield 79, 3) := dk_180 0 79 (dk_at dksJ22_charAt_0 11 rfl rfl)
theorem dJ22_charAt_14 : decode cJ22_charAt 14 = .ok (.aload_n 3, 1) := dk_45 (dk_at dksJ22_charAt_0 14 rfl rfl)
theorem dJ22_charAt_15 : decode cJ22_charAt 15 = .ok (.arraylength, 1) := dk_190 (dk_at dksJ22_charAt_0 15 rfl rfl)
theorem dJ22_charAt_16 : decode cJ22_charAt 16 = .ok (.iload_n 2, 1) := dk_28 (dk_at dksJ22_charAt_0 16 rfl rfl)
theorem dJ22_charAt_17 : decode cJ22_charAt 17 = .ok (.ishr, 1) := dk_122 (dk_at dksJ22_charAt_0 17 rfl rfl)
theorem dJ22_charAt_18 : decode cJ22_charAt 18 = .ok (.invokestatic 138, 3) := dk_184 0 138 (dk_at dksJ22_charAt_0 18 rfl rfl)
theorem dJ22_charAt_21 : decode cJ22_charAt 21 = .ok (.istore 4, 2) := dk_54 4 (dk_at dksJ22_charAt_0 21 rfl rfl)
theorem dJ22_charAt_23 : decode cJ22_charAt 23 = .ok (.iload_n 1, 1) := dk_27 (dk_at dksJ22_charAt_0 23 rfl rfl)
theorem dJ22_charAt_24 : decode cJ22_charAt 24 = .ok (.iload 4, 2) := dk_21 4 (dk_at dksJ22_charAt_1 0 rfl rfl)
theorem dJ22_charAt_26 : decode cJ22_charAt 26 = .ok (.invokestatic 144, 3) := dk_184 0 144 (dk_at dksJ22_charAt_1 2 rfl rfl)
theorem dJ22_charAt_29 : decode cJ22_charAt 29 = .ok (.iload_n 2, 1) := dk_28 (dk_at dksJ22_charAt_1 5 rfl rfl)
theorem dJ22_charAt_30 : decode cJ22_charAt 30 = .ok (.ifCond .ne 12, 3) := dk_154 0 12 (dk_at dksJ22_charAt_1 6 rfl rfl)
theorem dJ22_charAt_33 : decode cJ22_charAt 33 = .ok (.aload_n 3, 1) := dk_45 (dk_at dksJ22_charAt_1 9 rfl rfl)
theorem dJ22_charAt_34 : decode cJ22_charAt 34 = .ok (.iload_n 1, 1) := dk_27 (dk_at dksJ22_charAt_1 10 rfl rfl)
theorem dJ22_charAt_35 : decode cJ22_charAt 35 = .ok (.baload, 1) := dk_51 (dk_at dksJ22_charAt_1 11 rfl rfl)
theorem dJ22_charAt_36 : decode cJ22_charAt 36 = .ok (.sipush 255, 3) := dk_17 0 255 (dk_at dksJ22_charAt_1 12 rfl rfl)
theorem dJ22_charAt_39 : decode cJ22_charAt 39 = .ok (.iand, 1) := dk_126 (dk_at dksJ22_charAt_1 15 rfl rfl)
theorem dJ22_charAt_40 : decode cJ22_charAt 40 = .ok (.i2c, 1) := dk_146 (dk_at dksJ22_charAt_1 16 rfl rfl)
theorem dJ22_charAt_41 : decode cJ22_charAt 41 = .ok (.ireturn, 1) := dk_172 (dk_at dksJ22_charAt_1 17 rfl rfl)
theorem dJ22_charAt_42 : decode cJ22_charAt 42 = .ok (.aload_n 3, 1) := dk_45 (dk_at dksJ22_charAt_1 18 rfl rfl)
theorem dJ22_charAt_43 : decode cJ22_charAt 43 = .ok (.iload_n 1, 1) := dk_27 (dk_at dksJ22_charAt_1 19 rfl rfl)
theorem dJ22_charAt_44 : decode cJ22_charAt 44 = .ok (.invokestatic 148, 3) := dk_184 0 148 (dk_at dksJ22_charAt_1 20 rfl rfl)
theorem dJ22_charAt_47 : decode cJ22_charAt 47 = .ok (.ireturn, 1) := dk_172 (dk_at dksJ22_charAt_1 23 rfl rfl)

/-! java/lang/StringBuilder -/
set_option maxRecDepth 100000
def RJ23 : String := "java/lang/StringBuilder"
def TJ23 : u_T := fun k => match k with
  | 0 => ("java/lang/AbstractStringBuilder", "value", "[B", false)
  | 1 => ("java/lang/AbstractStringBuilder", "coder", "B", false)
  | 2 => ("java/lang/AbstractStringBuilder", "maybeLatin1", "Z", false)
  | _ => ("java/lang/AbstractStringBuilder", "count", "I", false)
def tyJ23 : Nat → FieldType := fun k => match k with
  | 0 => .array .byte
  | 1 => .byte
  | 2 => .boolean
  | _ => .int
abbrev wsJ230 : List Cond := u_ws RJ23 TJ23 4
theorem nmJ23 : ∀ a, a < 4 → ∀ b, b < 4 → a ≠ b → (TJ23 a).2.1 ≠ (TJ23 b).2.1 := by decide +kernel
theorem tyJ23_ok : ∀ k, k < 4 → parseFieldDescriptor (TJ23 k).2.2.1 = some (tyJ23 k) := by decide +kernel
abbrev cJ23_compareTo : ByteArray := prog_25_method_97_code
def yJ23_compareTo : MethodName := ⟨RJ23, "compareTo", "(Ljava/lang/Object;)I"⟩
abbrev cJ23_compareTo_2 : ByteArray := prog_25_method_5_code
def yJ23_compareTo_2 : MethodName := ⟨RJ23, "compareTo", "(Ljava/lang/StringBuilder;)I"⟩
abbrev cJ23_init : ByteArray := prog_25_method_1_code
def yJ23_init : MethodName := ⟨RJ23, "<init>", "()V"⟩
def dkwJ23_init_0 : List UInt8 := [42, 16, 16, 183, 0, 1, 177]
abbrev dktJ23_init_0 : List UInt8 := dkwJ23_init_0 ++ []
theorem dksJ23_init_0 : cJ23_init.data.toList.drop 0 = dktJ23_init_0 := by decide +kernel
theorem dJ23_init_0 : decode cJ23_init 0 = .ok (.aload_n 0, 1) := dk_42 (dk_at dksJ23_init_0 0 rfl rfl)
theorem dJ23_init_1 : decode cJ23_init 1 = .ok (.bipush 16, 2) := dk_16 16 (dk_at dksJ23_init_0 1 rfl rfl)
theorem dJ23_init_3 : decode cJ23_init 3 = .ok (.invokespecial 1, 3) := dk_183 0 1 (dk_at dksJ23_init_0 3 rfl rfl)
theorem dJ23_init_6 : decode cJ23_init 6 = .ok (.return_, 1) := dk_177 (dk_at dksJ23_init_0 6 rfl rfl)
abbrev cJ23_append : ByteArray := prog_25_method_14_code
def yJ23_append : MethodName := ⟨RJ23, "append", "(C)Ljava/lang/StringBuilder;"⟩
def dkwJ23_append_0 : List UInt8 := [42, 27, 183, 0, 50, 87, 42, 176]
abbrev dktJ23_append_0 : List UInt8 := dkwJ23_append_0 ++ []
theorem dksJ23_append_0 : cJ23_append.data.toList.drop 0 = dktJ23_append_0 := by decide +kernel
theorem dJ23_append_0 : decode cJ23_append 0 = .ok (.aload_n 0, 1) := dk_42 (dk_at dksJ23_append_0 0 rfl rfl)
theorem dJ23_append_1 : decode cJ23_append 1 = .ok (.iload_n 1, 1) := dk_27 (dk_at dksJ23_append_0 1 rfl rfl)
theorem dJ23_append_2 : decode cJ23_append 2 = .ok (.invokespecial 50, 3) := dk_183 0 50 (dk_at dksJ23_append_0 2 rfl rfl)
theorem dJ23_append_5 : decode cJ23_append 5 = .ok (.pop, 1) := dk_87 (dk_at dksJ23_append_0 5 rfl rfl)
theorem dJ23_append_6 : decode cJ23_append 6 = .ok (.aload_n 0, 1) := dk_42 (dk_at dksJ23_append_0 6 rfl rfl)
theorem dJ23_append_7 : decode cJ23_append 7 = .ok (.areturn, 1) := dk_176 (dk_at dksJ23_append_0 7 rfl rfl)
abbrev cJ23_length : ByteArray := prog_25_method_93_code
def yJ23_length : MethodName := ⟨RJ23, "length", "()I"⟩
theorem dJ23_length_0 : decode cJ23_length 0 = .ok (.aload_n 0, 1) := by decide +kernel
theorem dJ23_length_1 : decode cJ23_length 1 = .ok (.invokespecial 343, 3) := by decide +kernel
theorem dJ23_length_4 : decode cJ23_length 4 = .ok (.ireturn, 1) := by decide +kernel
abbrev cJ23_charAt : ByteArray := prog_25_method_88_code
def yJ23_charAt : MethodName := ⟨RJ23, "charAt", "(I)C"⟩
def dkwJ23_charAt_0 : List UInt8 := [42, 27, 183, 1, 73, 172]
abbrev dktJ23_charAt_0 : List UInt8 := dkwJ23_charAt_0 ++ []
theorem dksJ23_charAt_0 : cJ23_charAt.data.toList.drop 0 = dktJ23_charAt_0 := by decide +kernel
theorem dJ23_charAt_0 : decode cJ23_charAt 0 = .ok (.aload_n 0, 1) := dk_42 (dk_at dksJ23_charAt_0 0 rfl rfl)
theorem dJ23_charAt_1 : decode cJ23_charAt 1 = .ok (.iload_n 1, 1) := dk_27 (dk_at dksJ23_charAt_0 1 rfl rfl)
theorem dJ23_charAt_2 : decode cJ23_charAt 2 = .ok (.invokespecial 329, 3) := dk_183 1 73 (dk_at dksJ23_charAt_0 2 rfl rfl)
theorem dJ23_charAt_5 : decode cJ23_charAt 5 = .ok (.ireturn, 1) := dk_172 (dk_at dksJ23_charAt_0 5 rfl rfl)

/-! java/util/Arrays -/
set_option maxRecDepth 100000
def RJ24 : String := "java/util/Arrays"
abbrev cJ24_copyOf : ByteArray := prog_38_method_121_code
def yJ24_copyOf : MethodName := ⟨RJ24, "copyOf", "([BI)[B"⟩
def dkwJ24_copyOf_1 : List UInt8 := [27, 184, 1, 48, 184, 0, 150, 44, 176]
abbrev dktJ24_copyOf_1 : List UInt8 := dkwJ24_copyOf_1 ++ []
def dkwJ24_copyOf_0 : List UInt8 := [27, 42, 190, 160, 0, 11, 42, 182, 1, 54, 192, 1, 55, 176, 27, 188, 8, 77, 42, 3, 44, 3, 42, 190]
abbrev dktJ24_copyOf_0 : List UInt8 := dkwJ24_copyOf_0 ++ dktJ24_copyOf_1
theorem dksJ24_copyOf_0 : cJ24_copyOf.data.toList.drop 0 = dktJ24_copyOf_0 := by decide +kernel
theorem dksJ24_copyOf_1 : cJ24_copyOf.data.toList.drop 24 = dktJ24_copyOf_1 := dk_seg dksJ24_copyOf_0 24 rfl rfl
theorem dJ24_copyOf_0 : decode cJ24_copyOf 0 = .ok (.iload_n 1, 1) := dk_27 (dk_at dksJ24_copyOf_0 0 rfl rfl)
theorem dJ24_copyOf_1 : decode cJ24_copyOf 1 = .ok (.aload_n 0, 1) := dk_42 (dk_at dksJ24_copyOf_0 1 rfl rfl)
theorem dJ24_copyOf_2 : decode cJ24_copyOf 2 = .ok (.arraylength, 1) := dk_190 (dk_at dksJ24_copyOf_0 2 rfl rfl)
theorem dJ24_copyOf_3 : decode cJ24_copyOf 3 = .ok (.if_icmp .ne 11, 3) := dk_160 0 11 (dk_at dksJ24_copyOf_0 3 rfl rfl)
theorem dJ24_copyOf_6 : decode cJ24_copyOf 6 = .ok (.aload_n 0, 1) := dk_42 (dk_at dksJ24_copyOf_0 6 rfl rfl)
theorem dJ24_copyOf_7 : decode cJ24_copyOf 7 = .ok (.invokevirtual 310, 3) := dk_182 1 54 (dk_at dksJ24_copyOf_0 7 rfl rfl)
theorem dJ24_copyOf_10 : decode cJ24_copyOf 10 = .ok (.checkcast 311, 3) := dk_192 1 55 (dk_at dksJ24_copyOf_0 10 rfl rfl)
theorem dJ24_copyOf_13 : decode cJ24_copyOf 13 = .ok (.areturn, 1) := dk_176 (dk_at dksJ24_copyOf_0 13 rfl rfl)
theorem dJ24_copyOf_14 : decode cJ24_copyOf 14 = .ok (.iload_n 1, 1) := dk_27 (dk_at dksJ24_copyOf_0 14 rfl rfl)
theorem dJ24_copyOf_15 : decode cJ24_copyOf 15 = .ok (.newarray .byte, 2) := dk_188_8 (dk_at dksJ24_copyOf_0 15 rfl rfl)
theorem dJ24_copyOf_17 : decode cJ24_copyOf 17 = .ok (.astore_n 2, 1) := dk_77 (dk_at dksJ24_copyOf_0 17 rfl rfl)
theorem dJ24_copyOf_18 : decode cJ24_copyOf 18 = .ok (.aload_n 0, 1) := dk_42 (dk_at dksJ24_copyOf_0 18 rfl rfl)
theorem dJ24_copyOf_19 : decode cJ24_copyOf 19 = .ok (.iconst 0, 1) := dk_3 (dk_at dksJ24_copyOf_0 19 rfl rfl)
theorem dJ24_copyOf_20 : decode cJ24_copyOf 20 = .ok (.aload_n 2, 1) := dk_44 (dk_at dksJ24_copyOf_0 20 rfl rfl)
theorem dJ24_copyOf_21 : decode cJ24_copyOf 21 = .ok (.iconst 0, 1) := dk_3 (dk_at dksJ24_copyOf_0 21 rfl rfl)
theorem dJ24_copyOf_22 : decode cJ24_copyOf 22 = .ok (.aload_n 0, 1) := dk_42 (dk_at dksJ24_copyOf_0 22 rfl rfl)
theorem dJ24_copyOf_23 : decode cJ24_copyOf 23 = .ok (.arraylength, 1) := dk_190 (dk_at dksJ24_copyOf_0 23 rfl rfl)
theorem dJ24_copyOf_24 : decode cJ24_copyOf 24 = .ok (.iload_n 1, 1) := dk_27 (dk_at dksJ24_copyOf_1 0 rfl rfl)
theorem dJ24_copyOf_25 : decode cJ24_copyOf 25 = .ok (.invokestatic 304, 3) := dk_184 1 48 (dk_at dksJ24_copyOf_1 1 rfl rfl)
theorem dJ24_copyOf_28 : decode cJ24_copyOf 28 = .ok (.invokestatic 150, 3) := dk_184 0 150 (dk_at dksJ24_copyOf_1 4 rfl rfl)
theorem dJ24_copyOf_31 : decode cJ24_copyOf 31 = .ok (.aload_n 2, 1) := dk_44 (dk_at dksJ24_copyOf_1 7 rfl rfl)
theorem dJ24_copyOf_32 : decode cJ24_copyOf 32 = .ok (.areturn, 1) := dk_176 (dk_at dksJ24_copyOf_1 8 rfl rfl)
abbrev cJ24_copyOf_2 : ByteArray := prog_38_method_119_code
def yJ24_copyOf_2 : MethodName := ⟨RJ24, "copyOf", "([Ljava/lang/Object;I)[Ljava/lang/Object;"⟩
def dkwJ24_copyOf_2_0 : List UInt8 := [42, 27, 42, 182, 0, 86, 184, 1, 44, 176]
abbrev dktJ24_copyOf_2_0 : List UInt8 := dkwJ24_copyOf_2_0 ++ []
theorem dksJ24_copyOf_2_0 : cJ24_copyOf_2.data.toList.drop 0 = dktJ24_copyOf_2_0 := by decide +kernel
theorem dJ24_copyOf_2_0 : decode cJ24_copyOf_2 0 = .ok (.aload_n 0, 1) := dk_42 (dk_at dksJ24_copyOf_2_0 0 rfl rfl)
theorem dJ24_copyOf_2_1 : decode cJ24_copyOf_2 1 = .ok (.iload_n 1, 1) := dk_27 (dk_at dksJ24_copyOf_2_0 1 rfl rfl)
theorem dJ24_copyOf_2_2 : decode cJ24_copyOf_2 2 = .ok (.aload_n 0, 1) := dk_42 (dk_at dksJ24_copyOf_2_0 2 rfl rfl)
theorem dJ24_copyOf_2_3 : decode cJ24_copyOf_2 3 = .ok (.invokevirtual 86, 3) := dk_182 0 86 (dk_at dksJ24_copyOf_2_0 3 rfl rfl)
theorem dJ24_copyOf_2_6 : decode cJ24_copyOf_2 6 = .ok (.invokestatic 300, 3) := dk_184 1 44 (dk_at dksJ24_copyOf_2_0 6 rfl rfl)
theorem dJ24_copyOf_2_9 : decode cJ24_copyOf_2 9 = .ok (.areturn, 1) := dk_176 (dk_at dksJ24_copyOf_2_0 9 rfl rfl)
abbrev cJ24_copyOf_3 : ByteArray := prog_38_method_120_code
def yJ24_copyOf_3 : MethodName := ⟨RJ24, "copyOf", "([Ljava/lang/Object;ILjava/lang/Class;)[Ljava/lang/Object;"⟩
def dkwJ24_copyOf_3_1 : List UInt8 := [78, 42, 3, 45, 3, 42, 190, 27, 184, 1, 48, 184, 0, 150, 45, 176]
abbrev dktJ24_copyOf_3_1 : List UInt8 := dkwJ24_copyOf_3_1 ++ []
def dkwJ24_copyOf_3_0 : List UInt8 := [44, 18, 110, 166, 0, 10, 27, 189, 0, 2, 167, 0, 14, 44, 182, 0, 90, 27, 184, 0, 95, 192, 0, 110]
abbrev dktJ24_copyOf_3_0 : List UInt8 := dkwJ24_copyOf_3_0 ++ dktJ24_copyOf_3_1
theorem dksJ24_copyOf_3_0 : cJ24_copyOf_3.data.toList.drop 0 = dktJ24_copyOf_3_0 := by decide +kernel
theorem dksJ24_copyOf_3_1 : cJ24_copyOf_3.data.toList.drop 24 = dktJ24_copyOf_3_1 := dk_seg dksJ24_copyOf_3_0 24 rfl rfl
theorem dJ24_copyOf_3_0 : decode cJ24_copyOf_3 0 = .ok (.aload_n 2, 1) := dk_44 (dk_at dksJ24_copyOf_3_0 0 rfl rfl)
theorem dJ24_copyOf_3_1 : decode cJ24_copyOf_3 1 = .ok (.ldc 110, 2) := dk_18 110 (dk_at dksJ24_copyOf_3_0 1 rfl rfl)
theorem dJ24_copyOf_3_3 : decode cJ24_copyOf_3 3 = .ok (.if_acmp .ne 10, 3) := dk_166 0 10 (dk_at dksJ24_copyOf_3_0 3 rfl rfl)
theorem dJ24_copyOf_3_6 : decode cJ24_copyOf_3 6 = .ok (.iload_n 1, 1) := dk_27 (dk_at dksJ24_copyOf_3_0 6 rfl rfl)
theorem dJ24_copyOf_3_7 : decode cJ24_copyOf_3 7 = .ok (.anewarray 2, 3) := dk_189 0 2 (dk_at dksJ24_copyOf_3_0 7 rfl rfl)
theorem dJ24_copyOf_3_10 : decode cJ24_copyOf_3 10 = .ok (.goto 14, 3) := dk_167 0 14 (dk_at dksJ24_copyOf_3_0 10 rfl rfl)
theorem dJ24_copyOf_3_13 : decode cJ24_copyOf_3 13 = .ok (.aload_n 2, 1) := dk_44 (dk_at dksJ24_copyOf_3_0 13 rfl rfl)
theorem dJ24_copyOf_3_14 : decode cJ24_copyOf_3 14 = .ok (.invokevirtual 90, 3) := dk_182 0 90 (dk_at dksJ24_copyOf_3_0 14 rfl rfl)
theorem dJ24_copyOf_3_17 : decode cJ24_copyOf_3 17 = .ok (.iload_n 1, 1) := dk_27 (dk_at dksJ24_copyOf_3_0 17 rfl rfl)
theorem dJ24_copyOf_3_18 : decode cJ24_copyOf_3 18 = .ok (.invokestatic 95, 3) := dk_184 0 95 (dk_at dksJ24_copyOf_3_0 18 rfl rfl)
theorem dJ24_copyOf_3_21 : decode cJ24_copyOf_3 21 = .ok (.checkcast 110, 3) := dk_192 0 110 (dk_at dksJ24_copyOf_3_0 21 rfl rfl)
theorem dJ24_copyOf_3_24 : decode cJ24_copyOf_3 24 = .ok (.astore_n 3, 1) := dk_78 (dk_at dksJ24_copyOf_3_1 0 rfl rfl)
theorem dJ24_copyOf_3_25 : decode cJ24_copyOf_3 25 = .ok (.aload_n 0, 1) := dk_42 (dk_at dksJ24_copyOf_3_1 1 rfl rfl)
theorem dJ24_copyOf_3_26 : decode cJ24_copyOf_3 26 = .ok (.iconst 0, 1) := dk_3 (dk_at dksJ24_copyOf_3_1 2 rfl rfl)
theorem dJ24_copyOf_3_27 : decode cJ24_copyOf_3 27 = .ok (.aload_n 3, 1) := dk_45 (dk_at dksJ24_copyOf_3_1 3 rfl rfl)
theorem dJ24_copyOf_3_28 : decode cJ24_copyOf_3 28 = .ok (.iconst 0, 1) := dk_3 (dk_at dksJ24_copyOf_3_1 4 rfl rfl)
theorem dJ24_copyOf_3_29 : decode cJ24_copyOf_3 29 = .ok (.aload_n 0, 1) := dk_42 (dk_at dksJ24_copyOf_3_1 5 rfl rfl)
theorem dJ24_copyOf_3_30 : decode cJ24_copyOf_3 30 = .ok (.arraylength, 1) := dk_190 (dk_at dksJ24_copyOf_3_1 6 rfl rfl)
theorem dJ24_copyOf_3_31 : decode cJ24_copyOf_3 31 = .ok (.iload_n 1, 1) := dk_27 (dk_at dksJ24_copyOf_3_1 7 rfl rfl)
theorem dJ24_copyOf_3_32 : decode cJ24_copyOf_3 32 = .ok (.invokestatic 304, 3) := dk_184 1 48 (dk_at dksJ24_copyOf_3_1 8 rfl rfl)
theorem dJ24_copyOf_3_35 : decode cJ24_copyOf_3 35 = .ok (.invokestatic 150, 3) := dk_184 0 150 (dk_at dksJ24_copyOf_3_1 11 rfl rfl)
theorem dJ24_copyOf_3_38 : decode cJ24_copyOf_3 38 = .ok (.aload_n 3, 1) := dk_45 (dk_at dksJ24_copyOf_3_1 14 rfl rfl)
theorem dJ24_copyOf_3_39 : decode cJ24_copyOf_3 39 = .ok (.areturn, 1) := dk_176 (dk_at dksJ24_copyOf_3_1 15 rfl rfl)

/-! java/util/AbstractQueue -/
set_option maxRecDepth 100000
def RJ25 : String := "java/util/AbstractQueue"
abbrev cJ25_init : ByteArray := prog_35_method_1_code
def yJ25_init : MethodName := ⟨RJ25, "<init>", "()V"⟩
theorem dJ25_init_0 : decode cJ25_init 0 = .ok (.aload_n 0, 1) := by decide +kernel
theorem dJ25_init_1 : decode cJ25_init 1 = .ok (.invokespecial 1, 3) := by decide +kernel
theorem dJ25_init_4 : decode cJ25_init 4 = .ok (.return_, 1) := by decide +kernel

/-! java/util/PriorityQueue -/
set_option maxRecDepth 100000
def RJ26 : String := "java/util/PriorityQueue"
def TJ26 : u_T := fun k => match k with
  | 0 => ("java/util/PriorityQueue", "queue", "[Ljava/lang/Object;", false)
  | 1 => ("java/util/PriorityQueue", "size", "I", false)
  | 2 => ("java/util/PriorityQueue", "comparator", "Ljava/util/Comparator;", true)
  | _ => ("java/util/PriorityQueue", "modCount", "I", false)
def tyJ26 : Nat → FieldType := fun k => match k with
  | 0 => .array (.object "java/lang/Object")
  | 1 => .int
  | 2 => .object "java/util/Comparator"
  | _ => .int
abbrev wsJ260 : List Cond := u_ws RJ26 TJ26 4
theorem nmJ26 : ∀ a, a < 4 → ∀ b, b < 4 → a ≠ b → (TJ26 a).2.1 ≠ (TJ26 b).2.1 := by decide +kernel
theorem tyJ26_ok : ∀ k, k < 4 → parseFieldDescriptor (TJ26 k).2.2.1 = some (tyJ26 k) := by decide +kernel
abbrev cJ26_init : ByteArray := prog_48_method_4_code
def yJ26_init : MethodName := ⟨RJ26, "<init>", "(ILjava/util/Comparator;)V"⟩
def dkwJ26_init_1 : List UInt8 := [181, 0, 17, 42, 44, 181, 0, 21, 177]
abbrev dktJ26_init_1 : List UInt8 := dkwJ26_init_1 ++ []
def dkwJ26_init_0 : List UInt8 := [42, 183, 0, 7, 27, 4, 162, 0, 11, 187, 0, 12, 89, 183, 0, 14, 191, 42, 27, 189, 0, 15]
abbrev dktJ26_init_0 : List UInt8 := dkwJ26_init_0 ++ dktJ26_init_1
theorem dksJ26_init_0 : cJ26_init.data.toList.drop 0 = dktJ26_init_0 := by decide +kernel
theorem dksJ26_init_1 : cJ26_init.data.toList.drop 22 = dktJ26_init_1 := dk_seg dksJ26_init_0 22 rfl rfl
theorem dJ26_init_0 : decode cJ26_init 0 = .ok (.aload_n 0, 1) := dk_42 (dk_at dksJ26_init_0 0 rfl rfl)
theorem dJ26_init_1 : decode cJ26_init 1 = .ok (.invokespecial 7, 3) := dk_183 0 7 (dk_at dksJ26_init_0 1 rfl rfl)
theorem dJ26_init_4 : decode cJ26_init 4 = .ok (.iload_n 1, 1) := dk_27 (dk_at dksJ26_init_0 4 rfl rfl)
theorem dJ26_init_5 : decode cJ26_init 5 = .ok (.iconst 1, 1) := dk_4 (dk_at dksJ26_init_0 5 rfl rfl)
theorem dJ26_init_6 : decode cJ26_init 6 = .ok (.if_icmp .ge 11, 3) := dk_162 0 11 (dk_at dksJ26_init_0 6 rfl rfl)
theorem dJ26_init_9 : decode cJ26_init 9 = .ok (.new 12, 3) := dk_187 0 12 (dk_at dksJ26_init_0 9 rfl rfl)
theorem dJ26_init_12 : decode cJ26_init 12 = .ok (.dup, 1) := dk_89 (dk_at dksJ26_init_0 12 rfl rfl)
theorem dJ26_init_13 : decode cJ26_init 13 = .ok (.invokespecial 14, 3) := dk_183 0 14 (dk_at dksJ26_init_0 13 rfl rfl)
theorem dJ26_init_16 : decode cJ26_init 16 = .ok (.athrow, 1) := dk_191 (dk_at dksJ26_init_0 16 rfl rfl)
theorem dJ26_init_17 : decode cJ26_init 17 = .ok (.aload_n 0, 1) := dk_42 (dk_at dksJ26_init_0 17 rfl rfl)
theorem dJ26_init_18 : decode cJ26_init 18 = .ok (.iload_n 1, 1) := dk_27 (dk_at dksJ26_init_0 18 rfl rfl)
theorem dJ26_init_19 : decode cJ26_init 19 = .ok (.anewarray 15, 3) := dk_189 0 15 (dk_at dksJ26_init_0 19 rfl rfl)
theorem dJ26_init_22 : decode cJ26_init 22 = .ok (.putfield 17, 3) := dk_181 0 17 (dk_at dksJ26_init_1 0 rfl rfl)
theorem dJ26_init_25 : decode cJ26_init 25 = .ok (.aload_n 0, 1) := dk_42 (dk_at dksJ26_init_1 3 rfl rfl)
theorem dJ26_init_26 : decode cJ26_init 26 = .ok (.aload_n 2, 1) := dk_44 (dk_at dksJ26_init_1 4 rfl rfl)
theorem dJ26_init_27 : decode cJ26_init 27 = .ok (.putfield 21, 3) := dk_181 0 21 (dk_at dksJ26_init_1 5 rfl rfl)
theorem dJ26_init_30 : decode cJ26_init 30 = .ok (.return_, 1) := dk_177 (dk_at dksJ26_init_1 8 rfl rfl)
abbrev cJ26_add : ByteArray := prog_48_method_13_code
def yJ26_add : MethodName := ⟨RJ26, "add", "(Ljava/lang/Object;)Z"⟩
def dkwJ26_add_0 : List UInt8 := [42, 43, 182, 0, 89, 172]
abbrev dktJ26_add_0 : List UInt8 := dkwJ26_add_0 ++ []
theorem dksJ26_add_0 : cJ26_add.data.toList.drop 0 = dktJ26_add_0 := by decide +kernel
theorem dJ26_add_0 : decode cJ26_add 0 = .ok (.aload_n 0, 1) := dk_42 (dk_at dksJ26_add_0 0 rfl rfl)
theorem dJ26_add_1 : decode cJ26_add 1 = .ok (.aload_n 1, 1) := dk_43 (dk_at dksJ26_add_0 1 rfl rfl)
theorem dJ26_add_2 : decode cJ26_add 2 = .ok (.invokevirtual 89, 3) := dk_182 0 89 (dk_at dksJ26_add_0 2 rfl rfl)
theorem dJ26_add_5 : decode cJ26_add 5 = .ok (.ireturn, 1) := dk_172 (dk_at dksJ26_add_0 5 rfl rfl)
abbrev cJ26_offer : ByteArray := prog_48_method_14_code
def yJ26_offer : MethodName := ⟨RJ26, "offer", "(Ljava/lang/Object;)Z"⟩
def dkwJ26_offer_2 : List UInt8 := [182, 0, 100, 42, 28, 4, 96, 181, 0, 58, 4, 172]
abbrev dktJ26_offer_2 : List UInt8 := dkwJ26_offer_2 ++ []
def dkwJ26_offer_1 : List UInt8 := [180, 0, 58, 61, 28, 42, 180, 0, 17, 190, 161, 0, 10, 42, 28, 4, 96, 182, 0, 96, 42, 28, 43]
abbrev dktJ26_offer_1 : List UInt8 := dkwJ26_offer_1 ++ dktJ26_offer_2
def dkwJ26_offer_0 : List UInt8 := [43, 199, 0, 11, 187, 0, 74, 89, 183, 0, 76, 191, 42, 89, 180, 0, 93, 4, 96, 181, 0, 93, 42]
abbrev dktJ26_offer_0 : List UInt8 := dkwJ26_offer_0 ++ dktJ26_offer_1
theorem dksJ26_offer_0 : cJ26_offer.data.toList.drop 0 = dktJ26_offer_0 := by decide +kernel
theorem dksJ26_offer_1 : cJ26_offer.data.toList.drop 23 = dktJ26_offer_1 := dk_seg dksJ26_offer_0 23 rfl rfl
theorem dksJ26_offer_2 : cJ26_offer.data.toList.drop 46 = dktJ26_offer_2 := dk_seg dksJ26_offer_1 23 rfl rfl
theorem dJ26_offer_0 : decode cJ26_offer 0 = .ok (.aload_n 1, 1) := dk_43 (dk_at dksJ26_offer_0 0 rfl rfl)
theorem dJ26_offer_1 : decode cJ26_offer 1 = .ok (.ifnonnull 11, 3) := dk_199 0 11 (dk_at dksJ26_offer_0 1 rfl rfl)
theorem dJ26_offer_4 : decode cJ26_offer 4 = .ok (.new 74, 3) := dk_187 0 74 (dk_at dksJ26_offer_0 4 rfl rfl)
theorem dJ26_offer_7 : decode cJ26_offer 7 = .ok (.dup, 1) := dk_89 (dk_at dksJ26_offer_0 7 rfl rfl)
theorem dJ26_offer_8 : decode cJ26_offer 8 = .ok (.invokespecial 76, 3) := dk_183 0 76 (dk_at dksJ26_offer_0 8 rfl rfl)
theorem dJ26_offer_11 : decode cJ26_offer 11 = .ok (.athrow, 1) := dk_191 (dk_at dksJ26_offer_0 11 rfl rfl)
theorem dJ26_offer_12 : decode cJ26_offer 12 = .ok (.aload_n 0, 1) := dk_42 (dk_at dksJ26_offer_0 12 rfl rfl)
theorem dJ26_offer_13 : decode cJ26_offer 13 = .ok (.dup, 1) := dk_89 (dk_at dksJ26_offer_0 13 rfl rfl)
theorem dJ26_offer_14 : decode cJ26_offer 14 = .ok (.getfield 93, 3) := dk_180 0 93 (dk_at dksJ26_offer_0 14 rfl rfl)
theorem dJ26_offer_17 : decode cJ26_offer 17 = .ok (.iconst 1, 1) := dk_4 (dk_at dksJ26_offer_0 17 rfl rfl)
theorem dJ26_offer_18 : decode cJ26_offer 18 = .ok (.iadd, 1) := dk_96 (dk_at dksJ26_offer_0 18 rfl rfl)
theorem dJ26_offer_19 : decode cJ26_offer 19 = .ok (.putfield 93, 3) := dk_181 0 93 (dk_at dksJ26_offer_0 19 rfl rfl)
theorem dJ26_offer_22 : decode cJ26_offer 22 = .ok (.aload_n 0, 1) := dk_42 (dk_at dksJ26_offer_0 22 rfl rfl)
theorem dJ26_offer_23 : decode cJ26_offer 23 = .ok (.getfield 58, 3) := dk_180 0 58 (dk_at dksJ26_offer_1 0 rfl rfl)
theorem dJ26_offer_26 : decode cJ26_offer 26 = .ok (.istore_n 2, 1) := dk_61 (dk_at dksJ26_offer_1 3 rfl rfl)
theorem dJ26_offer_27 : decode cJ26_offer 27 = .ok (.iload_n 2, 1) := dk_28 (dk_at dksJ26_offer_1 4 rfl rfl)
theorem dJ26_offer_28 : decode cJ26_offer 28 = .ok (.aload_n 0, 1) := dk_42 (dk_at dksJ26_offer_1 5 rfl rfl)
theorem dJ26_offer_29 : decode cJ26_offer 29 = .ok (.getfield 17, 3) := dk_180 0 17 (dk_at dksJ26_offer_1 6 rfl rfl)
theorem dJ26_offer_32 : decode cJ26_offer 32 = .ok (.arraylength, 1) := dk_190 (dk_at dksJ26_offer_1 9 rfl rfl)
theorem dJ26_offer_33 : decode cJ26_offer 33 = .ok (.if_icmp .lt 10, 3) := dk_161 0 10 (dk_at dksJ26_offer_1 10 rfl rfl)
theorem dJ26_offer_36 : decode cJ26_offer 36 = .ok (.aload_n 0, 1) := dk_42 (dk_at dksJ26_offer_1 13 rfl rfl)
theorem dJ26_offer_37 : decode cJ26_offer 37 = .ok (.iload_n 2, 1) := dk_28 (dk_at dksJ26_offer_1 14 rfl rfl)
theorem dJ26_offer_38 : decode cJ26_offer 38 = .ok (.iconst 1, 1) := dk_4 (dk_at dksJ26_offer_1 15 rfl rfl)
theorem dJ26_offer_39 : decode cJ26_offer 39 = .ok (.iadd, 1) := dk_96 (dk_at dksJ26_offer_1 16 rfl rfl)
theorem dJ26_offer_40 : decode cJ26_offer 40 = .ok (.invokevirtual 96, 3) := dk_182 0 96 (dk_at dksJ26_offer_1 17 rfl rfl)
theorem dJ26_offer_43 : decode cJ26_offer 43 = .ok (.aload_n 0, 1) := dk_42 (dk_at dksJ26_offer_1 20 rfl rfl)
theorem dJ26_offer_44 : decode cJ26_offer 44 = .ok (.iload_n 2, 1) := dk_28 (dk_at dksJ26_offer_1 21 rfl rfl)
theorem dJ26_offer_45 : decode cJ26_offer 45 = .ok (.aload_n 1, 1) := dk_43 (dk_at dksJ26_offer_1 22 rfl rfl)
theorem dJ26_offer_46 : decode cJ26_offer 46 = .ok (.invokevirtual 100, 3) := dk_182 0 100 (dk_at dksJ26_offer_2 0 rfl rfl)
theorem dJ26_offer_49 : decode cJ26_offer 49 = .ok (.aload_n 0, 1) := dk_42 (dk_at dksJ26_offer_2 3 rfl rfl)
theorem dJ26_offer_50 : decode cJ26_offer 50 = .ok (.iload_n 2, 1) := dk_28 (dk_at dksJ26_offer_2 4 rfl rfl)
theorem dJ26_offer_51 : decode cJ26_offer 51 = .ok (.iconst 1, 1) := dk_4 (dk_at dksJ26_offer_2 5 rfl rfl)
theorem dJ26_offer_52 : decode cJ26_offer 52 = .ok (.iadd, 1) := dk_96 (dk_at dksJ26_offer_2 6 rfl rfl)
theorem dJ26_offer_53 : decode cJ26_offer 53 = .ok (.putfield 58, 3) := dk_181 0 58 (dk_at dksJ26_offer_2 7 rfl rfl)
theorem dJ26_offer_56 : decode cJ26_offer 56 = .ok (.iconst 1, 1) := dk_4 (dk_at dksJ26_offer_2 10 rfl rfl)
theorem dJ26_offer_57 : decode cJ26_offer 57 = .ok (.ireturn, 1) := dk_172 (dk_at dksJ26_offer_2 11 rfl rfl)
abbrev cJ26_grow : ByteArray := prog_48_method_12_code
def yJ26_grow : MethodName := ⟨RJ26, "grow", "(I)V"⟩
def dkwJ26_grow_1 : List UInt8 := [122, 184, 0, 80, 62, 42, 42, 180, 0, 17, 29, 184, 0, 86, 181, 0, 17, 177]
abbrev dktJ26_grow_1 : List UInt8 := dkwJ26_grow_1 ++ []
def dkwJ26_grow_0 : List UInt8 := [42, 180, 0, 17, 190, 61, 28, 27, 28, 100, 28, 16, 64, 162, 0, 9, 28, 5, 96, 167, 0, 6, 28, 4]
abbrev dktJ26_grow_0 : List UInt8 := dkwJ26_grow_0 ++ dktJ26_grow_1
theorem dksJ26_grow_0 : cJ26_grow.data.toList.drop 0 = dktJ26_grow_0 := by decide +kernel
theorem dksJ26_grow_1 : cJ26_grow.data.toList.drop 24 = dktJ26_grow_1 := dk_seg dksJ26_grow_0 24 rfl rfl
theorem dJ26_grow_0 : decode cJ26_grow 0 = .ok (.aload_n 0, 1) := dk_42 (dk_at dksJ26_grow_0 0 rfl rfl)
theorem dJ26_grow_1 : decode cJ26_grow 1 = .ok (.getfield 17, 3) := dk_180 0 17 (dk_at dksJ26_grow_0 1 rfl rfl)
theorem dJ26_grow_4 : decode cJ26_grow 4 = .ok (.arraylength, 1) := dk_190 (dk_at dksJ26_grow_0 4 rfl rfl)
theorem dJ26_grow_5 : decode cJ26_grow 5 = .ok (.istore_n 2, 1) := dk_61 (dk_at dksJ26_grow_0 5 rfl rfl)
theorem dJ26_grow_6 : decode cJ26_grow 6 = .ok (.iload_n 2, 1) := dk_28 (dk_at dksJ26_grow_0 6 rfl rfl)
theorem dJ26_grow_7 : decode cJ26_grow 7 = .ok (.iload_n 1, 1) := dk_27 (dk_at dksJ26_grow_0 7 rfl rfl)
theorem dJ26_grow_8 : decode cJ26_grow 8 = .ok (.iload_n 2, 1) := dk_28 (dk_at dksJ26_grow_0 8 rfl rfl)
theorem dJ26_grow_9 : decode cJ26_grow 9 = .ok (.isub, 1) := dk_100 (dk_at dksJ26_grow_0 9 rfl rfl)
theorem dJ26_grow_10 : decode cJ26_grow 10 = .ok (.iload_n 2, 1) := dk_28 (dk_at dksJ26_grow_0 10 rfl rfl)
theorem dJ26_grow_11 : decode cJ26_grow 11 = .ok (.bipush 64, 2) := dk_16 64 (dk_at dksJ26_grow_0 11 rfl rfl)
theorem dJ26_grow_13 : decode cJ26_grow 13 = .ok (.if_icmp .ge 9, 3) := dk_162 0 9 (dk_at dksJ26_grow_0 13 rfl rfl)
theorem dJ26_grow_16 : decode cJ26_grow 16 = .ok (.iload_n 2, 1) := dk_28 (dk_at dksJ26_grow_0 16 rfl rfl)
theorem dJ26_grow_17 : decode cJ26_grow 17 = .ok (.iconst 2, 1) := dk_5 (dk_at dksJ26_grow_0 17 rfl rfl)
theorem dJ26_grow_18 : decode cJ26_grow 18 = .ok (.iadd, 1) := dk_96 (dk_at dksJ26_grow_0 18 rfl rfl)
theorem dJ26_grow_19 : decode cJ26_grow 19 = .ok (.goto 6, 3) := dk_167 0 6 (dk_at dksJ26_grow_0 19 rfl rfl)
theorem dJ26_grow_22 : decode cJ26_grow 22 = .ok (.iload_n 2, 1) := dk_28 (dk_at dksJ26_grow_0 22 rfl rfl)
theorem dJ26_grow_23 : decode cJ26_grow 23 = .ok (.iconst 1, 1) := dk_4 (dk_at dksJ26_grow_0 23 rfl rfl)
theorem dJ26_grow_24 : decode cJ26_grow 24 = .ok (.ishr, 1) := dk_122 (dk_at dksJ26_grow_1 0 rfl rfl)
theorem dJ26_grow_25 : decode cJ26_grow 25 = .ok (.invokestatic 80, 3) := dk_184 0 80 (dk_at dksJ26_grow_1 1 rfl rfl)
theorem dJ26_grow_28 : decode cJ26_grow 28 = .ok (.istore_n 3, 1) := dk_62 (dk_at dksJ26_grow_1 4 rfl rfl)
theorem dJ26_grow_29 : decode cJ26_grow 29 = .ok (.aload_n 0, 1) := dk_42 (dk_at dksJ26_grow_1 5 rfl rfl)
theorem dJ26_grow_30 : decode cJ26_grow 30 = .ok (.aload_n 0, 1) := dk_42 (dk_at dksJ26_grow_1 6 rfl rfl)
theorem dJ26_grow_31 : decode cJ26_grow 31 = .ok (.getfield 17, 3) := dk_180 0 17 (dk_at dksJ26_grow_1 7 rfl rfl)
theorem dJ26_grow_34 : decode cJ26_grow 34 = .ok (.iload_n 3, 1) := dk_29 (dk_at dksJ26_grow_1 10 rfl rfl)
theorem dJ26_grow_35 : decode cJ26_grow 35 = .ok (.invokestatic 86, 3) := dk_184 0 86 (dk_at dksJ26_grow_1 11 rfl rfl)
theorem dJ26_grow_38 : decode cJ26_grow 38 = .ok (.putfield 17, 3) := dk_181 0 17 (dk_at dksJ26_grow_1 14 rfl rfl)
theorem dJ26_grow_41 : decode cJ26_grow 41 = .ok (.return_, 1) := dk_177 (dk_at dksJ26_grow_1 17 rfl rfl)
abbrev cJ26_siftUp : ByteArray := prog_48_method_27_code
def yJ26_siftUp : MethodName := ⟨RJ26, "siftUp", "(ILjava/lang/Object;)V"⟩
def dkwJ26_siftUp_1 : List UInt8 := [44, 42, 180, 0, 17, 184, 0, 140, 177]
abbrev dktJ26_siftUp_1 : List UInt8 := dkwJ26_siftUp_1 ++ []
def dkwJ26_siftUp_0 : List UInt8 := [42, 180, 0, 21, 198, 0, 19, 27, 44, 42, 180, 0, 17, 42, 180, 0, 21, 184, 0, 136, 167, 0, 12, 27]
abbrev dktJ26_siftUp_0 : List UInt8 := dkwJ26_siftUp_0 ++ dktJ26_siftUp_1
theorem dksJ26_siftUp_0 : cJ26_siftUp.data.toList.drop 0 = dktJ26_siftUp_0 := by decide +kernel
theorem dksJ26_siftUp_1 : cJ26_siftUp.data.toList.drop 24 = dktJ26_siftUp_1 := dk_seg dksJ26_siftUp_0 24 rfl rfl
theorem dJ26_siftUp_0 : decode cJ26_siftUp 0 = .ok (.aload_n 0, 1) := dk_42 (dk_at dksJ26_siftUp_0 0 rfl rfl)
theorem dJ26_siftUp_1 : decode cJ26_siftUp 1 = .ok (.getfield 21, 3) := dk_180 0 21 (dk_at dksJ26_siftUp_0 1 rfl rfl)
theorem dJ26_siftUp_4 : decode cJ26_siftUp 4 = .ok (.ifnull 19, 3) := dk_198 0 19 (dk_at dksJ26_siftUp_0 4 rfl rfl)
theorem dJ26_siftUp_7 : decode cJ26_siftUp 7 = .ok (.iload_n 1, 1) := dk_27 (dk_at dksJ26_siftUp_0 7 rfl rfl)
theorem dJ26_siftUp_8 : decode cJ26_siftUp 8 = .ok (.aload_n 2, 1) := dk_44 (dk_at dksJ26_siftUp_0 8 rfl rfl)
theorem dJ26_siftUp_9 : decode cJ26_siftUp 9 = .ok (.aload_n 0, 1) := dk_42 (dk_at dksJ26_siftUp_0 9 rfl rfl)
theorem dJ26_siftUp_10 : decode cJ26_siftUp 10 = .ok (.getfield 17, 3) := dk_180 0 17 (dk_at dksJ26_siftUp_0 10 rfl rfl)
theorem dJ26_siftUp_13 : decode cJ26_siftUp 13 = .ok (.aload_n 0, 1) := dk_42 (dk_at dksJ26_siftUp_0 13 rfl rfl)
theorem dJ26_siftUp_14 : decode cJ26_siftUp 14 = .ok (.getfield 21, 3) := dk_180 0 21 (dk_at dksJ26_siftUp_0 14 rfl rfl)
theorem dJ26_siftUp_17 : decode cJ26_siftUp 17 = .ok (.invokestatic 136, 3) := dk_184 0 136 (dk_at dksJ26_siftUp_0 17 rfl rfl)
theorem dJ26_siftUp_20 : decode cJ26_siftUp 20 = .ok (.goto 12, 3) := dk_167 0 12 (dk_at dksJ26_siftUp_0 20 rfl rfl)
theorem dJ26_siftUp_23 : decode cJ26_siftUp 23 = .ok (.iload_n 1, 1) := dk_27 (dk_at dksJ26_siftUp_0 23 rfl rfl)
theorem dJ26_siftUp_24 : decode cJ26_siftUp 24 = .ok (.aload_n 2, 1) := dk_44 (dk_at dksJ26_siftUp_1 0 rfl rfl)
theorem dJ26_siftUp_25 : decode cJ26_siftUp 25 = .ok (.aload_n 0, 1) := dk_42 (dk_at dksJ26_siftUp_1 1 rfl rfl)
theorem dJ26_siftUp_26 : decode cJ26_siftUp 26 = .ok (.getfield 17, 3) := dk_180 0 17 (dk_at dksJ26_siftUp_1 2 rfl rfl)
theorem dJ26_siftUp_29 : decode cJ26_siftUp 29 = .ok (.invokestatic 140, 3) := dk_184 0 140 (dk_at dksJ26_siftUp_1 5 rfl rfl)
theorem dJ26_siftUp_32 : decode cJ26_siftUp 32 = .ok (.return_, 1) := dk_177 (dk_at dksJ26_siftUp_1 8 rfl rfl)
abbrev cJ26_siftUpUsingComparator : ByteArray := prog_48_method_29_code
def yJ26_siftUpUsingComparator : MethodName := ⟨RJ26, "siftUpUsingComparator", "(ILjava/lang/Object;[Ljava/lang/Object;Ljava/util/Comparator;)V"⟩
def dkwJ26_siftUpUsingComparator_2 : List UInt8 := [43, 83, 177]
abbrev dktJ26_siftUpUsingComparator_2 : List UInt8 := dkwJ26_siftUpUsingComparator_2 ++ []
def dkwJ26_siftUpUsingComparator_1 : List UInt8 := [185, 0, 149, 3, 0, 155, 0, 6, 167, 0, 14, 44, 26, 25, 5, 83, 21, 4, 59, 167, 255, 216, 44, 26]
abbrev dktJ26_siftUpUsingComparator_1 : List UInt8 := dkwJ26_siftUpUsingComparator_1 ++ dktJ26_siftUpUsingComparator_2
def dkwJ26_siftUpUsingComparator_0 : List UInt8 := [26, 158, 0, 42, 26, 4, 100, 4, 124, 54, 4, 44, 21, 4, 50, 58, 5, 45, 43, 25, 5]
abbrev dktJ26_siftUpUsingComparator_0 : List UInt8 := dkwJ26_siftUpUsingComparator_0 ++ dktJ26_siftUpUsingComparator_1
theorem dksJ26_siftUpUsingComparator_0 : cJ26_siftUpUsingComparator.data.toList.drop 0 = dktJ26_siftUpUsingComparator_0 := by decide +kernel
theorem dksJ26_siftUpUsingComparator_1 : cJ26_siftUpUsingComparator.data.toList.drop 21 = dktJ26_siftUpUsingComparator_1 := dk_seg dksJ26_siftUpUsingComparator_0 21 rfl rfl
theorem dksJ26_siftUpUsingComparator_2 : cJ26_siftUpUsingComparator.data.toList.drop 45 = dktJ26_siftUpUsingComparator_2 := dk_seg dksJ26_siftUpUsingComparator_1 24 rfl rfl
theorem dJ26_siftUpUsingComparator_0 : decode cJ26_siftUpUsingComparator 0 = .ok (.iload_n 0, 1) := dk_26 (dk_at dksJ26_siftUpUsingComparator_0 0 rfl rfl)
theorem dJ26_siftUpUsingComparator_1 : decode cJ26_siftUpUsingComparator 1 = .ok (.ifCond .le 42, 3) := dk_158 0 42 (dk_at dksJ26_siftUpUsingComparator_0 1 rfl rfl)
theorem dJ26_siftUpUsingComparator_4 : decode cJ26_siftUpUsingComparator 4 = .ok (.iload_n 0, 1) := dk_26 (dk_at dksJ26_siftUpUsingComparator_0 4 rfl rfl)
theorem dJ26_siftUpUsingComparator_5 : decode cJ26_siftUpUsingComparator 5 = .ok (.iconst 1, 1) := dk_4 (dk_at dksJ26_siftUpUsingComparator_0 5 rfl rfl)
theorem dJ26_siftUpUsingComparator_6 : decode cJ26_siftUpUsingComparator 6 = .ok (.isub, 1) := dk_100 (dk_at dksJ26_siftUpUsingComparator_0 6 rfl rfl)
theorem dJ26_siftUpUsingComparator_7 : decode cJ26_siftUpUsingComparator 7 = .ok (.iconst 1, 1) := dk_4 (dk_at dksJ26_siftUpUsingComparator_0 7 rfl rfl)
theorem dJ26_siftUpUsingComparator_8 : decode cJ26_siftUpUsingComparator 8 = .ok (.iushr, 1) := dk_124 (dk_at dksJ26_siftUpUsingComparator_0 8 rfl rfl)
theorem dJ26_siftUpUsingComparator_9 : decode cJ26_siftUpUsingComparator 9 = .ok (.istore 4, 2) := dk_54 4 (dk_at dksJ26_siftUpUsingComparator_0 9 rfl rfl)
theorem dJ26_siftUpUsingComparator_11 : decode cJ26_siftUpUsingComparator 11 = .ok (.aload_n 2, 1) := dk_44 (dk_at dksJ26_siftUpUsingComparator_0 11 rfl rfl)
theorem dJ26_siftUpUsingComparator_12 : decode cJ26_siftUpUsingComparator 12 = .ok (.iload 4, 2) := dk_21 4 (dk_at dksJ26_siftUpUsingComparator_0 12 rfl rfl)
theorem dJ26_siftUpUsingComparator_14 : decode cJ26_siftUpUsingComparator 14 = .ok (.aaload, 1) := dk_50 (dk_at dksJ26_siftUpUsingComparator_0 14 rfl rfl)
theorem dJ26_siftUpUsingComparator_15 : decode cJ26_siftUpUsingComparator 15 = .ok (.astore 5, 2) := dk_58 5 (dk_at dksJ26_siftUpUsingComparator_0 15 rfl rfl)
theorem dJ26_siftUpUsingComparator_17 : decode cJ26_siftUpUsingComparator 17 = .ok (.aload_n 3, 1) := dk_45 (dk_at dksJ26_siftUpUsingComparator_0 17 rfl rfl)
theorem dJ26_siftUpUsingComparator_18 : decode cJ26_siftUpUsingComparator 18 = .ok (.aload_n 1, 1) := dk_43 (dk_at dksJ26_siftUpUsingComparator_0 18 rfl rfl)
theorem dJ26_siftUpUsingComparator_19 : decode cJ26_siftUpUsingComparator 19 = .ok (.aload 5, 2) := dk_25 5 (dk_at dksJ26_siftUpUsingComparator_0 19 rfl rfl)
theorem dJ26_siftUpUsingComparator_21 : decode cJ26_siftUpUsingComparator 21 = .ok (.invokeinterface 149 3, 5) := by decide +kernel
theorem dJ26_siftUpUsingComparator_26 : decode cJ26_siftUpUsingComparator 26 = .ok (.ifCond .lt 6, 3) := dk_155 0 6 (dk_at dksJ26_siftUpUsingComparator_1 5 rfl rfl)
theorem dJ26_siftUpUsingComparator_29 : decode cJ26_siftUpUsingComparator 29 = .ok (.goto 14, 3) := dk_167 0 14 (dk_at dksJ26_siftUpUsingComparator_1 8 rfl rfl)
theorem dJ26_siftUpUsingComparator_32 : decode cJ26_siftUpUsingComparator 32 = .ok (.aload_n 2, 1) := dk_44 (dk_at dksJ26_siftUpUsingComparator_1 11 rfl rfl)
theorem dJ26_siftUpUsingComparator_33 : decode cJ26_siftUpUsingComparator 33 = .ok (.iload_n 0, 1) := dk_26 (dk_at dksJ26_siftUpUsingComparator_1 12 rfl rfl)
theorem dJ26_siftUpUsingComparator_34 : decode cJ26_siftUpUsingComparator 34 = .ok (.aload 5, 2) := dk_25 5 (dk_at dksJ26_siftUpUsingComparator_1 13 rfl rfl)
theorem dJ26_siftUpUsingComparator_36 : decode cJ26_siftUpUsingComparator 36 = .ok (.aastore, 1) := dk_83 (dk_at dksJ26_siftUpUsingComparator_1 15 rfl rfl)
theorem dJ26_siftUpUsingComparator_37 : decode cJ26_siftUpUsingComparator 37 = .ok (.iload 4, 2) := dk_21 4 (dk_at dksJ26_siftUpUsingComparator_1 16 rfl rfl)
theorem dJ26_siftUpUsingComparator_39 : decode cJ26_siftUpUsingComparator 39 = .ok (.istore_n 0, 1) := dk_59 (dk_at dksJ26_siftUpUsingComparator_1 18 rfl rfl)
theorem dJ26_siftUpUsingComparator_40 : decode cJ26_siftUpUsingComparator 40 = .ok (.goto (-40), 3) := dk_167 255 216 (dk_at dksJ26_siftUpUsingComparator_1 19 rfl rfl)
theorem dJ26_siftUpUsingComparator_43 : decode cJ26_siftUpUsingComparator 43 = .ok (.aload_n 2, 1) := dk_44 (dk_at dksJ26_siftUpUsingComparator_1 22 rfl rfl)
theorem dJ26_siftUpUsingComparator_44 : decode cJ26_siftUpUsingComparator 44 = .ok (.iload_n 0, 1) := dk_26 (dk_at dksJ26_siftUpUsingComparator_1 23 rfl rfl)
theorem dJ26_siftUpUsingComparator_45 : decode cJ26_siftUpUsingComparator 45 = .ok (.aload_n 1, 1) := dk_43 (dk_at dksJ26_siftUpUsingComparator_2 0 rfl rfl)
theorem dJ26_siftUpUsingComparator_46 : decode cJ26_siftUpUsingComparator 46 = .ok (.aastore, 1) := dk_83 (dk_at dksJ26_siftUpUsingComparator_2 1 rfl rfl)
theorem dJ26_siftUpUsingComparator_47 : decode cJ26_siftUpUsingComparator 47 = .ok (.return_, 1) := dk_177 (dk_at dksJ26_siftUpUsingComparator_2 2 rfl rfl)
abbrev cJ26_siftUpComparable : ByteArray := prog_48_method_28_code
def yJ26_siftUpComparable : MethodName := ⟨RJ26, "siftUpComparable", "(ILjava/lang/Object;[Ljava/lang/Object;)V"⟩
abbrev cJ26_size : ByteArray := prog_48_method_23_code
def yJ26_size : MethodName := ⟨RJ26, "size", "()I"⟩
theorem dJ26_size_0 : decode cJ26_size 0 = .ok (.aload_n 0, 1) := by decide +kernel
theorem dJ26_size_1 : decode cJ26_size 1 = .ok (.getfield 58, 3) := by decide +kernel
theorem dJ26_size_4 : decode cJ26_size 4 = .ok (.ireturn, 1) := by decide +kernel
abbrev cJ26_poll : ByteArray := prog_48_method_25_code
def yJ26_poll : MethodName := ⟨RJ26, "poll", "()Ljava/lang/Object;"⟩
def dkwJ26_poll_3 : List UInt8 := [43, 29, 25, 5, 184, 0, 129, 44, 176]
abbrev dktJ26_poll_3 : List UInt8 := dkwJ26_poll_3 ++ []
def dkwJ26_poll_2 : List UInt8 := [42, 180, 0, 21, 89, 58, 5, 199, 0, 14, 3, 25, 4, 43, 29, 184, 0, 125, 167, 0, 13, 3, 25, 4]
abbrev dktJ26_poll_2 : List UInt8 := dkwJ26_poll_2 ++ dktJ26_poll_3
def dkwJ26_poll_1 : List UInt8 := [42, 89, 180, 0, 58, 4, 100, 90, 181, 0, 58, 89, 62, 50, 58, 4, 43, 29, 1, 83, 29, 158, 0, 34]
abbrev dktJ26_poll_1 : List UInt8 := dkwJ26_poll_1 ++ dktJ26_poll_2
def dkwJ26_poll_0 : List UInt8 := [42, 180, 0, 17, 89, 76, 3, 50, 89, 77, 198, 0, 69, 42, 89, 180, 0, 93, 4, 96, 181, 0, 93, 43]
abbrev dktJ26_poll_0 : List UInt8 := dkwJ26_poll_0 ++ dktJ26_poll_1
theorem dksJ26_poll_0 : cJ26_poll.data.toList.drop 0 = dktJ26_poll_0 := by decide +kernel
theorem dksJ26_poll_1 : cJ26_poll.data.toList.drop 24 = dktJ26_poll_1 := dk_seg dksJ26_poll_0 24 rfl rfl
theorem dksJ26_poll_2 : cJ26_poll.data.toList.drop 48 = dktJ26_poll_2 := dk_seg dksJ26_poll_1 24 rfl rfl
theorem dksJ26_poll_3 : cJ26_poll.data.toList.drop 72 = dktJ26_poll_3 := dk_seg dksJ26_poll_2 24 rfl rfl
theorem dJ26_poll_0 : decode cJ26_poll 0 = .ok (.aload_n 0, 1) := dk_42 (dk_at dksJ26_poll_0 0 rfl rfl)
theorem dJ26_poll_1 : decode cJ26_poll 1 = .ok (.getfield 17, 3) := dk_180 0 17 (dk_at dksJ26_poll_0 1 rfl rfl)
theorem dJ26_poll_4 : decode cJ26_poll 4 = .ok (.dup, 1) := dk_89 (dk_at dksJ26_poll_0 4 rfl rfl)
theorem dJ26_poll_5 : decode cJ26_poll 5 = .ok (.astore_n 1, 1) := dk_76 (dk_at dksJ26_poll_0 5 rfl rfl)
theorem dJ26_poll_6 : decode cJ26_poll 6 = .ok (.iconst 0, 1) := dk_3 (dk_at dksJ26_poll_0 6 rfl rfl)
theorem dJ26_poll_7 : decode cJ26_poll 7 = .ok (.aaload, 1) := dk_50 (dk_at dksJ26_poll_0 7 rfl rfl)
theorem dJ26_poll_8 : decode cJ26_poll 8 = .ok (.dup, 1) := dk_89 (dk_at dksJ26_poll_0 8 rfl rfl)
theorem dJ26_poll_9 : decode cJ26_poll 9 = .ok (.astore_n 2, 1) := dk_77 (dk_at dksJ26_poll_0 9 rfl rfl)
theorem dJ26_poll_10 : decode cJ26_poll 10 = .ok (.ifnull 69, 3) := dk_198 0 69 (dk_at dksJ26_poll_0 10 rfl rfl)
theorem dJ26_poll_13 : decode cJ26_poll 13 = .ok (.aload_n 0, 1) := dk_42 (dk_at dksJ26_poll_0 13 rfl rfl)
theorem dJ26_poll_14 : decode cJ26_poll 14 = .ok (.dup, 1) := dk_89 (dk_at dksJ26_poll_0 14 rfl rfl)
theorem dJ26_poll_15 : decode cJ26_poll 15 = .ok (.getfield 93, 3) := dk_180 0 93 (dk_at dksJ26_poll_0 15 rfl rfl)
theorem dJ26_poll_18 : decode cJ26_poll 18 = .ok (.iconst 1, 1) := dk_4 (dk_at dksJ26_poll_0 18 rfl rfl)
theorem dJ26_poll_19 : decode cJ26_poll 19 = .ok (.iadd, 1) := dk_96 (dk_at dksJ26_poll_0 19 rfl rfl)
theorem dJ26_poll_20 : decode cJ26_poll 20 = .ok (.putfield 93, 3) := dk_181 0 93 (dk_at dksJ26_poll_0 20 rfl rfl)
theorem dJ26_poll_23 : decode cJ26_poll 23 = .ok (.aload_n 1, 1) := dk_43 (dk_at dksJ26_poll_0 23 rfl rfl)
theorem dJ26_poll_24 : decode cJ26_poll 24 = .ok (.aload_n 0, 1) := dk_42 (dk_at dksJ26_poll_1 0 rfl rfl)
theorem dJ26_poll_25 : decode cJ26_poll 25 = .ok (.dup, 1) := dk_89 (dk_at dksJ26_poll_1 1 rfl rfl)
theorem dJ26_poll_26 : decode cJ26_poll 26 = .ok (.getfield 58, 3) := dk_180 0 58 (dk_at dksJ26_poll_1 2 rfl rfl)
theorem dJ26_poll_29 : decode cJ26_poll 29 = .ok (.iconst 1, 1) := dk_4 (dk_at dksJ26_poll_1 5 rfl rfl)
theorem dJ26_poll_30 : decode cJ26_poll 30 = .ok (.isub, 1) := dk_100 (dk_at dksJ26_poll_1 6 rfl rfl)
theorem dJ26_poll_31 : decode cJ26_poll 31 = .ok (.dup_x1, 1) := dk_90 (dk_at dksJ26_poll_1 7 rfl rfl)
theorem dJ26_poll_32 : decode cJ26_poll 32 = .ok (.putfield 58, 3) := dk_181 0 58 (dk_at dksJ26_poll_1 8 rfl rfl)
theorem dJ26_poll_35 : decode cJ26_poll 35 = .ok (.dup, 1) := dk_89 (dk_at dksJ26_poll_1 11 rfl rfl)
theorem dJ26_poll_36 : decode cJ26_poll 36 = .ok (.istore_n 3, 1) := dk_62 (dk_at dksJ26_poll_1 12 rfl rfl)
theorem dJ26_poll_37 : decode cJ26_poll 37 = .ok (.aaload, 1) := dk_50 (dk_at dksJ26_poll_1 13 rfl rfl)
theorem dJ26_poll_38 : decode cJ26_poll 38 = .ok (.astore 4, 2) := dk_58 4 (dk_at dksJ26_poll_1 14 rfl rfl)
theorem dJ26_poll_40 : decode cJ26_poll 40 = .ok (.aload_n 1, 1) := dk_43 (dk_at dksJ26_poll_1 16 rfl rfl)
theorem dJ26_poll_41 : decode cJ26_poll 41 = .ok (.iload_n 3, 1) := dk_29 (dk_at dksJ26_poll_1 17 rfl rfl)
theorem dJ26_poll_42 : decode cJ26_poll 42 = .ok (.aconst_null, 1) := dk_1 (dk_at dksJ26_poll_1 18 rfl rfl)
theorem dJ26_poll_43 : decode cJ26_poll 43 = .ok (.aastore, 1) := dk_83 (dk_at dksJ26_poll_1 19 rfl rfl)
theorem dJ26_poll_44 : decode cJ26_poll 44 = .ok (.iload_n 3, 1) := dk_29 (dk_at dksJ26_poll_1 20 rfl rfl)
theorem dJ26_poll_45 : decode cJ26_poll 45 = .ok (.ifCond .le 34, 3) := dk_158 0 34 (dk_at dksJ26_poll_1 21 rfl rfl)
theorem dJ26_poll_48 : decode cJ26_poll 48 = .ok (.aload_n 0, 1) := dk_42 (dk_at dksJ26_poll_2 0 rfl rfl)
theorem dJ26_poll_49 : decode cJ26_poll 49 = .ok (.getfield 21, 3) := dk_180 0 21 (dk_at dksJ26_poll_2 1 rfl rfl)
theorem dJ26_poll_52 : decode cJ26_poll 52 = .ok (.dup, 1) := dk_89 (dk_at dksJ26_poll_2 4 rfl rfl)
theorem dJ26_poll_53 : decode cJ26_poll 53 = .ok (.astore 5, 2) := dk_58 5 (dk_at dksJ26_poll_2 5 rfl rfl)
theorem dJ26_poll_55 : decode cJ26_poll 55 = .ok (.ifnonnull 14, 3) := dk_199 0 14 (dk_at dksJ26_poll_2 7 rfl rfl)
theorem dJ26_poll_58 : decode cJ26_poll 58 = .ok (.iconst 0, 1) := dk_3 (dk_at dksJ26_poll_2 10 rfl rfl)
theorem dJ26_poll_59 : decode cJ26_poll 59 = .ok (.aload 4, 2) := dk_25 4 (dk_at dksJ26_poll_2 11 rfl rfl)
theorem dJ26_poll_61 : decode cJ26_poll 61 = .ok (.aload_n 1, 1) := dk_43 (dk_at dksJ26_poll_2 13 rfl rfl)
theorem dJ26_poll_62 : decode cJ26_poll 62 = .ok (.iload_n 3, 1) := dk_29 (dk_at dksJ26_poll_2 14 rfl rfl)
theorem dJ26_poll_63 : decode cJ26_poll 63 = .ok (.invokestatic 125, 3) := dk_184 0 125 (dk_at dksJ26_poll_2 15 rfl rfl)
theorem dJ26_poll_66 : decode cJ26_poll 66 = .ok (.goto 13, 3) := dk_167 0 13 (dk_at dksJ26_poll_2 18 rfl rfl)
theorem dJ26_poll_69 : decode cJ26_poll 69 = .ok (.iconst 0, 1) := dk_3 (dk_at dksJ26_poll_2 21 rfl rfl)
theorem dJ26_poll_70 : decode cJ26_poll 70 = .ok (.aload 4, 2) := dk_25 4 (dk_at dksJ26_poll_2 22 rfl rfl)
theorem dJ26_poll_72 : decode cJ26_poll 72 = .ok (.aload_n 1, 1) := dk_43 (dk_at dksJ26_poll_3 0 rfl rfl)
theorem dJ26_poll_73 : decode cJ26_poll 73 = .ok (.iload_n 3, 1) := dk_29 (dk_at dksJ26_poll_3 1 rfl rfl)
theorem dJ26_poll_74 : decode cJ26_poll 74 = .ok (.aload 5, 2) := dk_25 5 (dk_at dksJ26_poll_3 2 rfl rfl)
theorem dJ26_poll_76 : decode cJ26_poll 76 = .ok (.invokestatic 129, 3) := dk_184 0 129 (dk_at dksJ26_poll_3 4 rfl rfl)
theorem dJ26_poll_79 : decode cJ26_poll 79 = .ok (.aload_n 2, 1) := dk_44 (dk_at dksJ26_poll_3 7 rfl rfl)
theorem dJ26_poll_80 : decode cJ26_poll 80 = .ok (.areturn, 1) := dk_176 (dk_at dksJ26_poll_3 8 rfl rfl)
abbrev cJ26_siftDownComparable : ByteArray := prog_48_method_31_code
def yJ26_siftDownComparable : MethodName := ⟨RJ26, "siftDownComparable", "(ILjava/lang/Object;[Ljava/lang/Object;I)V"⟩
abbrev cJ26_siftDownUsingComparator : ByteArray := prog_48_method_32_code
def yJ26_siftDownUsingComparator : MethodName := ⟨RJ26, "siftDownUsingComparator", "(ILjava/lang/Object;[Ljava/lang/Object;ILjava/util/Comparator;)V"⟩
def dkwJ26_siftDownUsingComparator_4 : List UInt8 := [43, 83, 177]
abbrev dktJ26_siftDownUsingComparator_4 : List UInt8 := dkwJ26_siftDownUsingComparator_4 ++ []
def dkwJ26_siftDownUsingComparator_3 : List UInt8 := [185, 0, 149, 3, 0, 157, 0, 6, 167, 0, 14, 44, 26, 25, 7, 83, 21, 6, 59, 167, 255, 176, 44, 26]
abbrev dktJ26_siftDownUsingComparator_3 : List UInt8 := dkwJ26_siftDownUsingComparator_3 ++ dktJ26_siftDownUsingComparator_4
def dkwJ26_siftDownUsingComparator_2 : List UInt8 := [185, 0, 149, 3, 0, 158, 0, 12, 44, 21, 8, 89, 54, 6, 50, 58, 7, 25, 4, 43, 25, 7]
abbrev dktJ26_siftDownUsingComparator_2 : List UInt8 := dkwJ26_siftDownUsingComparator_2 ++ dktJ26_siftDownUsingComparator_3
def dkwJ26_siftDownUsingComparator_1 : List UInt8 := [21, 6, 4, 96, 54, 8, 21, 8, 29, 162, 0, 28, 25, 4, 25, 7, 44, 21, 8, 50]
abbrev dktJ26_siftDownUsingComparator_1 : List UInt8 := dkwJ26_siftDownUsingComparator_1 ++ dktJ26_siftDownUsingComparator_2
def dkwJ26_siftDownUsingComparator_0 : List UInt8 := [29, 4, 124, 54, 5, 26, 21, 5, 162, 0, 80, 26, 4, 120, 4, 96, 54, 6, 44, 21, 6, 50, 58, 7]
abbrev dktJ26_siftDownUsingComparator_0 : List UInt8 := dkwJ26_siftDownUsingComparator_0 ++ dktJ26_siftDownUsingComparator_1
theorem dksJ26_siftDownUsingComparator_0 : cJ26_siftDownUsingComparator.data.toList.drop 0 = dktJ26_siftDownUsingComparator_0 := by decide +kernel
theorem dksJ26_siftDownUsingComparator_1 : cJ26_siftDownUsingComparator.data.toList.drop 24 = dktJ26_siftDownUsingComparator_1 := dk_seg dksJ26_siftDownUsingComparator_0 24 rfl rfl
theorem dksJ26_siftDownUsingComparator_2 : cJ26_siftDownUsingComparator.data.toList.drop 44 = dktJ26_siftDownUsingComparator_2 := dk_seg dksJ26_siftDownUsingComparator_1 20 rfl rfl
theorem dksJ26_siftDownUsingComparator_3 : cJ26_siftDownUsingComparator.data.toList.drop 66 = dktJ26_siftDownUsingComparator_3 := dk_seg dksJ26_siftDownUsingComparator_2 22 rfl rfl
theorem dksJ26_siftDownUsingComparator_4 : cJ26_siftDownUsingComparator.data.toList.drop 90 = dktJ26_siftDownUsingComparator_4 := dk_seg dksJ26_siftDownUsingComparator_3 24 rfl rfl
theorem dJ26_siftDownUsingComparator_0 : decode cJ26_siftDownUsingComparator 0 = .ok (.iload_n 3, 1) := dk_29 (dk_at dksJ26_siftDownUsingComparator_0 0 rfl rfl)
theorem dJ26_siftDownUsingComparator_1 : decode cJ26_siftDownUsingComparator 1 = .ok (.iconst 1, 1) := dk_4 (dk_at dksJ26_siftDownUsingComparator_0 1 rfl rfl)
theorem dJ26_siftDownUsingComparator_2 : decode cJ26_siftDownUsingComparator 2 = .ok (.iushr, 1) := dk_124 (dk_at dksJ26_siftDownUsingComparator_0 2 rfl rfl)
theorem dJ26_siftDownUsingComparator_3 : decode cJ26_siftDownUsingComparator 3 = .ok (.istore 5, 2) := dk_54 5 (dk_at dksJ26_siftDownUsingComparator_0 3 rfl rfl)
theorem dJ26_siftDownUsingComparator_5 : decode cJ26_siftDownUsingComparator 5 = .ok (.iload_n 0, 1) := dk_26 (dk_at dksJ26_siftDownUsingComparator_0 5 rfl rfl)
theorem dJ26_siftDownUsingComparator_6 : decode cJ26_siftDownUsingComparator 6 = .ok (.iload 5, 2) := dk_21 5 (dk_at dksJ26_siftDownUsingComparator_0 6 rfl rfl)
theorem dJ26_siftDownUsingComparator_8 : decode cJ26_siftDownUsingComparator 8 = .ok (.if_icmp .ge 80, 3) := dk_162 0 80 (dk_at dksJ26_siftDownUsingComparator_0 8 rfl rfl)
theorem dJ26_siftDownUsingComparator_11 : decode cJ26_siftDownUsingComparator 11 = .ok (.iload_n 0, 1) := dk_26 (dk_at dksJ26_siftDownUsingComparator_0 11 rfl rfl)
theorem dJ26_siftDownUsingComparator_12 : decode cJ26_siftDownUsingComparator 12 = .ok (.iconst 1, 1) := dk_4 (dk_at dksJ26_siftDownUsingComparator_0 12 rfl rfl)
theorem dJ26_siftDownUsingComparator_13 : decode cJ26_siftDownUsingComparator 13 = .ok (.ishl, 1) := dk_120 (dk_at dksJ26_siftDownUsingComparator_0 13 rfl rfl)
theorem dJ26_siftDownUsingComparator_14 : decode cJ26_siftDownUsingComparator 14 = .ok (.iconst 1, 1) := dk_4 (dk_at dksJ26_siftDownUsingComparator_0 14 rfl rfl)
theorem dJ26_siftDownUsingComparator_15 : decode cJ26_siftDownUsingComparator 15 = .ok (.iadd, 1) := dk_96 (dk_at dksJ26_siftDownUsingComparator_0 15 rfl rfl)
theorem dJ26_siftDownUsingComparator_16 : decode cJ26_siftDownUsingComparator 16 = .ok (.istore 6, 2) := dk_54 6 (dk_at dksJ26_siftDownUsingComparator_0 16 rfl rfl)
theorem dJ26_siftDownUsingComparator_18 : decode cJ26_siftDownUsingComparator 18 = .ok (.aload_n 2, 1) := dk_44 (dk_at dksJ26_siftDownUsingComparator_0 18 rfl rfl)
theorem dJ26_siftDownUsingComparator_19 : decode cJ26_siftDownUsingComparator 19 = .ok (.iload 6, 2) := dk_21 6 (dk_at dksJ26_siftDownUsingComparator_0 19 rfl rfl)
theorem dJ26_siftDownUsingComparator_21 : decode cJ26_siftDownUsingComparator 21 = .ok (.aaload, 1) := dk_50 (dk_at dksJ26_siftDownUsingComparator_0 21 rfl rfl)
theorem dJ26_siftDownUsingComparator_22 : decode cJ26_siftDownUsingComparator 22 = .ok (.astore 7, 2) := dk_58 7 (dk_at dksJ26_siftDownUsingComparator_0 22 rfl rfl)
theorem dJ26_siftDownUsingComparator_24 : decode cJ26_siftDownUsingComparator 24 = .ok (.iload 6, 2) := dk_21 6 (dk_at dksJ26_siftDownUsingComparator_1 0 rfl rfl)
theorem dJ26_siftDownUsingComparator_26 : decode cJ26_siftDownUsingComparator 26 = .ok (.iconst 1, 1) := dk_4 (dk_at dksJ26_siftDownUsingComparator_1 2 rfl rfl)
theorem dJ26_siftDownUsingComparator_27 : decode cJ26_siftDownUsingComparator 27 = .ok (.iadd, 1) := dk_96 (dk_at dksJ26_siftDownUsingComparator_1 3 rfl rfl)
theorem dJ26_siftDownUsingComparator_28 : decode cJ26_siftDownUsingComparator 28 = .ok (.istore 8, 2) := dk_54 8 (dk_at dksJ26_siftDownUsingComparator_1 4 rfl rfl)
theorem dJ26_siftDownUsingComparator_30 : decode cJ26_siftDownUsingComparator 30 = .ok (.iload 8, 2) := dk_21 8 (dk_at dksJ26_siftDownUsingComparator_1 6 rfl rfl)
theorem dJ26_siftDownUsingComparator_32 : decode cJ26_siftDownUsingComparator 32 = .ok (.iload_n 3, 1) := dk_29 (dk_at dksJ26_siftDownUsingComparator_1 8 rfl rfl)
theorem dJ26_siftDownUsingComparator_33 : decode cJ26_siftDownUsingComparator 33 = .ok (.if_icmp .ge 28, 3) := dk_162 0 28 (dk_at dksJ26_siftDownUsingComparator_1 9 rfl rfl)
theorem dJ26_siftDownUsingComparator_36 : decode cJ26_siftDownUsingComparator 36 = .ok (.aload 4, 2) := dk_25 4 (dk_at dksJ26_siftDownUsingComparator_1 12 rfl rfl)
theorem dJ26_siftDownUsingComparator_38 : decode cJ26_siftDownUsingComparator 38 = .ok (.aload 7, 2) := dk_25 7 (dk_at dksJ26_siftDownUsingComparator_1 14 rfl rfl)
theorem dJ26_siftDownUsingComparator_40 : decode cJ26_siftDownUsingComparator 40 = .ok (.aload_n 2, 1) := dk_44 (dk_at dksJ26_siftDownUsingComparator_1 16 rfl rfl)
theorem dJ26_siftDownUsingComparator_41 : decode cJ26_siftDownUsingComparator 41 = .ok (.iload 8, 2) := dk_21 8 (dk_at dksJ26_siftDownUsingComparator_1 17 rfl rfl)
theorem dJ26_siftDownUsingComparator_43 : decode cJ26_siftDownUsingComparator 43 = .ok (.aaload, 1) := dk_50 (dk_at dksJ26_siftDownUsingComparator_1 19 rfl rfl)
theorem dJ26_siftDownUsingComparator_44 : decode cJ26_siftDownUsingComparator 44 = .ok (.invokeinterface 149 3, 5) := by decide +kernel
theorem dJ26_siftDownUsingComparator_49 : decode cJ26_siftDownUsingComparator 49 = .ok (.ifCond .le 12, 3) := dk_158 0 12 (dk_at dksJ26_siftDownUsingComparator_2 5 rfl rfl)
theorem dJ26_siftDownUsingComparator_52 : decode cJ26_siftDownUsingComparator 52 = .ok (.aload_n 2, 1) := dk_44 (dk_at dksJ26_siftDownUsingComparator_2 8 rfl rfl)
theorem dJ26_siftDownUsingComparator_53 : decode cJ26_siftDownUsingComparator 53 = .ok (.iload 8, 2) := dk_21 8 (dk_at dksJ26_siftDownUsingComparator_2 9 rfl rfl)
theorem dJ26_siftDownUsingComparator_55 : decode cJ26_siftDownUsingComparator 55 = .ok (.dup, 1) := dk_89 (dk_at dksJ26_siftDownUsingComparator_2 11 rfl rfl)
theorem dJ26_siftDownUsingComparator_56 : decode cJ26_siftDownUsingComparator 56 = .ok (.istore 6, 2) := dk_54 6 (dk_at dksJ26_siftDownUsingComparator_2 12 rfl rfl)
theorem dJ26_siftDownUsingComparator_58 : decode cJ26_siftDownUsingComparator 58 = .ok (.aaload, 1) := dk_50 (dk_at dksJ26_siftDownUsingComparator_2 14 rfl rfl)
theorem dJ26_siftDownUsingComparator_59 : decode cJ26_siftDownUsingComparator 59 = .ok (.astore 7, 2) := dk_58 7 (dk_at dksJ26_siftDownUsingComparator_2 15 rfl rfl)
theorem dJ26_siftDownUsingComparator_61 : decode cJ26_siftDownUsingComparator 61 = .ok (.aload 4, 2) := dk_25 4 (dk_at dksJ26_siftDownUsingComparator_2 17 rfl rfl)
theorem dJ26_siftDownUsingComparator_63 : decode cJ26_siftDownUsingComparator 63 = .ok (.aload_n 1, 1) := dk_43 (dk_at dksJ26_siftDownUsingComparator_2 19 rfl rfl)
theorem dJ26_siftDownUsingComparator_64 : decode cJ26_siftDownUsingComparator 64 = .ok (.aload 7, 2) := dk_25 7 (dk_at dksJ26_siftDownUsingComparator_2 20 rfl rfl)
theorem dJ26_siftDownUsingComparator_66 : decode cJ26_siftDownUsingComparator 66 = .ok (.invokeinterface 149 3, 5) := by decide +kernel
theorem dJ26_siftDownUsingComparator_71 : decode cJ26_siftDownUsingComparator 71 = .ok (.ifCond .gt 6, 3) := dk_157 0 6 (dk_at dksJ26_siftDownUsingComparator_3 5 rfl rfl)
theorem dJ26_siftDownUsingComparator_74 : decode cJ26_siftDownUsingComparator 74 = .ok (.goto 14, 3) := dk_167 0 14 (dk_at dksJ26_siftDownUsingComparator_3 8 rfl rfl)
theorem dJ26_siftDownUsingComparator_77 : decode cJ26_siftDownUsingComparator 77 = .ok (.aload_n 2, 1) := dk_44 (dk_at dksJ26_siftDownUsingComparator_3 11 rfl rfl)
theorem dJ26_siftDownUsingComparator_78 : decode cJ26_siftDownUsingComparator 78 = .ok (.iload_n 0, 1) := dk_26 (dk_at dksJ26_siftDownUsingComparator_3 12 rfl rfl)
theorem dJ26_siftDownUsingComparator_79 : decode cJ26_siftDownUsingComparator 79 = .ok (.aload 7, 2) := dk_25 7 (dk_at dksJ26_siftDownUsingComparator_3 13 rfl rfl)
theorem dJ26_siftDownUsingComparator_81 : decode cJ26_siftDownUsingComparator 81 = .ok (.aastore, 1) := dk_83 (dk_at dksJ26_siftDownUsingComparator_3 15 rfl rfl)
theorem dJ26_siftDownUsingComparator_82 : decode cJ26_siftDownUsingComparator 82 = .ok (.iload 6, 2) := dk_21 6 (dk_at dksJ26_siftDownUsingComparator_3 16 rfl rfl)
theorem dJ26_siftDownUsingComparator_84 : decode cJ26_siftDownUsingComparator 84 = .ok (.istore_n 0, 1) := dk_59 (dk_at dksJ26_siftDownUsingComparator_3 18 rfl rfl)
theorem dJ26_siftDownUsingComparator_85 : decode cJ26_siftDownUsingComparator 85 = .ok (.goto (-80), 3) := dk_167 255 176 (dk_at dksJ26_siftDownUsingComparator_3 19 rfl rfl)
theorem dJ26_siftDownUsingComparator_88 : decode cJ26_siftDownUsingComparator 88 = .ok (.aload_n 2, 1) := dk_44 (dk_at dksJ26_siftDownUsingComparator_3 22 rfl rfl)
theorem dJ26_siftDownUsingComparator_89 : decode cJ26_siftDownUsingComparator 89 = .ok (.iload_n 0, 1) := dk_26 (dk_at dksJ26_siftDownUsingComparator_3 23 rfl rfl)
theorem dJ26_siftDownUsingComparator_90 : decode cJ26_siftDownUsingComparator 90 = .ok (.aload_n 1, 1) := dk_43 (dk_at dksJ26_siftDownUsingComparator_4 0 rfl rfl)
theorem dJ26_siftDownUsingComparator_91 : decode cJ26_siftDownUsingComparator 91 = .ok (.aastore, 1) := dk_83 (dk_at dksJ26_siftDownUsingComparator_4 1 rfl rfl)
theorem dJ26_siftDownUsingComparator_92 : decode cJ26_siftDownUsingComparator 92 = .ok (.return_, 1) := dk_177 (dk_at dksJ26_siftDownUsingComparator_4 2 rfl rfl)

/-! java/lang/Object -/
set_option maxRecDepth 100000
def RJ27 : String := "java/lang/Object"
abbrev cJ27_init : ByteArray := object_method_1_code
def yJ27_init : MethodName := ⟨RJ27, "<init>", "()V"⟩

/-! java/util/AbstractSet -/
set_option maxRecDepth 100000
def RJ3 : String := "java/util/AbstractSet"
abbrev cJ3_init : ByteArray := prog_36_method_1_code
def yJ3_init : MethodName := ⟨RJ3, "<init>", "()V"⟩
theorem dJ3_init_0 : decode cJ3_init 0 = .ok (.aload_n 0, 1) := by decide +kernel
theorem dJ3_init_1 : decode cJ3_init 1 = .ok (.invokespecial 1, 3) := by decide +kernel
theorem dJ3_init_4 : decode cJ3_init 4 = .ok (.return_, 1) := by decide +kernel

/-! java/util/TreeSet -/
set_option maxRecDepth 100000
def RJ4 : String := "java/util/TreeSet"
def TJ4 : u_T := fun k => match k with
  | _ => ("java/util/TreeSet", "m", "Ljava/util/NavigableMap;", false)
def tyJ4 : Nat → FieldType := fun k => match k with
  | _ => .object "java/util/NavigableMap"
abbrev wsJ40 : List Cond := u_ws RJ4 TJ4 1
theorem nmJ4 : ∀ a, a < 1 → ∀ b, b < 1 → a ≠ b → (TJ4 a).2.1 ≠ (TJ4 b).2.1 := by decide +kernel
theorem tyJ4_ok : ∀ k, k < 1 → parseFieldDescriptor (TJ4 k).2.2.1 = some (tyJ4 k) := by decide +kernel
abbrev cJ4_init : ByteArray := prog_63_method_2_code
def yJ4_init : MethodName := ⟨RJ4, "<init>", "()V"⟩
def dkwJ4_init_0 : List UInt8 := [42, 187, 0, 13, 89, 183, 0, 15, 183, 0, 16, 177]
abbrev dktJ4_init_0 : List UInt8 := dkwJ4_init_0 ++ []
theorem dksJ4_init_0 : cJ4_init.data.toList.drop 0 = dktJ4_init_0 := by decide +kernel
theorem dJ4_init_0 : decode cJ4_init 0 = .ok (.aload_n 0, 1) := dk_42 (dk_at dksJ4_init_0 0 rfl rfl)
theorem dJ4_init_1 : decode cJ4_init 1 = .ok (.new 13, 3) := dk_187 0 13 (dk_at dksJ4_init_0 1 rfl rfl)
theorem dJ4_init_4 : decode cJ4_init 4 = .ok (.dup, 1) := dk_89 (dk_at dksJ4_init_0 4 rfl rfl)
theorem dJ4_init_5 : decode cJ4_init 5 = .ok (.invokespecial 15, 3) := dk_183 0 15 (dk_at dksJ4_init_0 5 rfl rfl)
theorem dJ4_init_8 : decode cJ4_init 8 = .ok (.invokespecial 16, 3) := dk_183 0 16 (dk_at dksJ4_init_0 8 rfl rfl)
theorem dJ4_init_11 : decode cJ4_init 11 = .ok (.return_, 1) := dk_177 (dk_at dksJ4_init_0 11 rfl rfl)
abbrev cJ4_init_2 : ByteArray := prog_63_method_1_code
def yJ4_init_2 : MethodName := ⟨RJ4, "<init>", "(Ljava/util/NavigableMap;)V"⟩
def dkwJ4_init_2_0 : List UInt8 := [42, 183, 0, 1, 42, 43, 181, 0, 7, 177]
abbrev dktJ4_init_2_0 : List UInt8 := dkwJ4_init_2_0 ++ []
theorem dksJ4_init_2_0 : cJ4_init_2.data.toList.drop 0 = dktJ4_init_2_0 := by decide +kernel
theorem dJ4_init_2_0 : decode cJ4_init_2 0 = .ok (.aload_n 0, 1) := dk_42 (dk_at dksJ4_init_2_0 0 rfl rfl)
theorem dJ4_init_2_1 : decode cJ4_init_2 1 = .ok (.invokespecial 1, 3) := dk_183 0 1 (dk_at dksJ4_init_2_0 1 rfl rfl)
theorem dJ4_init_2_4 : decode cJ4_init_2 4 = .ok (.aload_n 0, 1) := dk_42 (dk_at dksJ4_init_2_0 4 rfl rfl)
theorem dJ4_init_2_5 : decode cJ4_init_2 5 = .ok (.aload_n 1, 1) := dk_43 (dk_at dksJ4_init_2_0 5 rfl rfl)
theorem dJ4_init_2_6 : decode cJ4_init_2 6 = .ok (.putfield 7, 3) := dk_181 0 7 (dk_at dksJ4_init_2_0 6 rfl rfl)
theorem dJ4_init_2_9 : decode cJ4_init_2 9 = .ok (.return_, 1) := dk_177 (dk_at dksJ4_init_2_0 9 rfl rfl)
abbrev cJ4_clear : ByteArray := prog_63_method_14_code
def yJ4_clear : MethodName := ⟨RJ4, "clear", "()V"⟩
def dkwJ4_clear_0 : List UInt8 := [42, 180, 0, 7, 185, 0, 77, 1, 0, 177]
abbrev dktJ4_clear_0 : List UInt8 := dkwJ4_clear_0 ++ []
theorem dksJ4_clear_0 : cJ4_clear.data.toList.drop 0 = dktJ4_clear_0 := by decide +kernel
theorem dJ4_clear_0 : decode cJ4_clear 0 = .ok (.aload_n 0, 1) := dk_42 (dk_at dksJ4_clear_0 0 rfl rfl)
theorem dJ4_clear_1 : decode cJ4_clear 1 = .ok (.getfield 7, 3) := dk_180 0 7 (dk_at dksJ4_clear_0 1 rfl rfl)
theorem dJ4_clear_4 : decode cJ4_clear 4 = .ok (.invokeinterface 77 1, 5) := by decide +kernel
theorem dJ4_clear_9 : decode cJ4_clear 9 = .ok (.return_, 1) := dk_177 (dk_at dksJ4_clear_0 9 rfl rfl)
abbrev cJ4_contains : ByteArray := prog_63_method_11_code
def yJ4_contains : MethodName := ⟨RJ4, "contains", "(Ljava/lang/Object;)Z"⟩
def dkwJ4_contains_0 : List UInt8 := [42, 180, 0, 7, 43, 185, 0, 61, 2, 0, 172]
abbrev dktJ4_contains_0 : List UInt8 := dkwJ4_contains_0 ++ []
theorem dksJ4_contains_0 : cJ4_contains.data.toList.drop 0 = dktJ4_contains_0 := by decide +kernel
theorem dJ4_contains_0 : decode cJ4_contains 0 = .ok (.aload_n 0, 1) := dk_42 (dk_at dksJ4_contains_0 0 rfl rfl)
theorem dJ4_contains_1 : decode cJ4_contains 1 = .ok (.getfield 7, 3) := dk_180 0 7 (dk_at dksJ4_contains_0 1 rfl rfl)
theorem dJ4_contains_4 : decode cJ4_contains 4 = .ok (.aload_n 1, 1) := dk_43 (dk_at dksJ4_contains_0 4 rfl rfl)
theorem dJ4_contains_5 : decode cJ4_contains 5 = .ok (.invokeinterface 61 2, 5) := by decide +kernel
theorem dJ4_contains_10 : decode cJ4_contains 10 = .ok (.ireturn, 1) := dk_172 (dk_at dksJ4_contains_0 10 rfl rfl)
abbrev cJ4_add : ByteArray := prog_63_method_12_code
def yJ4_add : MethodName := ⟨RJ4, "add", "(Ljava/lang/Object;)Z"⟩
def dkwJ4_add_0 : List UInt8 := [42, 180, 0, 7, 43, 178, 0, 65, 185, 0, 69, 3, 0, 199, 0, 7, 4, 167, 0, 4, 3, 172]
abbrev dktJ4_add_0 : List UInt8 := dkwJ4_add_0 ++ []
theorem dksJ4_add_0 : cJ4_add.data.toList.drop 0 = dktJ4_add_0 := by decide +kernel
theorem dJ4_add_0 : decode cJ4_add 0 = .ok (.aload_n 0, 1) := dk_42 (dk_at dksJ4_add_0 0 rfl rfl)
theorem dJ4_add_1 : decode cJ4_add 1 = .ok (.getfield 7, 3) := dk_180 0 7 (dk_at dksJ4_add_0 1 rfl rfl)
theorem dJ4_add_4 : decode cJ4_add 4 = .ok (.aload_n 1, 1) := dk_43 (dk_at dksJ4_add_0 4 rfl rfl)
theorem dJ4_add_5 : decode cJ4_add 5 = .ok (.getstatic 65, 3) := dk_178 0 65 (dk_at dksJ4_add_0 5 rfl rfl)
theorem dJ4_add_8 : decode cJ4_add 8 = .ok (.invokeinterface 69 3, 5) := by decide +kernel
theorem dJ4_add_13 : decode cJ4_add 13 = .ok (.ifnonnull 7, 3) := dk_199 0 7 (dk_at dksJ4_add_0 13 rfl rfl)
theorem dJ4_add_16 : decode cJ4_add 16 = .ok (.iconst 1, 1) := dk_4 (dk_at dksJ4_add_0 16 rfl rfl)
theorem dJ4_add_17 : decode cJ4_add 17 = .ok (.goto 4, 3) := dk_167 0 4 (dk_at dksJ4_add_0 17 rfl rfl)
theorem dJ4_add_20 : decode cJ4_add 20 = .ok (.iconst 0, 1) := dk_3 (dk_at dksJ4_add_0 20 rfl rfl)
theorem dJ4_add_21 : decode cJ4_add 21 = .ok (.ireturn, 1) := dk_172 (dk_at dksJ4_add_0 21 rfl rfl)
abbrev cJ4_size : ByteArray := prog_63_method_9_code
def yJ4_size : MethodName := ⟨RJ4, "size", "()I"⟩
def dkwJ4_size_0 : List UInt8 := [42, 180, 0, 7, 185, 0, 53, 1, 0, 172]
abbrev dktJ4_size_0 : List UInt8 := dkwJ4_size_0 ++ []
theorem dksJ4_size_0 : cJ4_size.data.toList.drop 0 = dktJ4_size_0 := by decide +kernel
theorem dJ4_size_0 : decode cJ4_size 0 = .ok (.aload_n 0, 1) := dk_42 (dk_at dksJ4_size_0 0 rfl rfl)
theorem dJ4_size_1 : decode cJ4_size 1 = .ok (.getfield 7, 3) := dk_180 0 7 (dk_at dksJ4_size_0 1 rfl rfl)
theorem dJ4_size_4 : decode cJ4_size 4 = .ok (.invokeinterface 53 1, 5) := by decide +kernel
theorem dJ4_size_9 : decode cJ4_size 9 = .ok (.ireturn, 1) := dk_172 (dk_at dksJ4_size_0 9 rfl rfl)
abbrev cJ4_iterator : ByteArray := prog_63_method_6_code
def yJ4_iterator : MethodName := ⟨RJ4, "iterator", "()Ljava/util/Iterator;"⟩
def dkwJ4_iterator_0 : List UInt8 := [42, 180, 0, 7, 185, 0, 34, 1, 0, 185, 0, 40, 1, 0, 176]
abbrev dktJ4_iterator_0 : List UInt8 := dkwJ4_iterator_0 ++ []
theorem dksJ4_iterator_0 : cJ4_iterator.data.toList.drop 0 = dktJ4_iterator_0 := by decide +kernel
theorem dJ4_iterator_0 : decode cJ4_iterator 0 = .ok (.aload_n 0, 1) := dk_42 (dk_at dksJ4_iterator_0 0 rfl rfl)
theorem dJ4_iterator_1 : decode cJ4_iterator 1 = .ok (.getfield 7, 3) := dk_180 0 7 (dk_at dksJ4_iterator_0 1 rfl rfl)
theorem dJ4_iterator_4 : decode cJ4_iterator 4 = .ok (.invokeinterface 34 1, 5) := by decide +kernel
theorem dJ4_iterator_9 : decode cJ4_iterator 9 = .ok (.invokeinterface 40 1, 5) := by decide +kernel
theorem dJ4_iterator_14 : decode cJ4_iterator 14 = .ok (.areturn, 1) := dk_176 (dk_at dksJ4_iterator_0 14 rfl rfl)

/-! java/lang/Throwable -/
set_option maxRecDepth 100000
def RJ5 : String := "java/lang/Throwable"
def TJ5 : u_T := fun k => match k with
  | 0 => ("java/lang/Throwable", "cause", "Ljava/lang/Throwable;", false)
  | 1 => ("java/lang/Throwable", "stackTrace", "[Ljava/lang/StackTraceElement;", false)
  | 2 => ("java/lang/Throwable", "suppressedExceptions", "Ljava/util/List;", false)
  | 3 => ("java/lang/Throwable", "detailMessage", "Ljava/lang/String;", false)
  | _ => ("java/lang/Throwable", "backtrace", "Ljava/lang/Object;", false)
def tyJ5 : Nat → FieldType := fun k => match k with
  | 0 => .object "java/lang/Throwable"
  | 1 => .array (.object "java/lang/StackTraceElement")
  | 2 => .object "java/util/List"
  | 3 => .object "java/lang/String"
  | _ => .object "java/lang/Object"
abbrev wsJ50 : List Cond := u_ws RJ5 TJ5 5
theorem nmJ5 : ∀ a, a < 5 → ∀ b, b < 5 → a ≠ b → (TJ5 a).2.1 ≠ (TJ5 b).2.1 := by decide +kernel
theorem tyJ5_ok : ∀ k, k < 5 → parseFieldDescriptor (TJ5 k).2.2.1 = some (tyJ5 k) := by decide +kernel
abbrev cJ5_init : ByteArray := prog_29_method_1_code
def yJ5_init : MethodName := ⟨RJ5, "<init>", "()V"⟩
def dkwJ5_init_1 : List UInt8 := [182, 0, 27, 87, 177]
abbrev dktJ5_init_1 : List UInt8 := dkwJ5_init_1 ++ []
def dkwJ5_init_0 : List UInt8 := [42, 183, 0, 1, 42, 42, 181, 0, 7, 42, 178, 0, 13, 181, 0, 17, 42, 178, 0, 20, 181, 0, 24, 42]
abbrev dktJ5_init_0 : List UInt8 := dkwJ5_init_0 ++ dktJ5_init_1
theorem dksJ5_init_0 : cJ5_init.data.toList.drop 0 = dktJ5_init_0 := by decide +kernel
theorem dksJ5_init_1 : cJ5_init.data.toList.drop 24 = dktJ5_init_1 := dk_seg dksJ5_init_0 24 rfl rfl
theorem dJ5_init_0 : decode cJ5_init 0 = .ok (.aload_n 0, 1) := dk_42 (dk_at dksJ5_init_0 0 rfl rfl)
theorem dJ5_init_1 : decode cJ5_init 1 = .ok (.invokespecial 1, 3) := dk_183 0 1 (dk_at dksJ5_init_0 1 rfl rfl)
theorem dJ5_init_4 : decode cJ5_init 4 = .ok (.aload_n 0, 1) := dk_42 (dk_at dksJ5_init_0 4 rfl rfl)
theorem dJ5_init_5 : decode cJ5_init 5 = .ok (.aload_n 0, 1) := dk_42 (dk_at dksJ5_init_0 5 rfl rfl)
theorem dJ5_init_6 : decode cJ5_init 6 = .ok (.putfield 7, 3) := dk_181 0 7 (dk_at dksJ5_init_0 6 rfl rfl)
theorem dJ5_init_9 : decode cJ5_init 9 = .ok (.aload_n 0, 1) := dk_42 (dk_at dksJ5_init_0 9 rfl rfl)
theorem dJ5_init_10 : decode cJ5_init 10 = .ok (.getstatic 13, 3) := dk_178 0 13 (dk_at dksJ5_init_0 10 rfl rfl)
theorem dJ5_init_13 : decode cJ5_init 13 = .ok (.putfield 17, 3) := dk_181 0 17 (dk_at dksJ5_init_0 13 rfl rfl)
theorem dJ5_init_16 : decode cJ5_init 16 = .ok (.aload_n 0, 1) := dk_42 (dk_at dksJ5_init_0 16 rfl rfl)
theorem dJ5_init_17 : decode cJ5_init 17 = .ok (.getstatic 20, 3) := dk_178 0 20 (dk_at dksJ5_init_0 17 rfl rfl)
theorem dJ5_init_20 : decode cJ5_init 20 = .ok (.putfield 24, 3) := dk_181 0 24 (dk_at dksJ5_init_0 20 rfl rfl)
theorem dJ5_init_23 : decode cJ5_init 23 = .ok (.aload_n 0, 1) := dk_42 (dk_at dksJ5_init_0 23 rfl rfl)
theorem dJ5_init_24 : decode cJ5_init 24 = .ok (.invokevirtual 27, 3) := dk_182 0 27 (dk_at dksJ5_init_1 0 rfl rfl)
theorem dJ5_init_27 : decode cJ5_init 27 = .ok (.pop, 1) := dk_87 (dk_at dksJ5_init_1 3 rfl rfl)
theorem dJ5_init_28 : decode cJ5_init 28 = .ok (.return_, 1) := dk_177 (dk_at dksJ5_init_1 4 rfl rfl)
abbrev cJ5_init_2 : ByteArray := prog_29_method_5_code
def yJ5_init_2 : MethodName := ⟨RJ5, "<init>", "(Ljava/lang/String;Ljava/lang/Throwable;ZZ)V"⟩
def dkwJ5_init_2_2 : List UInt8 := [44, 181, 0, 7, 29, 154, 0, 8, 42, 1, 181, 0, 24, 177]
abbrev dktJ5_init_2_2 : List UInt8 := dkwJ5_init_2_2 ++ []
def dkwJ5_init_2_1 : List UInt8 := [21, 4, 153, 0, 11, 42, 182, 0, 27, 87, 167, 0, 8, 42, 1, 181, 0, 17, 42, 43, 181, 0, 31, 42]
abbrev dktJ5_init_2_1 : List UInt8 := dkwJ5_init_2_1 ++ dktJ5_init_2_2
def dkwJ5_init_2_0 : List UInt8 := [42, 183, 0, 1, 42, 42, 181, 0, 7, 42, 178, 0, 13, 181, 0, 17, 42, 178, 0, 20, 181, 0, 24]
abbrev dktJ5_init_2_0 : List UInt8 := dkwJ5_init_2_0 ++ dktJ5_init_2_1
theorem dksJ5_init_2_0 : cJ5_init_2.data.toList.drop 0 = dktJ5_init_2_0 := by decide +kernel
theorem dksJ5_init_2_1 : cJ5_init_2.data.toList.drop 23 = dktJ5_init_2_1 := dk_seg dksJ5_init_2_0 23 rfl rfl
theorem dksJ5_init_2_2 : cJ5_init_2.data.toList.drop 47 = dktJ5_init_2_2 := dk_seg dksJ5_init_2_1 24 rfl rfl
theorem dJ5_init_2_0 : decode cJ5_init_2 0 = .ok (.aload_n 0, 1) := dk_42 (dk_at dksJ5_init_2_0 0 rfl rfl)
theorem dJ5_init_2_1 : decode cJ5_init_2 1 = .ok (.invokespecial 1, 3) := dk_183 0 1 (dk_at dksJ5_init_2_0 1 rfl rfl)
theorem dJ5_init_2_4 : decode cJ5_init_2 4 = .ok (.aload_n 0, 1) := dk_42 (dk_at dksJ5_init_2_0 4 rfl rfl)
theorem dJ5_init_2_5 : decode cJ5_init_2 5 = .ok (.aload_n 0, 1) := dk_42 (dk_at dksJ5_init_2_0 5 rfl rfl)
theorem dJ5_init_2_6 : decode cJ5_init_2 6 = .ok (.putfield 7, 3) := dk_181 0 7 (dk_at dksJ5_init_2_0 6 rfl rfl)
theorem dJ5_init_2_9 : decode cJ5_init_2 9 = .ok (.aload_n 0, 1) := dk_42 (dk_at dksJ5_init_2_0 9 rfl rfl)
theorem dJ5_init_2_10 : decode cJ5_init_2 10 = .ok (.getstatic 13, 3) := dk_178 0 13 (dk_at dksJ5_init_2_0 10 rfl rfl)
theorem dJ5_init_2_13 : decode cJ5_init_2 13 = .ok (.putfield 17, 3) := dk_181 0 17 (dk_at dksJ5_init_2_0 13 rfl rfl)
theorem dJ5_init_2_16 : decode cJ5_init_2 16 = .ok (.aload_n 0, 1) := dk_42 (dk_at dksJ5_init_2_0 16 rfl rfl)
theorem dJ5_init_2_17 : decode cJ5_init_2 17 = .ok (.getstatic 20, 3) := dk_178 0 20 (dk_at dksJ5_init_2_0 17 rfl rfl)
theorem dJ5_init_2_20 : decode cJ5_init_2 20 = .ok (.putfield 24, 3) := dk_181 0 24 (dk_at dksJ5_init_2_0 20 rfl rfl)
theorem dJ5_init_2_23 : decode cJ5_init_2 23 = .ok (.iload 4, 2) := dk_21 4 (dk_at dksJ5_init_2_1 0 rfl rfl)
theorem dJ5_init_2_25 : decode cJ5_init_2 25 = .ok (.ifCond .eq 11, 3) := dk_153 0 11 (dk_at dksJ5_init_2_1 2 rfl rfl)
theorem dJ5_init_2_28 : decode cJ5_init_2 28 = .ok (.aload_n 0, 1) := dk_42 (dk_at dksJ5_init_2_1 5 rfl rfl)
theorem dJ5_init_2_29 : decode cJ5_init_2 29 = .ok (.invokevirtual 27, 3) := dk_182 0 27 (dk_at dksJ5_init_2_1 6 rfl rfl)
theorem dJ5_init_2_32 : decode cJ5_init_2 32 = .ok (.pop, 1) := dk_87 (dk_at dksJ5_init_2_1 9 rfl rfl)
theorem dJ5_init_2_33 : decode cJ5_init_2 33 = .ok (.goto 8, 3) := dk_167 0 8 (dk_at dksJ5_init_2_1 10 rfl rfl)
theorem dJ5_init_2_36 : decode cJ5_init_2 36 = .ok (.aload_n 0, 1) := dk_42 (dk_at dksJ5_init_2_1 13 rfl rfl)
theorem dJ5_init_2_37 : decode cJ5_init_2 37 = .ok (.aconst_null, 1) := dk_1 (dk_at dksJ5_init_2_1 14 rfl rfl)
theorem dJ5_init_2_38 : decode cJ5_init_2 38 = .ok (.putfield 17, 3) := dk_181 0 17 (dk_at dksJ5_init_2_1 15 rfl rfl)
theorem dJ5_init_2_41 : decode cJ5_init_2 41 = .ok (.aload_n 0, 1) := dk_42 (dk_at dksJ5_init_2_1 18 rfl rfl)
theorem dJ5_init_2_42 : decode cJ5_init_2 42 = .ok (.aload_n 1, 1) := dk_43 (dk_at dksJ5_init_2_1 19 rfl rfl)
theorem dJ5_init_2_43 : decode cJ5_init_2 43 = .ok (.putfield 31, 3) := dk_181 0 31 (dk_at dksJ5_init_2_1 20 rfl rfl)
theorem dJ5_init_2_46 : decode cJ5_init_2 46 = .ok (.aload_n 0, 1) := dk_42 (dk_at dksJ5_init_2_1 23 rfl rfl)
theorem dJ5_init_2_47 : decode cJ5_init_2 47 = .ok (.aload_n 2, 1) := dk_44 (dk_at dksJ5_init_2_2 0 rfl rfl)
theorem dJ5_init_2_48 : decode cJ5_init_2 48 = .ok (.putfield 7, 3) := dk_181 0 7 (dk_at dksJ5_init_2_2 1 rfl rfl)
theorem dJ5_init_2_51 : decode cJ5_init_2 51 = .ok (.iload_n 3, 1) := dk_29 (dk_at dksJ5_init_2_2 4 rfl rfl)
theorem dJ5_init_2_52 : decode cJ5_init_2 52 = .ok (.ifCond .ne 8, 3) := dk_154 0 8 (dk_at dksJ5_init_2_2 5 rfl rfl)
theorem dJ5_init_2_55 : decode cJ5_init_2 55 = .ok (.aload_n 0, 1) := dk_42 (dk_at dksJ5_init_2_2 8 rfl rfl)
theorem dJ5_init_2_56 : decode cJ5_init_2 56 = .ok (.aconst_null, 1) := dk_1 (dk_at dksJ5_init_2_2 9 rfl rfl)
theorem dJ5_init_2_57 : decode cJ5_init_2 57 = .ok (.putfield 24, 3) := dk_181 0 24 (dk_at dksJ5_init_2_2 10 rfl rfl)
theorem dJ5_init_2_60 : decode cJ5_init_2 60 = .ok (.return_, 1) := dk_177 (dk_at dksJ5_init_2_2 13 rfl rfl)

/-! java/lang/Exception -/
set_option maxRecDepth 100000
def RJ6 : String := "java/lang/Exception"
abbrev cJ6_init : ByteArray := prog_17_method_5_code
def yJ6_init : MethodName := ⟨RJ6, "<init>", "(Ljava/lang/String;Ljava/lang/Throwable;ZZ)V"⟩
def dkwJ6_init_0 : List UInt8 := [42, 43, 44, 29, 21, 4, 183, 0, 16, 177]
abbrev dktJ6_init_0 : List UInt8 := dkwJ6_init_0 ++ []
theorem dksJ6_init_0 : cJ6_init.data.toList.drop 0 = dktJ6_init_0 := by decide +kernel
theorem dJ6_init_0 : decode cJ6_init 0 = .ok (.aload_n 0, 1) := dk_42 (dk_at dksJ6_init_0 0 rfl rfl)
theorem dJ6_init_1 : decode cJ6_init 1 = .ok (.aload_n 1, 1) := dk_43 (dk_at dksJ6_init_0 1 rfl rfl)
theorem dJ6_init_2 : decode cJ6_init 2 = .ok (.aload_n 2, 1) := dk_44 (dk_at dksJ6_init_0 2 rfl rfl)
theorem dJ6_init_3 : decode cJ6_init 3 = .ok (.iload_n 3, 1) := dk_29 (dk_at dksJ6_init_0 3 rfl rfl)
theorem dJ6_init_4 : decode cJ6_init 4 = .ok (.iload 4, 2) := dk_21 4 (dk_at dksJ6_init_0 4 rfl rfl)
theorem dJ6_init_6 : decode cJ6_init 6 = .ok (.invokespecial 16, 3) := dk_183 0 16 (dk_at dksJ6_init_0 6 rfl rfl)
theorem dJ6_init_9 : decode cJ6_init 9 = .ok (.return_, 1) := dk_177 (dk_at dksJ6_init_0 9 rfl rfl)

/-! java/lang/Number -/
set_option maxRecDepth 100000
def RJ7 : String := "java/lang/Number"
abbrev cJ7_init : ByteArray := prog_23_method_1_code
def yJ7_init : MethodName := ⟨RJ7, "<init>", "()V"⟩

/-! java/lang/Integer -/
set_option maxRecDepth 100000
def RJ8 : String := "java/lang/Integer"
def TJ8 : u_T := fun k => match k with
  | _ => ("java/lang/Integer", "value", "I", true)
def tyJ8 : Nat → FieldType := fun k => match k with
  | _ => .int
abbrev wsJ80 : List Cond := u_ws RJ8 TJ8 1
theorem nmJ8 : ∀ a, a < 1 → ∀ b, b < 1 → a ≠ b → (TJ8 a).2.1 ≠ (TJ8 b).2.1 := by decide +kernel
theorem tyJ8_ok : ∀ k, k < 1 → parseFieldDescriptor (TJ8 k).2.2.1 = some (tyJ8 k) := by decide +kernel
abbrev cJ8_valueOf : ByteArray := prog_18_method_22_code
def yJ8_valueOf : MethodName := ⟨RJ8, "valueOf", "(I)Ljava/lang/Integer;"⟩
def dkwJ8_valueOf_1 : List UInt8 := [187, 0, 1, 89, 26, 183, 0, 199, 176]
abbrev dktJ8_valueOf_1 : List UInt8 := dkwJ8_valueOf_1 ++ []
def dkwJ8_valueOf_0 : List UInt8 := [26, 16, 128, 161, 0, 20, 26, 178, 0, 191, 163, 0, 13, 178, 0, 195, 26, 17, 0, 128, 96, 50, 176]
abbrev dktJ8_valueOf_0 : List UInt8 := dkwJ8_valueOf_0 ++ dktJ8_valueOf_1
theorem dksJ8_valueOf_0 : cJ8_valueOf.data.toList.drop 0 = dktJ8_valueOf_0 := by decide +kernel
theorem dksJ8_valueOf_1 : cJ8_valueOf.data.toList.drop 23 = dktJ8_valueOf_1 := dk_seg dksJ8_valueOf_0 23 rfl rfl
theorem dJ8_valueOf_0 : decode cJ8_valueOf 0 = .ok (.iload_n 0, 1) := dk_26 (dk_at dksJ8_valueOf_0 0 rfl rfl)
theorem dJ8_valueOf_1 : decode cJ8_valueOf 1 = .ok (.bipush (-128), 2) := dk_16 128 (dk_at dksJ8_valueOf_0 1 rfl rfl)
theorem dJ8_valueOf_3 : decode cJ8_valueOf 3 = .ok (.if_icmp .lt 20, 3) := dk_161 0 20 (dk_at dksJ8_valueOf_0 3 rfl rfl)
theorem dJ8_valueOf_6 : decode cJ8_valueOf 6 = .ok (.iload_n 0, 1) := dk_26 (dk_at dksJ8_valueOf_0 6 rfl rfl)
theorem dJ8_valueOf_7 : decode cJ8_valueOf 7 = .ok (.getstatic 191, 3) := dk_178 0 191 (dk_at dksJ8_valueOf_0 7 rfl rfl)
theorem dJ8_valueOf_10 : decode cJ8_valueOf 10 = .ok (.if_icmp .gt 13, 3) := dk_163 0 13 (dk_at dksJ8_valueOf_0 10 rfl rfl)
theorem dJ8_valueOf_13 : decode cJ8_valueOf 13 = .ok (.getstatic 195, 3) := dk_178 0 195 (dk_at dksJ8_valueOf_0 13 rfl rfl)
theorem dJ8_valueOf_16 : decode cJ8_valueOf 16 = .ok (.iload_n 0, 1) := dk_26 (dk_at dksJ8_valueOf_0 16 rfl rfl)
theorem dJ8_valueOf_17 : decode cJ8_valueOf 17 = .ok (.sipush 128, 3) := dk_17 0 128 (dk_at dksJ8_valueOf_0 17 rfl rfl)
theorem dJ8_valueOf_20 : decode cJ8_valueOf 20 = .ok (.iadd, 1) := dk_96 (dk_at dksJ8_valueOf_0 20 rfl rfl)
theorem dJ8_valueOf_21 : decode cJ8_valueOf 21 = .ok (.aaload, 1) := dk_50 (dk_at dksJ8_valueOf_0 21 rfl rfl)
theorem dJ8_valueOf_22 : decode cJ8_valueOf 22 = .ok (.areturn, 1) := dk_176 (dk_at dksJ8_valueOf_0 22 rfl rfl)
theorem dJ8_valueOf_23 : decode cJ8_valueOf 23 = .ok (.new 1, 3) := dk_187 0 1 (dk_at dksJ8_valueOf_1 0 rfl rfl)
theorem dJ8_valueOf_26 : decode cJ8_valueOf 26 = .ok (.dup, 1) := dk_89 (dk_at dksJ8_valueOf_1 3 rfl rfl)
theorem dJ8_valueOf_27 : decode cJ8_valueOf 27 = .ok (.iload_n 0, 1) := dk_26 (dk_at dksJ8_valueOf_1 4 rfl rfl)
theorem dJ8_valueOf_28 : decode cJ8_valueOf 28 = .ok (.invokespecial 199, 3) := dk_183 0 199 (dk_at dksJ8_valueOf_1 5 rfl rfl)
theorem dJ8_valueOf_31 : decode cJ8_valueOf 31 = .ok (.areturn, 1) := dk_176 (dk_at dksJ8_valueOf_1 8 rfl rfl)
abbrev cJ8_init : ByteArray := prog_18_method_23_code
def yJ8_init : MethodName := ⟨RJ8, "<init>", "(I)V"⟩
abbrev cJ8_compareTo : ByteArray := prog_18_method_63_code
def yJ8_compareTo : MethodName := ⟨RJ8, "compareTo", "(Ljava/lang/Object;)I"⟩
def dkwJ8_compareTo_0 : List UInt8 := [42, 43, 192, 0, 1, 182, 1, 28, 172]
abbrev dktJ8_compareTo_0 : List UInt8 := dkwJ8_compareTo_0 ++ []
theorem dksJ8_compareTo_0 : cJ8_compareTo.data.toList.drop 0 = dktJ8_compareTo_0 := by decide +kernel
theorem dJ8_compareTo_0 : decode cJ8_compareTo 0 = .ok (.aload_n 0, 1) := dk_42 (dk_at dksJ8_compareTo_0 0 rfl rfl)
theorem dJ8_compareTo_1 : decode cJ8_compareTo 1 = .ok (.aload_n 1, 1) := dk_43 (dk_at dksJ8_compareTo_0 1 rfl rfl)
theorem dJ8_compareTo_2 : decode cJ8_compareTo 2 = .ok (.checkcast 1, 3) := dk_192 0 1 (dk_at dksJ8_compareTo_0 2 rfl rfl)
theorem dJ8_compareTo_5 : decode cJ8_compareTo 5 = .ok (.invokevirtual 284, 3) := dk_182 1 28 (dk_at dksJ8_compareTo_0 5 rfl rfl)
theorem dJ8_compareTo_8 : decode cJ8_compareTo 8 = .ok (.ireturn, 1) := dk_172 (dk_at dksJ8_compareTo_0 8 rfl rfl)
abbrev cJ8_compareTo_2 : ByteArray := prog_18_method_39_code
def yJ8_compareTo_2 : MethodName := ⟨RJ8, "compareTo", "(Ljava/lang/Integer;)I"⟩
def dkwJ8_compareTo_2_0 : List UInt8 := [42, 180, 0, 205, 43, 180, 0, 205, 184, 1, 3, 172]
abbrev dktJ8_compareTo_2_0 : List UInt8 := dkwJ8_compareTo_2_0 ++ []
theorem dksJ8_compareTo_2_0 : cJ8_compareTo_2.data.toList.drop 0 = dktJ8_compareTo_2_0 := by decide +kernel
theorem dJ8_compareTo_2_0 : decode cJ8_compareTo_2 0 = .ok (.aload_n 0, 1) := dk_42 (dk_at dksJ8_compareTo_2_0 0 rfl rfl)
theorem dJ8_compareTo_2_1 : decode cJ8_compareTo_2 1 = .ok (.getfield 205, 3) := dk_180 0 205 (dk_at dksJ8_compareTo_2_0 1 rfl rfl)
theorem dJ8_compareTo_2_4 : decode cJ8_compareTo_2 4 = .ok (.aload_n 1, 1) := dk_43 (dk_at dksJ8_compareTo_2_0 4 rfl rfl)
theorem dJ8_compareTo_2_5 : decode cJ8_compareTo_2 5 = .ok (.getfield 205, 3) := dk_180 0 205 (dk_at dksJ8_compareTo_2_0 5 rfl rfl)
theorem dJ8_compareTo_2_8 : decode cJ8_compareTo_2 8 = .ok (.invokestatic 259, 3) := dk_184 1 3 (dk_at dksJ8_compareTo_2_0 8 rfl rfl)
theorem dJ8_compareTo_2_11 : decode cJ8_compareTo_2 11 = .ok (.ireturn, 1) := dk_172 (dk_at dksJ8_compareTo_2_0 11 rfl rfl)
abbrev cJ8_compare : ByteArray := prog_18_method_40_code
def yJ8_compare : MethodName := ⟨RJ8, "compare", "(II)I"⟩
def dkwJ8_compare_0 : List UInt8 := [26, 27, 162, 0, 7, 2, 167, 0, 13, 26, 27, 160, 0, 7, 3, 167, 0, 4, 4, 172]
abbrev dktJ8_compare_0 : List UInt8 := dkwJ8_compare_0 ++ []
theorem dksJ8_compare_0 : cJ8_compare.data.toList.drop 0 = dktJ8_compare_0 := by decide +kernel
theorem dJ8_compare_0 : decode cJ8_compare 0 = .ok (.iload_n 0, 1) := dk_26 (dk_at dksJ8_compare_0 0 rfl rfl)
theorem dJ8_compare_1 : decode cJ8_compare 1 = .ok (.iload_n 1, 1) := dk_27 (dk_at dksJ8_compare_0 1 rfl rfl)
theorem dJ8_compare_2 : decode cJ8_compare 2 = .ok (.if_icmp .ge 7, 3) := dk_162 0 7 (dk_at dksJ8_compare_0 2 rfl rfl)
theorem dJ8_compare_5 : decode cJ8_compare 5 = .ok (.iconst (-1), 1) := dk_2 (dk_at dksJ8_compare_0 5 rfl rfl)
theorem dJ8_compare_6 : decode cJ8_compare 6 = .ok (.goto 13, 3) := dk_167 0 13 (dk_at dksJ8_compare_0 6 rfl rfl)
theorem dJ8_compare_9 : decode cJ8_compare 9 = .ok (.iload_n 0, 1) := dk_26 (dk_at dksJ8_compare_0 9 rfl rfl)
theorem dJ8_compare_10 : decode cJ8_compare 10 = .ok (.iload_n 1, 1) := dk_27 (dk_at dksJ8_compare_0 10 rfl rfl)
theorem dJ8_compare_11 : decode cJ8_compare 11 = .ok (.if_icmp .ne 7, 3) := dk_160 0 7 (dk_at dksJ8_compare_0 11 rfl rfl)
theorem dJ8_compare_14 : decode cJ8_compare 14 = .ok (.iconst 0, 1) := dk_3 (dk_at dksJ8_compare_0 14 rfl rfl)
theorem dJ8_compare_15 : decode cJ8_compare 15 = .ok (.goto 4, 3) := dk_167 0 4 (dk_at dksJ8_compare_0 15 rfl rfl)
theorem dJ8_compare_18 : decode cJ8_compare 18 = .ok (.iconst 1, 1) := dk_4 (dk_at dksJ8_compare_0 18 rfl rfl)
theorem dJ8_compare_19 : decode cJ8_compare 19 = .ok (.ireturn, 1) := dk_172 (dk_at dksJ8_compare_0 19 rfl rfl)
abbrev cJ8_numberOfLeadingZeros : ByteArray := prog_18_method_47_code
def yJ8_numberOfLeadingZeros : MethodName := ⟨RJ8, "numberOfLeadingZeros", "(I)I"⟩
abbrev cJ8_numberOfTrailingZeros : ByteArray := prog_18_method_48_code
def yJ8_numberOfTrailingZeros : MethodName := ⟨RJ8, "numberOfTrailingZeros", "(I)I"⟩
abbrev cJ8_intValue : ByteArray := prog_18_method_27_code
def yJ8_intValue : MethodName := ⟨RJ8, "intValue", "()I"⟩
theorem dJ8_intValue_0 : decode cJ8_intValue 0 = .ok (.aload_n 0, 1) := by decide +kernel
theorem dJ8_intValue_1 : decode cJ8_intValue 1 = .ok (.getfield 205, 3) := by decide +kernel
theorem dJ8_intValue_4 : decode cJ8_intValue 4 = .ok (.ireturn, 1) := by decide +kernel

/-! java/lang/String -/
set_option maxRecDepth 100000
def RJ9 : String := "java/lang/String"
abbrev cJ9_checkOffset : ByteArray := prog_24_method_156_code
def yJ9_checkOffset : MethodName := ⟨RJ9, "checkOffset", "(II)V"⟩
abbrev cJ9_checkBoundsOffCount : ByteArray := prog_24_method_157_code
def yJ9_checkBoundsOffCount : MethodName := ⟨RJ9, "checkBoundsOffCount", "(III)I"⟩
abbrev cJ9_checkIndex : ByteArray := prog_24_method_155_code
def yJ9_checkIndex : MethodName := ⟨RJ9, "checkIndex", "(II)V"⟩
def dkwJ9_checkIndex_0 : List UInt8 := [26, 27, 178, 4, 29, 184, 4, 35, 87, 177]
abbrev dktJ9_checkIndex_0 : List UInt8 := dkwJ9_checkIndex_0 ++ []
theorem dksJ9_checkIndex_0 : cJ9_checkIndex.data.toList.drop 0 = dktJ9_checkIndex_0 := by decide +kernel
theorem dJ9_checkIndex_0 : decode cJ9_checkIndex 0 = .ok (.iload_n 0, 1) := dk_26 (dk_at dksJ9_checkIndex_0 0 rfl rfl)
theorem dJ9_checkIndex_1 : decode cJ9_checkIndex 1 = .ok (.iload_n 1, 1) := dk_27 (dk_at dksJ9_checkIndex_0 1 rfl rfl)
theorem dJ9_checkIndex_2 : decode cJ9_checkIndex 2 = .ok (.getstatic 1053, 3) := dk_178 4 29 (dk_at dksJ9_checkIndex_0 2 rfl rfl)
theorem dJ9_checkIndex_5 : decode cJ9_checkIndex 5 = .ok (.invokestatic 1059, 3) := dk_184 4 35 (dk_at dksJ9_checkIndex_0 5 rfl rfl)
theorem dJ9_checkIndex_8 : decode cJ9_checkIndex 8 = .ok (.pop, 1) := dk_87 (dk_at dksJ9_checkIndex_0 8 rfl rfl)
theorem dJ9_checkIndex_9 : decode cJ9_checkIndex 9 = .ok (.return_, 1) := dk_177 (dk_at dksJ9_checkIndex_0 9 rfl rfl)

