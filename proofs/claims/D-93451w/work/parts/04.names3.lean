set_option maxRecDepth 100000
/-! DependencyPairAnalyzerModel -/
set_option maxRecDepth 100000
def RX4 : String := "DependencyPairAnalyzerModel"
def TX4 : u_T := fun k => match k with
  | 0 => ("DependencyPairAnalyzerModel", "arities", "[I", true)
  | 1 => ("DependencyPairAnalyzerModel", "savedArities", "[I", true)
  | 2 => ("DependencyPairAnalyzerModel", "rules", "[I", true)
  | 3 => ("DependencyPairAnalyzerModel", "savedRules", "[I", true)
  | 4 => ("DependencyPairAnalyzerModel", "registers", "[I", true)
  | 5 => ("DependencyPairAnalyzerModel", "savedRegisters", "[I", true)
  | 6 => ("DependencyPairAnalyzerModel", "ruleCount", "I", false)
  | 7 => ("DependencyPairAnalyzerModel", "savedCount", "I", false)
  | 8 => ("DependencyPairAnalyzerModel", "hasSnapshot", "Z", false)
  | 9 => ("DependencyPairAnalyzerModel", "boundAt", "[I", true)
  | 10 => ("DependencyPairAnalyzerModel", "boundLength", "[I", true)
  | 11 => ("DependencyPairAnalyzerModel", "result", "[I", true)
  | 12 => ("DependencyPairAnalyzerModel", "text", "[I", true)
  | 13 => ("DependencyPairAnalyzerModel", "parsed", "[I", true)
  | 14 => ("DependencyPairAnalyzerModel", "parsedLeft", "[I", true)
  | 15 => ("DependencyPairAnalyzerModel", "length", "I", false)
  | 16 => ("DependencyPairAnalyzerModel", "at", "I", false)
  | 17 => ("DependencyPairAnalyzerModel", "pairRules", "[I", true)
  | 18 => ("DependencyPairAnalyzerModel", "pairPositions", "[I", true)
  | 19 => ("DependencyPairAnalyzerModel", "edges", "[J", true)
  | 20 => ("DependencyPairAnalyzerModel", "reached", "[J", true)
  | 21 => ("DependencyPairAnalyzerModel", "isLeft", "[Z", true)
  | 22 => ("DependencyPairAnalyzerModel", "components", "[I", true)
  | 23 => ("DependencyPairAnalyzerModel", "pairs", "I", false)
  | 24 => ("DependencyPairAnalyzerModel", "componentCount", "I", false)
  | 25 => ("DependencyPairAnalyzerModel", "graphs", "[I", true)
  | 26 => ("DependencyPairAnalyzerModel", "one", "[I", true)
  | 27 => ("DependencyPairAnalyzerModel", "other", "[I", true)
  | 28 => ("DependencyPairAnalyzerModel", "isKnown", "[Z", true)
  | 29 => ("DependencyPairAnalyzerModel", "graphCount", "I", false)
  | 30 => ("DependencyPairAnalyzerModel", "composed", "[I", true)
  | 31 => ("DependencyPairAnalyzerModel", "digits", "[I", true)
  | 32 => ("DependencyPairAnalyzerModel", "used", "[Z", true)
  | 33 => ("DependencyPairAnalyzerModel", "isRemoved", "[Z", true)
  | 34 => ("DependencyPairAnalyzerModel", "formatted", "[I", true)
  | 35 => ("DependencyPairAnalyzerModel", "formattedLength", "I", false)
  | 36 => ("DependencyPairAnalyzerModel", "terms", "[I", true)
  | 37 => ("DependencyPairAnalyzerModel", "isExpanded", "[Z", true)
  | 38 => ("DependencyPairAnalyzerModel", "termCount", "I", false)
  | 39 => ("DependencyPairAnalyzerModel", "expandedCount", "I", false)
  | _ => ("DependencyPairAnalyzerModel", "lastExpanded", "I", false)
def tyX4 : Nat → FieldType := fun k => match k with
  | 0 => .array .int
  | 1 => .array .int
  | 2 => .array .int
  | 3 => .array .int
  | 4 => .array .int
  | 5 => .array .int
  | 6 => .int
  | 7 => .int
  | 8 => .boolean
  | 9 => .array .int
  | 10 => .array .int
  | 11 => .array .int
  | 12 => .array .int
  | 13 => .array .int
  | 14 => .array .int
  | 15 => .int
  | 16 => .int
  | 17 => .array .int
  | 18 => .array .int
  | 19 => .array .long
  | 20 => .array .long
  | 21 => .array .boolean
  | 22 => .array .int
  | 23 => .int
  | 24 => .int
  | 25 => .array .int
  | 26 => .array .int
  | 27 => .array .int
  | 28 => .array .boolean
  | 29 => .int
  | 30 => .array .int
  | 31 => .array .int
  | 32 => .array .boolean
  | 33 => .array .boolean
  | 34 => .array .int
  | 35 => .int
  | 36 => .array .int
  | 37 => .array .boolean
  | 38 => .int
  | 39 => .int
  | _ => .int
abbrev wsX40 : List Cond := u_ws RX4 TX4 41
set_option maxRecDepth 100000 in
theorem nmX4 : ∀ a, a < 41 → ∀ b, b < 41 → a ≠ b → (TX4 a).2.1 ≠ (TX4 b).2.1 := by decide +kernel
set_option maxRecDepth 100000 in
theorem tyX4_ok : ∀ k, k < 41 → parseFieldDescriptor (TX4 k).2.2.1 = some (tyX4 k) := by decide +kernel
abbrev cX4_init : ByteArray := prog_10_method_1_code
def yX4_init : MethodName := ⟨RX4, "<init>", "()V"⟩
def dkwX4_init_12 : List UInt8 := [182, 0, 101, 132, 1, 1, 167, 255, 243, 177]
abbrev dktX4_init_12 : List UInt8 := dkwX4_init_12 ++ []
def dkwX4_init_11 : List UInt8 := [180, 0, 9, 4, 5, 79, 42, 180, 0, 9, 5, 4, 79, 3, 60, 27, 7, 162, 0, 14, 42, 27]
abbrev dktX4_init_11 : List UInt8 := dkwX4_init_11 ++ dktX4_init_12
def dkwX4_init_10 : List UInt8 := [188, 10, 181, 0, 95, 42, 17, 4, 177, 188, 4, 181, 0, 98, 42, 180, 0, 9, 3, 5, 79, 42]
abbrev dktX4_init_10 : List UInt8 := dkwX4_init_10 ++ dktX4_init_11
def dkwX4_init_9 : List UInt8 := [181, 0, 85, 42, 17, 0, 240, 188, 4, 181, 0, 88, 42, 17, 0, 160, 188, 10, 181, 0, 91, 42, 18, 94]
abbrev dktX4_init_9 : List UInt8 := dkwX4_init_9 ++ dktX4_init_10
def dkwX4_init_8 : List UInt8 := [181, 0, 76, 42, 16, 9, 188, 10, 181, 0, 79, 42, 6, 188, 10, 181, 0, 82, 42, 6, 188, 4]
abbrev dktX4_init_8 : List UInt8 := dkwX4_init_8 ++ dktX4_init_9
def dkwX4_init_7 : List UInt8 := [181, 0, 66, 42, 16, 9, 188, 10, 181, 0, 69, 42, 16, 9, 188, 10, 181, 0, 72, 42, 18, 75, 188, 4]
abbrev dktX4_init_7 : List UInt8 := dkwX4_init_7 ++ dktX4_init_8
def dkwX4_init_6 : List UInt8 := [17, 0, 240, 188, 4, 181, 0, 59, 42, 17, 0, 240, 188, 10, 181, 0, 63, 42, 17, 1, 145, 188, 10]
abbrev dktX4_init_6 : List UInt8 := dkwX4_init_6 ++ dktX4_init_7
def dkwX4_init_5 : List UInt8 := [181, 0, 49, 42, 17, 3, 192, 188, 11, 181, 0, 52, 42, 17, 3, 192, 188, 11, 181, 0, 56, 42]
abbrev dktX4_init_5 : List UInt8 := dkwX4_init_5 ++ dktX4_init_6
def dkwX4_init_4 : List UInt8 := [16, 96, 188, 10, 181, 0, 43, 42, 17, 0, 240, 188, 10, 181, 0, 46, 42, 17, 0, 240, 188, 10]
abbrev dktX4_init_4 : List UInt8 := dkwX4_init_4 ++ dktX4_init_5
def dkwX4_init_3 : List UInt8 := [16, 96, 188, 10, 181, 0, 34, 42, 16, 80, 188, 10, 181, 0, 37, 42, 16, 96, 188, 10, 181, 0, 40, 42]
abbrev dktX4_init_3 : List UInt8 := dkwX4_init_3 ++ dktX4_init_4
def dkwX4_init_2 : List UInt8 := [17, 1, 128, 188, 10, 181, 0, 25, 42, 6, 188, 10, 181, 0, 28, 42, 6, 188, 10, 181, 0, 31, 42]
abbrev dktX4_init_2 : List UInt8 := dkwX4_init_2 ++ dktX4_init_3
def dkwX4_init_1 : List UInt8 := [181, 0, 16, 42, 17, 4, 128, 188, 10, 181, 0, 19, 42, 17, 1, 128, 188, 10, 181, 0, 22, 42]
abbrev dktX4_init_1 : List UInt8 := dkwX4_init_1 ++ dktX4_init_2
def dkwX4_init_0 : List UInt8 := [42, 183, 0, 3, 42, 6, 188, 10, 181, 0, 9, 42, 6, 188, 10, 181, 0, 13, 42, 17, 4, 128, 188, 10]
abbrev dktX4_init_0 : List UInt8 := dkwX4_init_0 ++ dktX4_init_1
theorem dksX4_init_0 : cX4_init.data.toList.drop 0 = dktX4_init_0 := by decide +kernel
theorem dksX4_init_1 : cX4_init.data.toList.drop 24 = dktX4_init_1 := dk_seg dksX4_init_0 24 rfl rfl
theorem dksX4_init_2 : cX4_init.data.toList.drop 46 = dktX4_init_2 := dk_seg dksX4_init_1 22 rfl rfl
theorem dksX4_init_3 : cX4_init.data.toList.drop 69 = dktX4_init_3 := dk_seg dksX4_init_2 23 rfl rfl
theorem dksX4_init_4 : cX4_init.data.toList.drop 93 = dktX4_init_4 := dk_seg dksX4_init_3 24 rfl rfl
theorem dksX4_init_5 : cX4_init.data.toList.drop 115 = dktX4_init_5 := dk_seg dksX4_init_4 22 rfl rfl
theorem dksX4_init_6 : cX4_init.data.toList.drop 137 = dktX4_init_6 := dk_seg dksX4_init_5 22 rfl rfl
theorem dksX4_init_7 : cX4_init.data.toList.drop 160 = dktX4_init_7 := dk_seg dksX4_init_6 23 rfl rfl
theorem dksX4_init_8 : cX4_init.data.toList.drop 184 = dktX4_init_8 := dk_seg dksX4_init_7 24 rfl rfl
theorem dksX4_init_9 : cX4_init.data.toList.drop 206 = dktX4_init_9 := dk_seg dksX4_init_8 22 rfl rfl
theorem dksX4_init_10 : cX4_init.data.toList.drop 230 = dktX4_init_10 := dk_seg dksX4_init_9 24 rfl rfl
theorem dksX4_init_11 : cX4_init.data.toList.drop 252 = dktX4_init_11 := dk_seg dksX4_init_10 22 rfl rfl
theorem dksX4_init_12 : cX4_init.data.toList.drop 274 = dktX4_init_12 := dk_seg dksX4_init_11 22 rfl rfl
theorem dX4_init_0 : decode cX4_init 0 = .ok (.aload_n 0, 1) := dk_42 (dk_at dksX4_init_0 0 rfl rfl)
theorem dX4_init_1 : decode cX4_init 1 = .ok (.invokespecial 3, 3) := dk_183 0 3 (dk_at dksX4_init_0 1 rfl rfl)
theorem dX4_init_4 : decode cX4_init 4 = .ok (.aload_n 0, 1) := dk_42 (dk_at dksX4_init_0 4 rfl rfl)
theorem dX4_init_5 : decode cX4_init 5 = .ok (.iconst 3, 1) := dk_6 (dk_at dksX4_init_0 5 rfl rfl)
theorem dX4_init_6 : decode cX4_init 6 = .ok (.newarray .int, 2) := dk_188_10 (dk_at dksX4_init_0 6 rfl rfl)
theorem dX4_init_8 : decode cX4_init 8 = .ok (.putfield 9, 3) := dk_181 0 9 (dk_at dksX4_init_0 8 rfl rfl)
theorem dX4_init_11 : decode cX4_init 11 = .ok (.aload_n 0, 1) := dk_42 (dk_at dksX4_init_0 11 rfl rfl)
theorem dX4_init_12 : decode cX4_init 12 = .ok (.iconst 3, 1) := dk_6 (dk_at dksX4_init_0 12 rfl rfl)
theorem dX4_init_13 : decode cX4_init 13 = .ok (.newarray .int, 2) := dk_188_10 (dk_at dksX4_init_0 13 rfl rfl)
theorem dX4_init_15 : decode cX4_init 15 = .ok (.putfield 13, 3) := dk_181 0 13 (dk_at dksX4_init_0 15 rfl rfl)
theorem dX4_init_18 : decode cX4_init 18 = .ok (.aload_n 0, 1) := dk_42 (dk_at dksX4_init_0 18 rfl rfl)
theorem dX4_init_19 : decode cX4_init 19 = .ok (.sipush 1152, 3) := dk_17 4 128 (dk_at dksX4_init_0 19 rfl rfl)
theorem dX4_init_22 : decode cX4_init 22 = .ok (.newarray .int, 2) := dk_188_10 (dk_at dksX4_init_0 22 rfl rfl)
theorem dX4_init_24 : decode cX4_init 24 = .ok (.putfield 16, 3) := dk_181 0 16 (dk_at dksX4_init_1 0 rfl rfl)
theorem dX4_init_27 : decode cX4_init 27 = .ok (.aload_n 0, 1) := dk_42 (dk_at dksX4_init_1 3 rfl rfl)
theorem dX4_init_28 : decode cX4_init 28 = .ok (.sipush 1152, 3) := dk_17 4 128 (dk_at dksX4_init_1 4 rfl rfl)
theorem dX4_init_31 : decode cX4_init 31 = .ok (.newarray .int, 2) := dk_188_10 (dk_at dksX4_init_1 7 rfl rfl)
theorem dX4_init_33 : decode cX4_init 33 = .ok (.putfield 19, 3) := dk_181 0 19 (dk_at dksX4_init_1 9 rfl rfl)
theorem dX4_init_36 : decode cX4_init 36 = .ok (.aload_n 0, 1) := dk_42 (dk_at dksX4_init_1 12 rfl rfl)
theorem dX4_init_37 : decode cX4_init 37 = .ok (.sipush 384, 3) := dk_17 1 128 (dk_at dksX4_init_1 13 rfl rfl)
theorem dX4_init_40 : decode cX4_init 40 = .ok (.newarray .int, 2) := dk_188_10 (dk_at dksX4_init_1 16 rfl rfl)
theorem dX4_init_42 : decode cX4_init 42 = .ok (.putfield 22, 3) := dk_181 0 22 (dk_at dksX4_init_1 18 rfl rfl)
theorem dX4_init_45 : decode cX4_init 45 = .ok (.aload_n 0, 1) := dk_42 (dk_at dksX4_init_1 21 rfl rfl)
theorem dX4_init_46 : decode cX4_init 46 = .ok (.sipush 384, 3) := dk_17 1 128 (dk_at dksX4_init_2 0 rfl rfl)
theorem dX4_init_49 : decode cX4_init 49 = .ok (.newarray .int, 2) := dk_188_10 (dk_at dksX4_init_2 3 rfl rfl)
theorem dX4_init_51 : decode cX4_init 51 = .ok (.putfield 25, 3) := dk_181 0 25 (dk_at dksX4_init_2 5 rfl rfl)
theorem dX4_init_54 : decode cX4_init 54 = .ok (.aload_n 0, 1) := dk_42 (dk_at dksX4_init_2 8 rfl rfl)
theorem dX4_init_55 : decode cX4_init 55 = .ok (.iconst 3, 1) := dk_6 (dk_at dksX4_init_2 9 rfl rfl)
theorem dX4_init_56 : decode cX4_init 56 = .ok (.newarray .int, 2) := dk_188_10 (dk_at dksX4_init_2 10 rfl rfl)
theorem dX4_init_58 : decode cX4_init 58 = .ok (.putfield 28, 3) := dk_181 0 28 (dk_at dksX4_init_2 12 rfl rfl)
theorem dX4_init_61 : decode cX4_init 61 = .ok (.aload_n 0, 1) := dk_42 (dk_at dksX4_init_2 15 rfl rfl)
theorem dX4_init_62 : decode cX4_init 62 = .ok (.iconst 3, 1) := dk_6 (dk_at dksX4_init_2 16 rfl rfl)
theorem dX4_init_63 : decode cX4_init 63 = .ok (.newarray .int, 2) := dk_188_10 (dk_at dksX4_init_2 17 rfl rfl)
theorem dX4_init_65 : decode cX4_init 65 = .ok (.putfield 31, 3) := dk_181 0 31 (dk_at dksX4_init_2 19 rfl rfl)
theorem dX4_init_68 : decode cX4_init 68 = .ok (.aload_n 0, 1) := dk_42 (dk_at dksX4_init_2 22 rfl rfl)
theorem dX4_init_69 : decode cX4_init 69 = .ok (.bipush 96, 2) := dk_16 96 (dk_at dksX4_init_3 0 rfl rfl)
theorem dX4_init_71 : decode cX4_init 71 = .ok (.newarray .int, 2) := dk_188_10 (dk_at dksX4_init_3 2 rfl rfl)
theorem dX4_init_73 : decode cX4_init 73 = .ok (.putfield 34, 3) := dk_181 0 34 (dk_at dksX4_init_3 4 rfl rfl)
theorem dX4_init_76 : decode cX4_init 76 = .ok (.aload_n 0, 1) := dk_42 (dk_at dksX4_init_3 7 rfl rfl)
theorem dX4_init_77 : decode cX4_init 77 = .ok (.bipush 80, 2) := dk_16 80 (dk_at dksX4_init_3 8 rfl rfl)
theorem dX4_init_79 : decode cX4_init 79 = .ok (.newarray .int, 2) := dk_188_10 (dk_at dksX4_init_3 10 rfl rfl)
theorem dX4_init_81 : decode cX4_init 81 = .ok (.putfield 37, 3) := dk_181 0 37 (dk_at dksX4_init_3 12 rfl rfl)
theorem dX4_init_84 : decode cX4_init 84 = .ok (.aload_n 0, 1) := dk_42 (dk_at dksX4_init_3 15 rfl rfl)
theorem dX4_init_85 : decode cX4_init 85 = .ok (.bipush 96, 2) := dk_16 96 (dk_at dksX4_init_3 16 rfl rfl)
theorem dX4_init_87 : decode cX4_init 87 = .ok (.newarray .int, 2) := dk_188_10 (dk_at dksX4_init_3 18 rfl rfl)
theorem dX4_init_89 : decode cX4_init 89 = .ok (.putfield 40, 3) := dk_181 0 40 (dk_at dksX4_init_3 20 rfl rfl)
theorem dX4_init_92 : decode cX4_init 92 = .ok (.aload_n 0, 1) := dk_42 (dk_at dksX4_init_3 23 rfl rfl)
theorem dX4_init_93 : decode cX4_init 93 = .ok (.bipush 96, 2) := dk_16 96 (dk_at dksX4_init_4 0 rfl rfl)
theorem dX4_init_95 : decode cX4_init 95 = .ok (.newarray .int, 2) := dk_188_10 (dk_at dksX4_init_4 2 rfl rfl)
theorem dX4_init_97 : decode cX4_init 97 = .ok (.putfield 43, 3) := dk_181 0 43 (dk_at dksX4_init_4 4 rfl rfl)
theorem dX4_init_100 : decode cX4_init 100 = .ok (.aload_n 0, 1) := dk_42 (dk_at dksX4_init_4 7 rfl rfl)
theorem dX4_init_101 : decode cX4_init 101 = .ok (.sipush 240, 3) := dk_17 0 240 (dk_at dksX4_init_4 8 rfl rfl)
theorem dX4_init_104 : decode cX4_init 104 = .ok (.newarray .int, 2) := dk_188_10 (dk_at dksX4_init_4 11 rfl rfl)
theorem dX4_init_106 : decode cX4_init 106 = .ok (.putfield 46, 3) := dk_181 0 46 (dk_at dksX4_init_4 13 rfl rfl)
theorem dX4_init_109 : decode cX4_init 109 = .ok (.aload_n 0, 1) := dk_42 (dk_at dksX4_init_4 16 rfl rfl)
theorem dX4_init_110 : decode cX4_init 110 = .ok (.sipush 240, 3) := dk_17 0 240 (dk_at dksX4_init_4 17 rfl rfl)
theorem dX4_init_113 : decode cX4_init 113 = .ok (.newarray .int, 2) := dk_188_10 (dk_at dksX4_init_4 20 rfl rfl)
theorem dX4_init_115 : decode cX4_init 115 = .ok (.putfield 49, 3) := dk_181 0 49 (dk_at dksX4_init_5 0 rfl rfl)
theorem dX4_init_118 : decode cX4_init 118 = .ok (.aload_n 0, 1) := dk_42 (dk_at dksX4_init_5 3 rfl rfl)
theorem dX4_init_119 : decode cX4_init 119 = .ok (.sipush 960, 3) := dk_17 3 192 (dk_at dksX4_init_5 4 rfl rfl)
theorem dX4_init_122 : decode cX4_init 122 = .ok (.newarray .long, 2) := dk_188_11 (dk_at dksX4_init_5 7 rfl rfl)
theorem dX4_init_124 : decode cX4_init 124 = .ok (.putfield 52, 3) := dk_181 0 52 (dk_at dksX4_init_5 9 rfl rfl)
theorem dX4_init_127 : decode cX4_init 127 = .ok (.aload_n 0, 1) := dk_42 (dk_at dksX4_init_5 12 rfl rfl)
theorem dX4_init_128 : decode cX4_init 128 = .ok (.sipush 960, 3) := dk_17 3 192 (dk_at dksX4_init_5 13 rfl rfl)
theorem dX4_init_131 : decode cX4_init 131 = .ok (.newarray .long, 2) := dk_188_11 (dk_at dksX4_init_5 16 rfl rfl)
theorem dX4_init_133 : decode cX4_init 133 = .ok (.putfield 56, 3) := dk_181 0 56 (dk_at dksX4_init_5 18 rfl rfl)
theorem dX4_init_136 : decode cX4_init 136 = .ok (.aload_n 0, 1) := dk_42 (dk_at dksX4_init_5 21 rfl rfl)
theorem dX4_init_137 : decode cX4_init 137 = .ok (.sipush 240, 3) := dk_17 0 240 (dk_at dksX4_init_6 0 rfl rfl)
theorem dX4_init_140 : decode cX4_init 140 = .ok (.newarray .boolean, 2) := dk_188_4 (dk_at dksX4_init_6 3 rfl rfl)
theorem dX4_init_142 : decode cX4_init 142 = .ok (.putfield 59, 3) := dk_181 0 59 (dk_at dksX4_init_6 5 rfl rfl)
theorem dX4_init_145 : decode cX4_init 145 = .ok (.aload_n 0, 1) := dk_42 (dk_at dksX4_init_6 8 rfl rfl)
theorem dX4_init_146 : decode cX4_init 146 = .ok (.sipush 240, 3) := dk_17 0 240 (dk_at dksX4_init_6 9 rfl rfl)
theorem dX4_init_149 : decode cX4_init 149 = .ok (.newarray .int, 2) := dk_188_10 (dk_at dksX4_init_6 12 rfl rfl)
theorem dX4_init_151 : decode cX4_init 151 = .ok (.putfield 63, 3) := dk_181 0 63 (dk_at dksX4_init_6 14 rfl rfl)
theorem dX4_init_154 : decode cX4_init 154 = .ok (.aload_n 0, 1) := dk_42 (dk_at dksX4_init_6 17 rfl rfl)
theorem dX4_init_155 : decode cX4_init 155 = .ok (.sipush 401, 3) := dk_17 1 145 (dk_at dksX4_init_6 18 rfl rfl)
theorem dX4_init_158 : decode cX4_init 158 = .ok (.newarray .int, 2) := dk_188_10 (dk_at dksX4_init_6 21 rfl rfl)
theorem dX4_init_160 : decode cX4_init 160 = .ok (.putfield 66, 3) := dk_181 0 66 (dk_at dksX4_init_7 0 rfl rfl)
theorem dX4_init_163 : decode cX4_init 163 = .ok (.aload_n 0, 1) := dk_42 (dk_at dksX4_init_7 3 rfl rfl)
theorem dX4_init_164 : decode cX4_init 164 = .ok (.bipush 9, 2) := dk_16 9 (dk_at dksX4_init_7 4 rfl rfl)
theorem dX4_init_166 : decode cX4_init 166 = .ok (.newarray .int, 2) := dk_188_10 (dk_at dksX4_init_7 6 rfl rfl)
theorem dX4_init_168 : decode cX4_init 168 = .ok (.putfield 69, 3) := dk_181 0 69 (dk_at dksX4_init_7 8 rfl rfl)
theorem dX4_init_171 : decode cX4_init 171 = .ok (.aload_n 0, 1) := dk_42 (dk_at dksX4_init_7 11 rfl rfl)
theorem dX4_init_172 : decode cX4_init 172 = .ok (.bipush 9, 2) := dk_16 9 (dk_at dksX4_init_7 12 rfl rfl)
theorem dX4_init_174 : decode cX4_init 174 = .ok (.newarray .int, 2) := dk_188_10 (dk_at dksX4_init_7 14 rfl rfl)
theorem dX4_init_176 : decode cX4_init 176 = .ok (.putfield 72, 3) := dk_181 0 72 (dk_at dksX4_init_7 16 rfl rfl)
theorem dX4_init_179 : decode cX4_init 179 = .ok (.aload_n 0, 1) := dk_42 (dk_at dksX4_init_7 19 rfl rfl)
theorem dX4_init_180 : decode cX4_init 180 = .ok (.ldc 75, 2) := dk_18 75 (dk_at dksX4_init_7 20 rfl rfl)
theorem dX4_init_182 : decode cX4_init 182 = .ok (.newarray .boolean, 2) := dk_188_4 (dk_at dksX4_init_7 22 rfl rfl)
theorem dX4_init_184 : decode cX4_init 184 = .ok (.putfield 76, 3) := dk_181 0 76 (dk_at dksX4_init_8 0 rfl rfl)
theorem dX4_init_187 : decode cX4_init 187 = .ok (.aload_n 0, 1) := dk_42 (dk_at dksX4_init_8 3 rfl rfl)
theorem dX4_init_188 : decode cX4_init 188 = .ok (.bipush 9, 2) := dk_16 9 (dk_at dksX4_init_8 4 rfl rfl)
theorem dX4_init_190 : decode cX4_init 190 = .ok (.newarray .int, 2) := dk_188_10 (dk_at dksX4_init_8 6 rfl rfl)
theorem dX4_init_192 : decode cX4_init 192 = .ok (.putfield 79, 3) := dk_181 0 79 (dk_at dksX4_init_8 8 rfl rfl)
theorem dX4_init_195 : decode cX4_init 195 = .ok (.aload_n 0, 1) := dk_42 (dk_at dksX4_init_8 11 rfl rfl)
theorem dX4_init_196 : decode cX4_init 196 = .ok (.iconst 3, 1) := dk_6 (dk_at dksX4_init_8 12 rfl rfl)
theorem dX4_init_197 : decode cX4_init 197 = .ok (.newarray .int, 2) := dk_188_10 (dk_at dksX4_init_8 13 rfl rfl)
theorem dX4_init_199 : decode cX4_init 199 = .ok (.putfield 82, 3) := dk_181 0 82 (dk_at dksX4_init_8 15 rfl rfl)
theorem dX4_init_202 : decode cX4_init 202 = .ok (.aload_n 0, 1) := dk_42 (dk_at dksX4_init_8 18 rfl rfl)
theorem dX4_init_203 : decode cX4_init 203 = .ok (.iconst 3, 1) := dk_6 (dk_at dksX4_init_8 19 rfl rfl)
theorem dX4_init_204 : decode cX4_init 204 = .ok (.newarray .boolean, 2) := dk_188_4 (dk_at dksX4_init_8 20 rfl rfl)
theorem dX4_init_206 : decode cX4_init 206 = .ok (.putfield 85, 3) := dk_181 0 85 (dk_at dksX4_init_9 0 rfl rfl)
theorem dX4_init_209 : decode cX4_init 209 = .ok (.aload_n 0, 1) := dk_42 (dk_at dksX4_init_9 3 rfl rfl)
theorem dX4_init_210 : decode cX4_init 210 = .ok (.sipush 240, 3) := dk_17 0 240 (dk_at dksX4_init_9 4 rfl rfl)
theorem dX4_init_213 : decode cX4_init 213 = .ok (.newarray .boolean, 2) := dk_188_4 (dk_at dksX4_init_9 7 rfl rfl)
theorem dX4_init_215 : decode cX4_init 215 = .ok (.putfield 88, 3) := dk_181 0 88 (dk_at dksX4_init_9 9 rfl rfl)
theorem dX4_init_218 : decode cX4_init 218 = .ok (.aload_n 0, 1) := dk_42 (dk_at dksX4_init_9 12 rfl rfl)
theorem dX4_init_219 : decode cX4_init 219 = .ok (.sipush 160, 3) := dk_17 0 160 (dk_at dksX4_init_9 13 rfl rfl)
theorem dX4_init_222 : decode cX4_init 222 = .ok (.newarray .int, 2) := dk_188_10 (dk_at dksX4_init_9 16 rfl rfl)
theorem dX4_init_224 : decode cX4_init 224 = .ok (.putfield 91, 3) := dk_181 0 91 (dk_at dksX4_init_9 18 rfl rfl)
theorem dX4_init_227 : decode cX4_init 227 = .ok (.aload_n 0, 1) := dk_42 (dk_at dksX4_init_9 21 rfl rfl)
theorem dX4_init_228 : decode cX4_init 228 = .ok (.ldc 94, 2) := dk_18 94 (dk_at dksX4_init_9 22 rfl rfl)
theorem dX4_init_230 : decode cX4_init 230 = .ok (.newarray .int, 2) := dk_188_10 (dk_at dksX4_init_10 0 rfl rfl)
theorem dX4_init_232 : decode cX4_init 232 = .ok (.putfield 95, 3) := dk_181 0 95 (dk_at dksX4_init_10 2 rfl rfl)
theorem dX4_init_235 : decode cX4_init 235 = .ok (.aload_n 0, 1) := dk_42 (dk_at dksX4_init_10 5 rfl rfl)
theorem dX4_init_236 : decode cX4_init 236 = .ok (.sipush 1201, 3) := dk_17 4 177 (dk_at dksX4_init_10 6 rfl rfl)
theorem dX4_init_239 : decode cX4_init 239 = .ok (.newarray .boolean, 2) := dk_188_4 (dk_at dksX4_init_10 9 rfl rfl)
theorem dX4_init_241 : decode cX4_init 241 = .ok (.putfield 98, 3) := dk_181 0 98 (dk_at dksX4_init_10 11 rfl rfl)
theorem dX4_init_244 : decode cX4_init 244 = .ok (.aload_n 0, 1) := dk_42 (dk_at dksX4_init_10 14 rfl rfl)
theorem dX4_init_245 : decode cX4_init 245 = .ok (.getfield 9, 3) := dk_180 0 9 (dk_at dksX4_init_10 15 rfl rfl)
theorem dX4_init_248 : decode cX4_init 248 = .ok (.iconst 0, 1) := dk_3 (dk_at dksX4_init_10 18 rfl rfl)
theorem dX4_init_249 : decode cX4_init 249 = .ok (.iconst 2, 1) := dk_5 (dk_at dksX4_init_10 19 rfl rfl)
theorem dX4_init_250 : decode cX4_init 250 = .ok (.iastore, 1) := dk_79 (dk_at dksX4_init_10 20 rfl rfl)
theorem dX4_init_251 : decode cX4_init 251 = .ok (.aload_n 0, 1) := dk_42 (dk_at dksX4_init_10 21 rfl rfl)
theorem dX4_init_252 : decode cX4_init 252 = .ok (.getfield 9, 3) := dk_180 0 9 (dk_at dksX4_init_11 0 rfl rfl)
theorem dX4_init_255 : decode cX4_init 255 = .ok (.iconst 1, 1) := dk_4 (dk_at dksX4_init_11 3 rfl rfl)
theorem dX4_init_256 : decode cX4_init 256 = .ok (.iconst 2, 1) := dk_5 (dk_at dksX4_init_11 4 rfl rfl)
theorem dX4_init_257 : decode cX4_init 257 = .ok (.iastore, 1) := dk_79 (dk_at dksX4_init_11 5 rfl rfl)
theorem dX4_init_258 : decode cX4_init 258 = .ok (.aload_n 0, 1) := dk_42 (dk_at dksX4_init_11 6 rfl rfl)
theorem dX4_init_259 : decode cX4_init 259 = .ok (.getfield 9, 3) := dk_180 0 9 (dk_at dksX4_init_11 7 rfl rfl)
theorem dX4_init_262 : decode cX4_init 262 = .ok (.iconst 2, 1) := dk_5 (dk_at dksX4_init_11 10 rfl rfl)
theorem dX4_init_263 : decode cX4_init 263 = .ok (.iconst 1, 1) := dk_4 (dk_at dksX4_init_11 11 rfl rfl)
theorem dX4_init_264 : decode cX4_init 264 = .ok (.iastore, 1) := dk_79 (dk_at dksX4_init_11 12 rfl rfl)
theorem dX4_init_265 : decode cX4_init 265 = .ok (.iconst 0, 1) := dk_3 (dk_at dksX4_init_11 13 rfl rfl)
theorem dX4_init_266 : decode cX4_init 266 = .ok (.istore_n 1, 1) := dk_60 (dk_at dksX4_init_11 14 rfl rfl)
theorem dX4_init_267 : decode cX4_init 267 = .ok (.iload_n 1, 1) := dk_27 (dk_at dksX4_init_11 15 rfl rfl)
theorem dX4_init_268 : decode cX4_init 268 = .ok (.iconst 4, 1) := dk_7 (dk_at dksX4_init_11 16 rfl rfl)
theorem dX4_init_269 : decode cX4_init 269 = .ok (.if_icmp .ge 14, 3) := dk_162 0 14 (dk_at dksX4_init_11 17 rfl rfl)
theorem dX4_init_272 : decode cX4_init 272 = .ok (.aload_n 0, 1) := dk_42 (dk_at dksX4_init_11 20 rfl rfl)
theorem dX4_init_273 : decode cX4_init 273 = .ok (.iload_n 1, 1) := dk_27 (dk_at dksX4_init_11 21 rfl rfl)
theorem dX4_init_274 : decode cX4_init 274 = .ok (.invokevirtual 101, 3) := dk_182 0 101 (dk_at dksX4_init_12 0 rfl rfl)
theorem dX4_init_277 : decode cX4_init 277 = .ok (.iinc 1 1, 3) := dk_132 1 1 (dk_at dksX4_init_12 3 rfl rfl)
theorem dX4_init_280 : decode cX4_init 280 = .ok (.goto (-13), 3) := dk_167 255 243 (dk_at dksX4_init_12 6 rfl rfl)
theorem dX4_init_283 : decode cX4_init 283 = .ok (.return_, 1) := dk_177 (dk_at dksX4_init_12 9 rfl rfl)
abbrev cX4_setToZ : ByteArray := prog_10_method_2_code
def yX4_setToZ : MethodName := ⟨RX4, "setToZ", "(I)V"⟩
def dkwX4_setToZ_0 : List UInt8 := [42, 180, 0, 22, 16, 96, 27, 104, 4, 79, 42, 180, 0, 22, 16, 96, 27, 104, 4, 96, 16, 122, 79, 177]
abbrev dktX4_setToZ_0 : List UInt8 := dkwX4_setToZ_0 ++ []
theorem dksX4_setToZ_0 : cX4_setToZ.data.toList.drop 0 = dktX4_setToZ_0 := by decide +kernel
theorem dX4_setToZ_0 : decode cX4_setToZ 0 = .ok (.aload_n 0, 1) := dk_42 (dk_at dksX4_setToZ_0 0 rfl rfl)
theorem dX4_setToZ_1 : decode cX4_setToZ 1 = .ok (.getfield 22, 3) := dk_180 0 22 (dk_at dksX4_setToZ_0 1 rfl rfl)
theorem dX4_setToZ_4 : decode cX4_setToZ 4 = .ok (.bipush 96, 2) := dk_16 96 (dk_at dksX4_setToZ_0 4 rfl rfl)
theorem dX4_setToZ_6 : decode cX4_setToZ 6 = .ok (.iload_n 1, 1) := dk_27 (dk_at dksX4_setToZ_0 6 rfl rfl)
theorem dX4_setToZ_7 : decode cX4_setToZ 7 = .ok (.imul, 1) := dk_104 (dk_at dksX4_setToZ_0 7 rfl rfl)
theorem dX4_setToZ_8 : decode cX4_setToZ 8 = .ok (.iconst 1, 1) := dk_4 (dk_at dksX4_setToZ_0 8 rfl rfl)
theorem dX4_setToZ_9 : decode cX4_setToZ 9 = .ok (.iastore, 1) := dk_79 (dk_at dksX4_setToZ_0 9 rfl rfl)
theorem dX4_setToZ_10 : decode cX4_setToZ 10 = .ok (.aload_n 0, 1) := dk_42 (dk_at dksX4_setToZ_0 10 rfl rfl)
theorem dX4_setToZ_11 : decode cX4_setToZ 11 = .ok (.getfield 22, 3) := dk_180 0 22 (dk_at dksX4_setToZ_0 11 rfl rfl)
theorem dX4_setToZ_14 : decode cX4_setToZ 14 = .ok (.bipush 96, 2) := dk_16 96 (dk_at dksX4_setToZ_0 14 rfl rfl)
theorem dX4_setToZ_16 : decode cX4_setToZ 16 = .ok (.iload_n 1, 1) := dk_27 (dk_at dksX4_setToZ_0 16 rfl rfl)
theorem dX4_setToZ_17 : decode cX4_setToZ 17 = .ok (.imul, 1) := dk_104 (dk_at dksX4_setToZ_0 17 rfl rfl)
theorem dX4_setToZ_18 : decode cX4_setToZ 18 = .ok (.iconst 1, 1) := dk_4 (dk_at dksX4_setToZ_0 18 rfl rfl)
theorem dX4_setToZ_19 : decode cX4_setToZ 19 = .ok (.iadd, 1) := dk_96 (dk_at dksX4_setToZ_0 19 rfl rfl)
theorem dX4_setToZ_20 : decode cX4_setToZ 20 = .ok (.bipush 122, 2) := dk_16 122 (dk_at dksX4_setToZ_0 20 rfl rfl)
theorem dX4_setToZ_22 : decode cX4_setToZ 22 = .ok (.iastore, 1) := dk_79 (dk_at dksX4_setToZ_0 22 rfl rfl)
theorem dX4_setToZ_23 : decode cX4_setToZ 23 = .ok (.return_, 1) := dk_177 (dk_at dksX4_setToZ_0 23 rfl rfl)
abbrev cX4_setArity : ByteArray := prog_10_method_21_code
def yX4_setArity : MethodName := ⟨RX4, "setArity", "(II)I"⟩
def dkwX4_setArity_5 : List UInt8 := [21, 4, 182, 0, 101, 132, 4, 1, 167, 255, 179, 29, 172]
abbrev dktX4_setArity_5 : List UInt8 := dkwX4_setArity_5 ++ []
def dkwX4_setArity_4 : List UInt8 := [160, 0, 7, 4, 167, 0, 4, 3, 128, 54, 5, 132, 6, 1, 167, 255, 208, 21, 5, 153, 0, 9, 42]
abbrev dktX4_setArity_4 : List UInt8 := dkwX4_setArity_4 ++ dktX4_setArity_5
def dkwX4_setArity_3 : List UInt8 := [104, 46, 163, 0, 39, 21, 5, 42, 180, 0, 22, 16, 96, 21, 4, 104, 21, 6, 96, 46, 16, 102, 27, 96]
abbrev dktX4_setArity_3 : List UInt8 := dkwX4_setArity_3 ++ dktX4_setArity_4
def dkwX4_setArity_2 : List UInt8 := [54, 4, 21, 4, 7, 162, 0, 77, 3, 54, 5, 4, 54, 6, 21, 6, 42, 180, 0, 22, 16, 96, 21, 4]
abbrev dktX4_setArity_2 : List UInt8 := dkwX4_setArity_2 ++ dktX4_setArity_3
def dkwX4_setArity_1 : List UInt8 := [180, 0, 121, 158, 0, 6, 16, 253, 172, 42, 180, 0, 9, 27, 46, 62, 42, 180, 0, 9, 27, 28, 79, 3]
abbrev dktX4_setArity_1 : List UInt8 := dkwX4_setArity_1 ++ dktX4_setArity_2
def dkwX4_setArity_0 : List UInt8 := [27, 3, 5, 184, 0, 105, 154, 0, 5, 2, 172, 28, 4, 6, 184, 0, 105, 154, 0, 6, 16, 254, 172, 42]
abbrev dktX4_setArity_0 : List UInt8 := dkwX4_setArity_0 ++ dktX4_setArity_1
theorem dksX4_setArity_0 : cX4_setArity.data.toList.drop 0 = dktX4_setArity_0 := by decide +kernel
theorem dksX4_setArity_1 : cX4_setArity.data.toList.drop 24 = dktX4_setArity_1 := dk_seg dksX4_setArity_0 24 rfl rfl
theorem dksX4_setArity_2 : cX4_setArity.data.toList.drop 48 = dktX4_setArity_2 := dk_seg dksX4_setArity_1 24 rfl rfl
theorem dksX4_setArity_3 : cX4_setArity.data.toList.drop 72 = dktX4_setArity_3 := dk_seg dksX4_setArity_2 24 rfl rfl
theorem dksX4_setArity_4 : cX4_setArity.data.toList.drop 96 = dktX4_setArity_4 := dk_seg dksX4_setArity_3 24 rfl rfl
theorem dksX4_setArity_5 : cX4_setArity.data.toList.drop 119 = dktX4_setArity_5 := dk_seg dksX4_setArity_4 23 rfl rfl
theorem dX4_setArity_0 : decode cX4_setArity 0 = .ok (.iload_n 1, 1) := dk_27 (dk_at dksX4_setArity_0 0 rfl rfl)
theorem dX4_setArity_1 : decode cX4_setArity 1 = .ok (.iconst 0, 1) := dk_3 (dk_at dksX4_setArity_0 1 rfl rfl)
theorem dX4_setArity_2 : decode cX4_setArity 2 = .ok (.iconst 2, 1) := dk_5 (dk_at dksX4_setArity_0 2 rfl rfl)
theorem dX4_setArity_3 : decode cX4_setArity 3 = .ok (.invokestatic 105, 3) := dk_184 0 105 (dk_at dksX4_setArity_0 3 rfl rfl)
theorem dX4_setArity_6 : decode cX4_setArity 6 = .ok (.ifCond .ne 5, 3) := dk_154 0 5 (dk_at dksX4_setArity_0 6 rfl rfl)
theorem dX4_setArity_9 : decode cX4_setArity 9 = .ok (.iconst (-1), 1) := dk_2 (dk_at dksX4_setArity_0 9 rfl rfl)
theorem dX4_setArity_10 : decode cX4_setArity 10 = .ok (.ireturn, 1) := dk_172 (dk_at dksX4_setArity_0 10 rfl rfl)
theorem dX4_setArity_11 : decode cX4_setArity 11 = .ok (.iload_n 2, 1) := dk_28 (dk_at dksX4_setArity_0 11 rfl rfl)
theorem dX4_setArity_12 : decode cX4_setArity 12 = .ok (.iconst 1, 1) := dk_4 (dk_at dksX4_setArity_0 12 rfl rfl)
theorem dX4_setArity_13 : decode cX4_setArity 13 = .ok (.iconst 3, 1) := dk_6 (dk_at dksX4_setArity_0 13 rfl rfl)
theorem dX4_setArity_14 : decode cX4_setArity 14 = .ok (.invokestatic 105, 3) := dk_184 0 105 (dk_at dksX4_setArity_0 14 rfl rfl)
theorem dX4_setArity_17 : decode cX4_setArity 17 = .ok (.ifCond .ne 6, 3) := dk_154 0 6 (dk_at dksX4_setArity_0 17 rfl rfl)
theorem dX4_setArity_20 : decode cX4_setArity 20 = .ok (.bipush (-2), 2) := dk_16 254 (dk_at dksX4_setArity_0 20 rfl rfl)
theorem dX4_setArity_22 : decode cX4_setArity 22 = .ok (.ireturn, 1) := dk_172 (dk_at dksX4_setArity_0 22 rfl rfl)
theorem dX4_setArity_23 : decode cX4_setArity 23 = .ok (.aload_n 0, 1) := dk_42 (dk_at dksX4_setArity_0 23 rfl rfl)
theorem dX4_setArity_24 : decode cX4_setArity 24 = .ok (.getfield 121, 3) := dk_180 0 121 (dk_at dksX4_setArity_1 0 rfl rfl)
theorem dX4_setArity_27 : decode cX4_setArity 27 = .ok (.ifCond .le 6, 3) := dk_158 0 6 (dk_at dksX4_setArity_1 3 rfl rfl)
theorem dX4_setArity_30 : decode cX4_setArity 30 = .ok (.bipush (-3), 2) := dk_16 253 (dk_at dksX4_setArity_1 6 rfl rfl)
theorem dX4_setArity_32 : decode cX4_setArity 32 = .ok (.ireturn, 1) := dk_172 (dk_at dksX4_setArity_1 8 rfl rfl)
theorem dX4_setArity_33 : decode cX4_setArity 33 = .ok (.aload_n 0, 1) := dk_42 (dk_at dksX4_setArity_1 9 rfl rfl)
theorem dX4_setArity_34 : decode cX4_setArity 34 = .ok (.getfield 9, 3) := dk_180 0 9 (dk_at dksX4_setArity_1 10 rfl rfl)
theorem dX4_setArity_37 : decode cX4_setArity 37 = .ok (.iload_n 1, 1) := dk_27 (dk_at dksX4_setArity_1 13 rfl rfl)
theorem dX4_setArity_38 : decode cX4_setArity 38 = .ok (.iaload, 1) := dk_46 (dk_at dksX4_setArity_1 14 rfl rfl)
theorem dX4_setArity_39 : decode cX4_setArity 39 = .ok (.istore_n 3, 1) := dk_62 (dk_at dksX4_setArity_1 15 rfl rfl)
theorem dX4_setArity_40 : decode cX4_setArity 40 = .ok (.aload_n 0, 1) := dk_42 (dk_at dksX4_setArity_1 16 rfl rfl)
theorem dX4_setArity_41 : decode cX4_setArity 41 = .ok (.getfield 9, 3) := dk_180 0 9 (dk_at dksX4_setArity_1 17 rfl rfl)
theorem dX4_setArity_44 : decode cX4_setArity 44 = .ok (.iload_n 1, 1) := dk_27 (dk_at dksX4_setArity_1 20 rfl rfl)
theorem dX4_setArity_45 : decode cX4_setArity 45 = .ok (.iload_n 2, 1) := dk_28 (dk_at dksX4_setArity_1 21 rfl rfl)
theorem dX4_setArity_46 : decode cX4_setArity 46 = .ok (.iastore, 1) := dk_79 (dk_at dksX4_setArity_1 22 rfl rfl)
theorem dX4_setArity_47 : decode cX4_setArity 47 = .ok (.iconst 0, 1) := dk_3 (dk_at dksX4_setArity_1 23 rfl rfl)
theorem dX4_setArity_48 : decode cX4_setArity 48 = .ok (.istore 4, 2) := dk_54 4 (dk_at dksX4_setArity_2 0 rfl rfl)
theorem dX4_setArity_50 : decode cX4_setArity 50 = .ok (.iload 4, 2) := dk_21 4 (dk_at dksX4_setArity_2 2 rfl rfl)
theorem dX4_setArity_52 : decode cX4_setArity 52 = .ok (.iconst 4, 1) := dk_7 (dk_at dksX4_setArity_2 4 rfl rfl)
theorem dX4_setArity_53 : decode cX4_setArity 53 = .ok (.if_icmp .ge 77, 3) := dk_162 0 77 (dk_at dksX4_setArity_2 5 rfl rfl)
theorem dX4_setArity_56 : decode cX4_setArity 56 = .ok (.iconst 0, 1) := dk_3 (dk_at dksX4_setArity_2 8 rfl rfl)
theorem dX4_setArity_57 : decode cX4_setArity 57 = .ok (.istore 5, 2) := dk_54 5 (dk_at dksX4_setArity_2 9 rfl rfl)
theorem dX4_setArity_59 : decode cX4_setArity 59 = .ok (.iconst 1, 1) := dk_4 (dk_at dksX4_setArity_2 11 rfl rfl)
theorem dX4_setArity_60 : decode cX4_setArity 60 = .ok (.istore 6, 2) := dk_54 6 (dk_at dksX4_setArity_2 12 rfl rfl)
theorem dX4_setArity_62 : decode cX4_setArity 62 = .ok (.iload 6, 2) := dk_21 6 (dk_at dksX4_setArity_2 14 rfl rfl)
theorem dX4_setArity_64 : decode cX4_setArity 64 = .ok (.aload_n 0, 1) := dk_42 (dk_at dksX4_setArity_2 16 rfl rfl)
theorem dX4_setArity_65 : decode cX4_setArity 65 = .ok (.getfield 22, 3) := dk_180 0 22 (dk_at dksX4_setArity_2 17 rfl rfl)
theorem dX4_setArity_68 : decode cX4_setArity 68 = .ok (.bipush 96, 2) := dk_16 96 (dk_at dksX4_setArity_2 20 rfl rfl)
theorem dX4_setArity_70 : decode cX4_setArity 70 = .ok (.iload 4, 2) := dk_21 4 (dk_at dksX4_setArity_2 22 rfl rfl)
theorem dX4_setArity_72 : decode cX4_setArity 72 = .ok (.imul, 1) := dk_104 (dk_at dksX4_setArity_3 0 rfl rfl)
theorem dX4_setArity_73 : decode cX4_setArity 73 = .ok (.iaload, 1) := dk_46 (dk_at dksX4_setArity_3 1 rfl rfl)
theorem dX4_setArity_74 : decode cX4_setArity 74 = .ok (.if_icmp .gt 39, 3) := dk_163 0 39 (dk_at dksX4_setArity_3 2 rfl rfl)
theorem dX4_setArity_77 : decode cX4_setArity 77 = .ok (.iload 5, 2) := dk_21 5 (dk_at dksX4_setArity_3 5 rfl rfl)
theorem dX4_setArity_79 : decode cX4_setArity 79 = .ok (.aload_n 0, 1) := dk_42 (dk_at dksX4_setArity_3 7 rfl rfl)
theorem dX4_setArity_80 : decode cX4_setArity 80 = .ok (.getfield 22, 3) := dk_180 0 22 (dk_at dksX4_setArity_3 8 rfl rfl)
theorem dX4_setArity_83 : decode cX4_setArity 83 = .ok (.bipush 96, 2) := dk_16 96 (dk_at dksX4_setArity_3 11 rfl rfl)
theorem dX4_setArity_85 : decode cX4_setArity 85 = .ok (.iload 4, 2) := dk_21 4 (dk_at dksX4_setArity_3 13 rfl rfl)
theorem dX4_setArity_87 : decode cX4_setArity 87 = .ok (.imul, 1) := dk_104 (dk_at dksX4_setArity_3 15 rfl rfl)
theorem dX4_setArity_88 : decode cX4_setArity 88 = .ok (.iload 6, 2) := dk_21 6 (dk_at dksX4_setArity_3 16 rfl rfl)
theorem dX4_setArity_90 : decode cX4_setArity 90 = .ok (.iadd, 1) := dk_96 (dk_at dksX4_setArity_3 18 rfl rfl)
theorem dX4_setArity_91 : decode cX4_setArity 91 = .ok (.iaload, 1) := dk_46 (dk_at dksX4_setArity_3 19 rfl rfl)
theorem dX4_setArity_92 : decode cX4_setArity 92 = .ok (.bipush 102, 2) := dk_16 102 (dk_at dksX4_setArity_3 20 rfl rfl)
theorem dX4_setArity_94 : decode cX4_setArity 94 = .ok (.iload_n 1, 1) := dk_27 (dk_at dksX4_setArity_3 22 rfl rfl)
theorem dX4_setArity_95 : decode cX4_setArity 95 = .ok (.iadd, 1) := dk_96 (dk_at dksX4_setArity_3 23 rfl rfl)
theorem dX4_setArity_96 : decode cX4_setArity 96 = .ok (.if_icmp .ne 7, 3) := dk_160 0 7 (dk_at dksX4_setArity_4 0 rfl rfl)
theorem dX4_setArity_99 : decode cX4_setArity 99 = .ok (.iconst 1, 1) := dk_4 (dk_at dksX4_setArity_4 3 rfl rfl)
theorem dX4_setArity_100 : decode cX4_setArity 100 = .ok (.goto 4, 3) := dk_167 0 4 (dk_at dksX4_setArity_4 4 rfl rfl)
theorem dX4_setArity_103 : decode cX4_setArity 103 = .ok (.iconst 0, 1) := dk_3 (dk_at dksX4_setArity_4 7 rfl rfl)
theorem dX4_setArity_104 : decode cX4_setArity 104 = .ok (.ior, 1) := dk_128 (dk_at dksX4_setArity_4 8 rfl rfl)
theorem dX4_setArity_105 : decode cX4_setArity 105 = .ok (.istore 5, 2) := dk_54 5 (dk_at dksX4_setArity_4 9 rfl rfl)
theorem dX4_setArity_107 : decode cX4_setArity 107 = .ok (.iinc 6 1, 3) := dk_132 6 1 (dk_at dksX4_setArity_4 11 rfl rfl)
theorem dX4_setArity_110 : decode cX4_setArity 110 = .ok (.goto (-48), 3) := dk_167 255 208 (dk_at dksX4_setArity_4 14 rfl rfl)
theorem dX4_setArity_113 : decode cX4_setArity 113 = .ok (.iload 5, 2) := dk_21 5 (dk_at dksX4_setArity_4 17 rfl rfl)
theorem dX4_setArity_115 : decode cX4_setArity 115 = .ok (.ifCond .eq 9, 3) := dk_153 0 9 (dk_at dksX4_setArity_4 19 rfl rfl)
theorem dX4_setArity_118 : decode cX4_setArity 118 = .ok (.aload_n 0, 1) := dk_42 (dk_at dksX4_setArity_4 22 rfl rfl)
theorem dX4_setArity_119 : decode cX4_setArity 119 = .ok (.iload 4, 2) := dk_21 4 (dk_at dksX4_setArity_5 0 rfl rfl)
theorem dX4_setArity_121 : decode cX4_setArity 121 = .ok (.invokevirtual 101, 3) := dk_182 0 101 (dk_at dksX4_setArity_5 2 rfl rfl)
theorem dX4_setArity_124 : decode cX4_setArity 124 = .ok (.iinc 4 1, 3) := dk_132 4 1 (dk_at dksX4_setArity_5 5 rfl rfl)
theorem dX4_setArity_127 : decode cX4_setArity 127 = .ok (.goto (-77), 3) := dk_167 255 179 (dk_at dksX4_setArity_5 8 rfl rfl)
theorem dX4_setArity_130 : decode cX4_setArity 130 = .ok (.iload_n 3, 1) := dk_29 (dk_at dksX4_setArity_5 11 rfl rfl)
theorem dX4_setArity_131 : decode cX4_setArity 131 = .ok (.ireturn, 1) := dk_172 (dk_at dksX4_setArity_5 12 rfl rfl)
abbrev cX4_isIn : ByteArray := prog_10_method_3_code
def yX4_isIn : MethodName := ⟨RX4, "isIn", "(III)Z"⟩
def dkwX4_isIn_0 : List UInt8 := [26, 27, 161, 0, 12, 26, 28, 163, 0, 7, 4, 167, 0, 4, 3, 172]
abbrev dktX4_isIn_0 : List UInt8 := dkwX4_isIn_0 ++ []
theorem dksX4_isIn_0 : cX4_isIn.data.toList.drop 0 = dktX4_isIn_0 := by decide +kernel
theorem dX4_isIn_0 : decode cX4_isIn 0 = .ok (.iload_n 0, 1) := dk_26 (dk_at dksX4_isIn_0 0 rfl rfl)
theorem dX4_isIn_1 : decode cX4_isIn 1 = .ok (.iload_n 1, 1) := dk_27 (dk_at dksX4_isIn_0 1 rfl rfl)
theorem dX4_isIn_2 : decode cX4_isIn 2 = .ok (.if_icmp .lt 12, 3) := dk_161 0 12 (dk_at dksX4_isIn_0 2 rfl rfl)
theorem dX4_isIn_5 : decode cX4_isIn 5 = .ok (.iload_n 0, 1) := dk_26 (dk_at dksX4_isIn_0 5 rfl rfl)
theorem dX4_isIn_6 : decode cX4_isIn 6 = .ok (.iload_n 2, 1) := dk_28 (dk_at dksX4_isIn_0 6 rfl rfl)
theorem dX4_isIn_7 : decode cX4_isIn 7 = .ok (.if_icmp .gt 7, 3) := dk_163 0 7 (dk_at dksX4_isIn_0 7 rfl rfl)
theorem dX4_isIn_10 : decode cX4_isIn 10 = .ok (.iconst 1, 1) := dk_4 (dk_at dksX4_isIn_0 10 rfl rfl)
theorem dX4_isIn_11 : decode cX4_isIn 11 = .ok (.goto 4, 3) := dk_167 0 4 (dk_at dksX4_isIn_0 11 rfl rfl)
theorem dX4_isIn_14 : decode cX4_isIn 14 = .ok (.iconst 0, 1) := dk_3 (dk_at dksX4_isIn_0 14 rfl rfl)
theorem dX4_isIn_15 : decode cX4_isIn 15 = .ok (.ireturn, 1) := dk_172 (dk_at dksX4_isIn_0 15 rfl rfl)
abbrev cX4_arity : ByteArray := prog_10_method_22_code
def yX4_arity : MethodName := ⟨RX4, "arity", "(I)I"⟩
def dkwX4_arity_0 : List UInt8 := [27, 3, 5, 184, 0, 105, 153, 0, 12, 42, 180, 0, 9, 27, 46, 167, 0, 4, 2, 172]
abbrev dktX4_arity_0 : List UInt8 := dkwX4_arity_0 ++ []
theorem dksX4_arity_0 : cX4_arity.data.toList.drop 0 = dktX4_arity_0 := by decide +kernel
theorem dX4_arity_0 : decode cX4_arity 0 = .ok (.iload_n 1, 1) := dk_27 (dk_at dksX4_arity_0 0 rfl rfl)
theorem dX4_arity_1 : decode cX4_arity 1 = .ok (.iconst 0, 1) := dk_3 (dk_at dksX4_arity_0 1 rfl rfl)
theorem dX4_arity_2 : decode cX4_arity 2 = .ok (.iconst 2, 1) := dk_5 (dk_at dksX4_arity_0 2 rfl rfl)
theorem dX4_arity_3 : decode cX4_arity 3 = .ok (.invokestatic 105, 3) := dk_184 0 105 (dk_at dksX4_arity_0 3 rfl rfl)
theorem dX4_arity_6 : decode cX4_arity 6 = .ok (.ifCond .eq 12, 3) := dk_153 0 12 (dk_at dksX4_arity_0 6 rfl rfl)
theorem dX4_arity_9 : decode cX4_arity 9 = .ok (.aload_n 0, 1) := dk_42 (dk_at dksX4_arity_0 9 rfl rfl)
theorem dX4_arity_10 : decode cX4_arity 10 = .ok (.getfield 9, 3) := dk_180 0 9 (dk_at dksX4_arity_0 10 rfl rfl)
theorem dX4_arity_13 : decode cX4_arity 13 = .ok (.iload_n 1, 1) := dk_27 (dk_at dksX4_arity_0 13 rfl rfl)
theorem dX4_arity_14 : decode cX4_arity 14 = .ok (.iaload, 1) := dk_46 (dk_at dksX4_arity_0 14 rfl rfl)
theorem dX4_arity_15 : decode cX4_arity 15 = .ok (.goto 4, 3) := dk_167 0 4 (dk_at dksX4_arity_0 15 rfl rfl)
theorem dX4_arity_18 : decode cX4_arity 18 = .ok (.iconst (-1), 1) := dk_2 (dk_at dksX4_arity_0 18 rfl rfl)
theorem dX4_arity_19 : decode cX4_arity 19 = .ok (.ireturn, 1) := dk_172 (dk_at dksX4_arity_0 19 rfl rfl)
abbrev cX4_addRule : ByteArray := prog_10_method_28_code
def yX4_addRule : MethodName := ⟨RX4, "addRule", "()I"⟩
def dkwX4_addRule_7 : List UInt8 := [42, 89, 180, 0, 121, 4, 96, 181, 0, 121, 42, 180, 0, 121, 4, 100, 172]
abbrev dktX4_addRule_7 : List UInt8 := dkwX4_addRule_7 ++ []
def dkwX4_addRule_6 : List UInt8 := [184, 0, 169, 42, 180, 0, 40, 3, 42, 180, 0, 16, 42, 180, 0, 121, 184, 0, 145, 16, 96, 184, 0, 169]
abbrev dktX4_addRule_6 : List UInt8 := dkwX4_addRule_6 ++ dktX4_addRule_7
def dkwX4_addRule_5 : List UInt8 := [154, 0, 6, 16, 250, 172, 42, 180, 0, 43, 3, 42, 180, 0, 16, 42, 180, 0, 121, 184, 0, 125, 16, 96]
abbrev dktX4_addRule_5 : List UInt8 := dkwX4_addRule_5 ++ dktX4_addRule_6
def dkwX4_addRule_4 : List UInt8 := [60, 42, 3, 181, 0, 151, 27, 154, 0, 11, 16, 156, 42, 180, 0, 148, 100, 172, 42, 182, 0, 173]
abbrev dktX4_addRule_4 : List UInt8 := dkwX4_addRule_4 ++ dktX4_addRule_5
def dkwX4_addRule_3 : List UInt8 := [79, 42, 182, 0, 161, 153, 0, 18, 42, 180, 0, 148, 42, 180, 0, 151, 160, 0, 7, 4, 167, 0, 4, 3]
abbrev dktX4_addRule_3 : List UInt8 := dkwX4_addRule_3 ++ dktX4_addRule_4
def dkwX4_addRule_2 : List UInt8 := [153, 0, 49, 42, 180, 0, 40, 3, 42, 180, 0, 43, 3, 16, 96, 184, 0, 169, 42, 180, 0, 40, 3, 3]
abbrev dktX4_addRule_2 : List UInt8 := dkwX4_addRule_2 ++ dktX4_addRule_3
def dkwX4_addRule_1 : List UInt8 := [42, 182, 0, 161, 153, 0, 16, 42, 16, 62, 182, 0, 158, 153, 0, 7, 4, 167, 0, 4, 3, 60, 27]
abbrev dktX4_addRule_1 : List UInt8 := dkwX4_addRule_1 ++ dktX4_addRule_2
def dkwX4_addRule_0 : List UInt8 := [42, 180, 0, 121, 16, 6, 160, 0, 6, 16, 252, 172, 42, 3, 181, 0, 148, 42, 180, 0, 40, 3, 3, 79]
abbrev dktX4_addRule_0 : List UInt8 := dkwX4_addRule_0 ++ dktX4_addRule_1
theorem dksX4_addRule_0 : cX4_addRule.data.toList.drop 0 = dktX4_addRule_0 := by decide +kernel
theorem dksX4_addRule_1 : cX4_addRule.data.toList.drop 24 = dktX4_addRule_1 := dk_seg dksX4_addRule_0 24 rfl rfl
theorem dksX4_addRule_2 : cX4_addRule.data.toList.drop 47 = dktX4_addRule_2 := dk_seg dksX4_addRule_1 23 rfl rfl
theorem dksX4_addRule_3 : cX4_addRule.data.toList.drop 71 = dktX4_addRule_3 := dk_seg dksX4_addRule_2 24 rfl rfl
theorem dksX4_addRule_4 : cX4_addRule.data.toList.drop 95 = dktX4_addRule_4 := dk_seg dksX4_addRule_3 24 rfl rfl
theorem dksX4_addRule_5 : cX4_addRule.data.toList.drop 117 = dktX4_addRule_5 := dk_seg dksX4_addRule_4 22 rfl rfl
theorem dksX4_addRule_6 : cX4_addRule.data.toList.drop 141 = dktX4_addRule_6 := dk_seg dksX4_addRule_5 24 rfl rfl
theorem dksX4_addRule_7 : cX4_addRule.data.toList.drop 165 = dktX4_addRule_7 := dk_seg dksX4_addRule_6 24 rfl rfl
theorem dX4_addRule_0 : decode cX4_addRule 0 = .ok (.aload_n 0, 1) := dk_42 (dk_at dksX4_addRule_0 0 rfl rfl)
theorem dX4_addRule_1 : decode cX4_addRule 1 = .ok (.getfield 121, 3) := dk_180 0 121 (dk_at dksX4_addRule_0 1 rfl rfl)
theorem dX4_addRule_4 : decode cX4_addRule 4 = .ok (.bipush 6, 2) := dk_16 6 (dk_at dksX4_addRule_0 4 rfl rfl)
theorem dX4_addRule_6 : decode cX4_addRule 6 = .ok (.if_icmp .ne 6, 3) := dk_160 0 6 (dk_at dksX4_addRule_0 6 rfl rfl)
theorem dX4_addRule_9 : decode cX4_addRule 9 = .ok (.bipush (-4), 2) := dk_16 252 (dk_at dksX4_addRule_0 9 rfl rfl)
theorem dX4_addRule_11 : decode cX4_addRule 11 = .ok (.ireturn, 1) := dk_172 (dk_at dksX4_addRule_0 11 rfl rfl)
theorem dX4_addRule_12 : decode cX4_addRule 12 = .ok (.aload_n 0, 1) := dk_42 (dk_at dksX4_addRule_0 12 rfl rfl)
theorem dX4_addRule_13 : decode cX4_addRule 13 = .ok (.iconst 0, 1) := dk_3 (dk_at dksX4_addRule_0 13 rfl rfl)
theorem dX4_addRule_14 : decode cX4_addRule 14 = .ok (.putfield 148, 3) := dk_181 0 148 (dk_at dksX4_addRule_0 14 rfl rfl)
theorem dX4_addRule_17 : decode cX4_addRule 17 = .ok (.aload_n 0, 1) := dk_42 (dk_at dksX4_addRule_0 17 rfl rfl)
theorem dX4_addRule_18 : decode cX4_addRule 18 = .ok (.getfield 40, 3) := dk_180 0 40 (dk_at dksX4_addRule_0 18 rfl rfl)
theorem dX4_addRule_21 : decode cX4_addRule 21 = .ok (.iconst 0, 1) := dk_3 (dk_at dksX4_addRule_0 21 rfl rfl)
theorem dX4_addRule_22 : decode cX4_addRule 22 = .ok (.iconst 0, 1) := dk_3 (dk_at dksX4_addRule_0 22 rfl rfl)
theorem dX4_addRule_23 : decode cX4_addRule 23 = .ok (.iastore, 1) := dk_79 (dk_at dksX4_addRule_0 23 rfl rfl)
theorem dX4_addRule_24 : decode cX4_addRule 24 = .ok (.aload_n 0, 1) := dk_42 (dk_at dksX4_addRule_1 0 rfl rfl)
theorem dX4_addRule_25 : decode cX4_addRule 25 = .ok (.invokevirtual 161, 3) := dk_182 0 161 (dk_at dksX4_addRule_1 1 rfl rfl)
theorem dX4_addRule_28 : decode cX4_addRule 28 = .ok (.ifCond .eq 16, 3) := dk_153 0 16 (dk_at dksX4_addRule_1 4 rfl rfl)
theorem dX4_addRule_31 : decode cX4_addRule 31 = .ok (.aload_n 0, 1) := dk_42 (dk_at dksX4_addRule_1 7 rfl rfl)
theorem dX4_addRule_32 : decode cX4_addRule 32 = .ok (.bipush 62, 2) := dk_16 62 (dk_at dksX4_addRule_1 8 rfl rfl)
theorem dX4_addRule_34 : decode cX4_addRule 34 = .ok (.invokevirtual 158, 3) := dk_182 0 158 (dk_at dksX4_addRule_1 10 rfl rfl)
theorem dX4_addRule_37 : decode cX4_addRule 37 = .ok (.ifCond .eq 7, 3) := dk_153 0 7 (dk_at dksX4_addRule_1 13 rfl rfl)
theorem dX4_addRule_40 : decode cX4_addRule 40 = .ok (.iconst 1, 1) := dk_4 (dk_at dksX4_addRule_1 16 rfl rfl)
theorem dX4_addRule_41 : decode cX4_addRule 41 = .ok (.goto 4, 3) := dk_167 0 4 (dk_at dksX4_addRule_1 17 rfl rfl)
theorem dX4_addRule_44 : decode cX4_addRule 44 = .ok (.iconst 0, 1) := dk_3 (dk_at dksX4_addRule_1 20 rfl rfl)
theorem dX4_addRule_45 : decode cX4_addRule 45 = .ok (.istore_n 1, 1) := dk_60 (dk_at dksX4_addRule_1 21 rfl rfl)
theorem dX4_addRule_46 : decode cX4_addRule 46 = .ok (.iload_n 1, 1) := dk_27 (dk_at dksX4_addRule_1 22 rfl rfl)
theorem dX4_addRule_47 : decode cX4_addRule 47 = .ok (.ifCond .eq 49, 3) := dk_153 0 49 (dk_at dksX4_addRule_2 0 rfl rfl)
theorem dX4_addRule_50 : decode cX4_addRule 50 = .ok (.aload_n 0, 1) := dk_42 (dk_at dksX4_addRule_2 3 rfl rfl)
theorem dX4_addRule_51 : decode cX4_addRule 51 = .ok (.getfield 40, 3) := dk_180 0 40 (dk_at dksX4_addRule_2 4 rfl rfl)
theorem dX4_addRule_54 : decode cX4_addRule 54 = .ok (.iconst 0, 1) := dk_3 (dk_at dksX4_addRule_2 7 rfl rfl)
theorem dX4_addRule_55 : decode cX4_addRule 55 = .ok (.aload_n 0, 1) := dk_42 (dk_at dksX4_addRule_2 8 rfl rfl)
theorem dX4_addRule_56 : decode cX4_addRule 56 = .ok (.getfield 43, 3) := dk_180 0 43 (dk_at dksX4_addRule_2 9 rfl rfl)
theorem dX4_addRule_59 : decode cX4_addRule 59 = .ok (.iconst 0, 1) := dk_3 (dk_at dksX4_addRule_2 12 rfl rfl)
theorem dX4_addRule_60 : decode cX4_addRule 60 = .ok (.bipush 96, 2) := dk_16 96 (dk_at dksX4_addRule_2 13 rfl rfl)
theorem dX4_addRule_62 : decode cX4_addRule 62 = .ok (.invokestatic 169, 3) := dk_184 0 169 (dk_at dksX4_addRule_2 15 rfl rfl)
theorem dX4_addRule_65 : decode cX4_addRule 65 = .ok (.aload_n 0, 1) := dk_42 (dk_at dksX4_addRule_2 18 rfl rfl)
theorem dX4_addRule_66 : decode cX4_addRule 66 = .ok (.getfield 40, 3) := dk_180 0 40 (dk_at dksX4_addRule_2 19 rfl rfl)
theorem dX4_addRule_69 : decode cX4_addRule 69 = .ok (.iconst 0, 1) := dk_3 (dk_at dksX4_addRule_2 22 rfl rfl)
theorem dX4_addRule_70 : decode cX4_addRule 70 = .ok (.iconst 0, 1) := dk_3 (dk_at dksX4_addRule_2 23 rfl rfl)
theorem dX4_addRule_71 : decode cX4_addRule 71 = .ok (.iastore, 1) := dk_79 (dk_at dksX4_addRule_3 0 rfl rfl)
theorem dX4_addRule_72 : decode cX4_addRule 72 = .ok (.aload_n 0, 1) := dk_42 (dk_at dksX4_addRule_3 1 rfl rfl)
theorem dX4_addRule_73 : decode cX4_addRule 73 = .ok (.invokevirtual 161, 3) := dk_182 0 161 (dk_at dksX4_addRule_3 2 rfl rfl)
theorem dX4_addRule_76 : decode cX4_addRule 76 = .ok (.ifCond .eq 18, 3) := dk_153 0 18 (dk_at dksX4_addRule_3 5 rfl rfl)
theorem dX4_addRule_79 : decode cX4_addRule 79 = .ok (.aload_n 0, 1) := dk_42 (dk_at dksX4_addRule_3 8 rfl rfl)
theorem dX4_addRule_80 : decode cX4_addRule 80 = .ok (.getfield 148, 3) := dk_180 0 148 (dk_at dksX4_addRule_3 9 rfl rfl)
theorem dX4_addRule_83 : decode cX4_addRule 83 = .ok (.aload_n 0, 1) := dk_42 (dk_at dksX4_addRule_3 12 rfl rfl)
theorem dX4_addRule_84 : decode cX4_addRule 84 = .ok (.getfield 151, 3) := dk_180 0 151 (dk_at dksX4_addRule_3 13 rfl rfl)
theorem dX4_addRule_87 : decode cX4_addRule 87 = .ok (.if_icmp .ne 7, 3) := dk_160 0 7 (dk_at dksX4_addRule_3 16 rfl rfl)
theorem dX4_addRule_90 : decode cX4_addRule 90 = .ok (.iconst 1, 1) := dk_4 (dk_at dksX4_addRule_3 19 rfl rfl)
theorem dX4_addRule_91 : decode cX4_addRule 91 = .ok (.goto 4, 3) := dk_167 0 4 (dk_at dksX4_addRule_3 20 rfl rfl)
theorem dX4_addRule_94 : decode cX4_addRule 94 = .ok (.iconst 0, 1) := dk_3 (dk_at dksX4_addRule_3 23 rfl rfl)
theorem dX4_addRule_95 : decode cX4_addRule 95 = .ok (.istore_n 1, 1) := dk_60 (dk_at dksX4_addRule_4 0 rfl rfl)
theorem dX4_addRule_96 : decode cX4_addRule 96 = .ok (.aload_n 0, 1) := dk_42 (dk_at dksX4_addRule_4 1 rfl rfl)
theorem dX4_addRule_97 : decode cX4_addRule 97 = .ok (.iconst 0, 1) := dk_3 (dk_at dksX4_addRule_4 2 rfl rfl)
theorem dX4_addRule_98 : decode cX4_addRule 98 = .ok (.putfield 151, 3) := dk_181 0 151 (dk_at dksX4_addRule_4 3 rfl rfl)
theorem dX4_addRule_101 : decode cX4_addRule 101 = .ok (.iload_n 1, 1) := dk_27 (dk_at dksX4_addRule_4 6 rfl rfl)
theorem dX4_addRule_102 : decode cX4_addRule 102 = .ok (.ifCond .ne 11, 3) := dk_154 0 11 (dk_at dksX4_addRule_4 7 rfl rfl)
theorem dX4_addRule_105 : decode cX4_addRule 105 = .ok (.bipush (-100), 2) := dk_16 156 (dk_at dksX4_addRule_4 10 rfl rfl)
theorem dX4_addRule_107 : decode cX4_addRule 107 = .ok (.aload_n 0, 1) := dk_42 (dk_at dksX4_addRule_4 12 rfl rfl)
theorem dX4_addRule_108 : decode cX4_addRule 108 = .ok (.getfield 148, 3) := dk_180 0 148 (dk_at dksX4_addRule_4 13 rfl rfl)
theorem dX4_addRule_111 : decode cX4_addRule 111 = .ok (.isub, 1) := dk_100 (dk_at dksX4_addRule_4 16 rfl rfl)
theorem dX4_addRule_112 : decode cX4_addRule 112 = .ok (.ireturn, 1) := dk_172 (dk_at dksX4_addRule_4 17 rfl rfl)
theorem dX4_addRule_113 : decode cX4_addRule 113 = .ok (.aload_n 0, 1) := dk_42 (dk_at dksX4_addRule_4 18 rfl rfl)
theorem dX4_addRule_114 : decode cX4_addRule 114 = .ok (.invokevirtual 173, 3) := dk_182 0 173 (dk_at dksX4_addRule_4 19 rfl rfl)
theorem dX4_addRule_117 : decode cX4_addRule 117 = .ok (.ifCond .ne 6, 3) := dk_154 0 6 (dk_at dksX4_addRule_5 0 rfl rfl)
theorem dX4_addRule_120 : decode cX4_addRule 120 = .ok (.bipush (-6), 2) := dk_16 250 (dk_at dksX4_addRule_5 3 rfl rfl)
theorem dX4_addRule_122 : decode cX4_addRule 122 = .ok (.ireturn, 1) := dk_172 (dk_at dksX4_addRule_5 5 rfl rfl)
theorem dX4_addRule_123 : decode cX4_addRule 123 = .ok (.aload_n 0, 1) := dk_42 (dk_at dksX4_addRule_5 6 rfl rfl)
theorem dX4_addRule_124 : decode cX4_addRule 124 = .ok (.getfield 43, 3) := dk_180 0 43 (dk_at dksX4_addRule_5 7 rfl rfl)
theorem dX4_addRule_127 : decode cX4_addRule 127 = .ok (.iconst 0, 1) := dk_3 (dk_at dksX4_addRule_5 10 rfl rfl)
theorem dX4_addRule_128 : decode cX4_addRule 128 = .ok (.aload_n 0, 1) := dk_42 (dk_at dksX4_addRule_5 11 rfl rfl)
theorem dX4_addRule_129 : decode cX4_addRule 129 = .ok (.getfield 16, 3) := dk_180 0 16 (dk_at dksX4_addRule_5 12 rfl rfl)
theorem dX4_addRule_132 : decode cX4_addRule 132 = .ok (.aload_n 0, 1) := dk_42 (dk_at dksX4_addRule_5 15 rfl rfl)
theorem dX4_addRule_133 : decode cX4_addRule 133 = .ok (.getfield 121, 3) := dk_180 0 121 (dk_at dksX4_addRule_5 16 rfl rfl)
theorem dX4_addRule_136 : decode cX4_addRule 136 = .ok (.invokestatic 125, 3) := dk_184 0 125 (dk_at dksX4_addRule_5 19 rfl rfl)
theorem dX4_addRule_139 : decode cX4_addRule 139 = .ok (.bipush 96, 2) := dk_16 96 (dk_at dksX4_addRule_5 22 rfl rfl)
theorem dX4_addRule_141 : decode cX4_addRule 141 = .ok (.invokestatic 169, 3) := dk_184 0 169 (dk_at dksX4_addRule_6 0 rfl rfl)
theorem dX4_addRule_144 : decode cX4_addRule 144 = .ok (.aload_n 0, 1) := dk_42 (dk_at dksX4_addRule_6 3 rfl rfl)
theorem dX4_addRule_145 : decode cX4_addRule 145 = .ok (.getfield 40, 3) := dk_180 0 40 (dk_at dksX4_addRule_6 4 rfl rfl)
theorem dX4_addRule_148 : decode cX4_addRule 148 = .ok (.iconst 0, 1) := dk_3 (dk_at dksX4_addRule_6 7 rfl rfl)
theorem dX4_addRule_149 : decode cX4_addRule 149 = .ok (.aload_n 0, 1) := dk_42 (dk_at dksX4_addRule_6 8 rfl rfl)
theorem dX4_addRule_150 : decode cX4_addRule 150 = .ok (.getfield 16, 3) := dk_180 0 16 (dk_at dksX4_addRule_6 9 rfl rfl)
theorem dX4_addRule_153 : decode cX4_addRule 153 = .ok (.aload_n 0, 1) := dk_42 (dk_at dksX4_addRule_6 12 rfl rfl)
theorem dX4_addRule_154 : decode cX4_addRule 154 = .ok (.getfield 121, 3) := dk_180 0 121 (dk_at dksX4_addRule_6 13 rfl rfl)
theorem dX4_addRule_157 : decode cX4_addRule 157 = .ok (.invokestatic 145, 3) := dk_184 0 145 (dk_at dksX4_addRule_6 16 rfl rfl)
theorem dX4_addRule_160 : decode cX4_addRule 160 = .ok (.bipush 96, 2) := dk_16 96 (dk_at dksX4_addRule_6 19 rfl rfl)
theorem dX4_addRule_162 : decode cX4_addRule 162 = .ok (.invokestatic 169, 3) := dk_184 0 169 (dk_at dksX4_addRule_6 21 rfl rfl)
theorem dX4_addRule_165 : decode cX4_addRule 165 = .ok (.aload_n 0, 1) := dk_42 (dk_at dksX4_addRule_7 0 rfl rfl)
theorem dX4_addRule_166 : decode cX4_addRule 166 = .ok (.dup, 1) := dk_89 (dk_at dksX4_addRule_7 1 rfl rfl)
theorem dX4_addRule_167 : decode cX4_addRule 167 = .ok (.getfield 121, 3) := dk_180 0 121 (dk_at dksX4_addRule_7 2 rfl rfl)
theorem dX4_addRule_170 : decode cX4_addRule 170 = .ok (.iconst 1, 1) := dk_4 (dk_at dksX4_addRule_7 5 rfl rfl)
theorem dX4_addRule_171 : decode cX4_addRule 171 = .ok (.iadd, 1) := dk_96 (dk_at dksX4_addRule_7 6 rfl rfl)
theorem dX4_addRule_172 : decode cX4_addRule 172 = .ok (.putfield 121, 3) := dk_181 0 121 (dk_at dksX4_addRule_7 7 rfl rfl)
theorem dX4_addRule_175 : decode cX4_addRule 175 = .ok (.aload_n 0, 1) := dk_42 (dk_at dksX4_addRule_7 10 rfl rfl)
theorem dX4_addRule_176 : decode cX4_addRule 176 = .ok (.getfield 121, 3) := dk_180 0 121 (dk_at dksX4_addRule_7 11 rfl rfl)
theorem dX4_addRule_179 : decode cX4_addRule 179 = .ok (.iconst 1, 1) := dk_4 (dk_at dksX4_addRule_7 14 rfl rfl)
theorem dX4_addRule_180 : decode cX4_addRule 180 = .ok (.isub, 1) := dk_100 (dk_at dksX4_addRule_7 15 rfl rfl)
theorem dX4_addRule_181 : decode cX4_addRule 181 = .ok (.ireturn, 1) := dk_172 (dk_at dksX4_addRule_7 16 rfl rfl)
abbrev cX4_parsesTerm : ByteArray := prog_10_method_25_code
def yX4_parsesTerm : MethodName := ⟨RX4, "parsesTerm", "()Z"⟩
def dkwX4_parsesTerm_5 : List UInt8 := [153, 0, 12, 42, 16, 41, 182, 0, 158, 153, 0, 7, 4, 167, 0, 4, 3, 172]
abbrev dktX4_parsesTerm_5 : List UInt8 := dkwX4_parsesTerm_5 ++ []
def dkwX4_parsesTerm_4 : List UInt8 := [16, 44, 182, 0, 158, 153, 0, 10, 42, 182, 0, 161, 154, 0, 5, 3, 172, 132, 3, 1, 167, 255, 221, 28]
abbrev dktX4_parsesTerm_4 : List UInt8 := dkwX4_parsesTerm_4 ++ dktX4_parsesTerm_5
def dkwX4_parsesTerm_3 : List UInt8 := [79, 42, 27, 182, 0, 113, 61, 3, 62, 29, 28, 162, 0, 36, 42, 29, 154, 0, 8, 16, 40, 167, 0, 5]
abbrev dktX4_parsesTerm_3 : List UInt8 := dkwX4_parsesTerm_3 ++ dktX4_parsesTerm_4
def dkwX4_parsesTerm_2 : List UInt8 := [181, 0, 148, 42, 180, 0, 40, 3, 92, 46, 4, 96, 79, 42, 180, 0, 40, 42, 180, 0, 40, 3, 46, 27]
abbrev dktX4_parsesTerm_2 : List UInt8 := dkwX4_parsesTerm_2 ++ dktX4_parsesTerm_3
def dkwX4_parsesTerm_1 : List UInt8 := [159, 0, 17, 27, 16, 115, 159, 0, 11, 27, 16, 99, 159, 0, 5, 3, 172, 42, 89, 180, 0, 148, 4, 96]
abbrev dktX4_parsesTerm_1 : List UInt8 := dkwX4_parsesTerm_1 ++ dktX4_parsesTerm_2
def dkwX4_parsesTerm_0 : List UInt8 := [42, 182, 0, 154, 60, 27, 184, 0, 109, 154, 0, 30, 27, 184, 0, 128, 154, 0, 23, 27, 16, 122]
abbrev dktX4_parsesTerm_0 : List UInt8 := dkwX4_parsesTerm_0 ++ dktX4_parsesTerm_1
theorem dksX4_parsesTerm_0 : cX4_parsesTerm.data.toList.drop 0 = dktX4_parsesTerm_0 := by decide +kernel
theorem dksX4_parsesTerm_1 : cX4_parsesTerm.data.toList.drop 22 = dktX4_parsesTerm_1 := dk_seg dksX4_parsesTerm_0 22 rfl rfl
theorem dksX4_parsesTerm_2 : cX4_parsesTerm.data.toList.drop 46 = dktX4_parsesTerm_2 := dk_seg dksX4_parsesTerm_1 24 rfl rfl
theorem dksX4_parsesTerm_3 : cX4_parsesTerm.data.toList.drop 70 = dktX4_parsesTerm_3 := dk_seg dksX4_parsesTerm_2 24 rfl rfl
theorem dksX4_parsesTerm_4 : cX4_parsesTerm.data.toList.drop 94 = dktX4_parsesTerm_4 := dk_seg dksX4_parsesTerm_3 24 rfl rfl
theorem dksX4_parsesTerm_5 : cX4_parsesTerm.data.toList.drop 118 = dktX4_parsesTerm_5 := dk_seg dksX4_parsesTerm_4 24 rfl rfl
theorem dX4_parsesTerm_0 : decode cX4_parsesTerm 0 = .ok (.aload_n 0, 1) := dk_42 (dk_at dksX4_parsesTerm_0 0 rfl rfl)
theorem dX4_parsesTerm_1 : decode cX4_parsesTerm 1 = .ok (.invokevirtual 154, 3) := dk_182 0 154 (dk_at dksX4_parsesTerm_0 1 rfl rfl)
theorem dX4_parsesTerm_4 : decode cX4_parsesTerm 4 = .ok (.istore_n 1, 1) := dk_60 (dk_at dksX4_parsesTerm_0 4 rfl rfl)
theorem dX4_parsesTerm_5 : decode cX4_parsesTerm 5 = .ok (.iload_n 1, 1) := dk_27 (dk_at dksX4_parsesTerm_0 5 rfl rfl)
theorem dX4_parsesTerm_6 : decode cX4_parsesTerm 6 = .ok (.invokestatic 109, 3) := dk_184 0 109 (dk_at dksX4_parsesTerm_0 6 rfl rfl)
theorem dX4_parsesTerm_9 : decode cX4_parsesTerm 9 = .ok (.ifCond .ne 30, 3) := dk_154 0 30 (dk_at dksX4_parsesTerm_0 9 rfl rfl)
theorem dX4_parsesTerm_12 : decode cX4_parsesTerm 12 = .ok (.iload_n 1, 1) := dk_27 (dk_at dksX4_parsesTerm_0 12 rfl rfl)
theorem dX4_parsesTerm_13 : decode cX4_parsesTerm 13 = .ok (.invokestatic 128, 3) := dk_184 0 128 (dk_at dksX4_parsesTerm_0 13 rfl rfl)
theorem dX4_parsesTerm_16 : decode cX4_parsesTerm 16 = .ok (.ifCond .ne 23, 3) := dk_154 0 23 (dk_at dksX4_parsesTerm_0 16 rfl rfl)
theorem dX4_parsesTerm_19 : decode cX4_parsesTerm 19 = .ok (.iload_n 1, 1) := dk_27 (dk_at dksX4_parsesTerm_0 19 rfl rfl)
theorem dX4_parsesTerm_20 : decode cX4_parsesTerm 20 = .ok (.bipush 122, 2) := dk_16 122 (dk_at dksX4_parsesTerm_0 20 rfl rfl)
theorem dX4_parsesTerm_22 : decode cX4_parsesTerm 22 = .ok (.if_icmp .eq 17, 3) := dk_159 0 17 (dk_at dksX4_parsesTerm_1 0 rfl rfl)
theorem dX4_parsesTerm_25 : decode cX4_parsesTerm 25 = .ok (.iload_n 1, 1) := dk_27 (dk_at dksX4_parsesTerm_1 3 rfl rfl)
theorem dX4_parsesTerm_26 : decode cX4_parsesTerm 26 = .ok (.bipush 115, 2) := dk_16 115 (dk_at dksX4_parsesTerm_1 4 rfl rfl)
theorem dX4_parsesTerm_28 : decode cX4_parsesTerm 28 = .ok (.if_icmp .eq 11, 3) := dk_159 0 11 (dk_at dksX4_parsesTerm_1 6 rfl rfl)
theorem dX4_parsesTerm_31 : decode cX4_parsesTerm 31 = .ok (.iload_n 1, 1) := dk_27 (dk_at dksX4_parsesTerm_1 9 rfl rfl)
theorem dX4_parsesTerm_32 : decode cX4_parsesTerm 32 = .ok (.bipush 99, 2) := dk_16 99 (dk_at dksX4_parsesTerm_1 10 rfl rfl)
theorem dX4_parsesTerm_34 : decode cX4_parsesTerm 34 = .ok (.if_icmp .eq 5, 3) := dk_159 0 5 (dk_at dksX4_parsesTerm_1 12 rfl rfl)
theorem dX4_parsesTerm_37 : decode cX4_parsesTerm 37 = .ok (.iconst 0, 1) := dk_3 (dk_at dksX4_parsesTerm_1 15 rfl rfl)
theorem dX4_parsesTerm_38 : decode cX4_parsesTerm 38 = .ok (.ireturn, 1) := dk_172 (dk_at dksX4_parsesTerm_1 16 rfl rfl)
theorem dX4_parsesTerm_39 : decode cX4_parsesTerm 39 = .ok (.aload_n 0, 1) := dk_42 (dk_at dksX4_parsesTerm_1 17 rfl rfl)
theorem dX4_parsesTerm_40 : decode cX4_parsesTerm 40 = .ok (.dup, 1) := dk_89 (dk_at dksX4_parsesTerm_1 18 rfl rfl)
theorem dX4_parsesTerm_41 : decode cX4_parsesTerm 41 = .ok (.getfield 148, 3) := dk_180 0 148 (dk_at dksX4_parsesTerm_1 19 rfl rfl)
theorem dX4_parsesTerm_44 : decode cX4_parsesTerm 44 = .ok (.iconst 1, 1) := dk_4 (dk_at dksX4_parsesTerm_1 22 rfl rfl)
theorem dX4_parsesTerm_45 : decode cX4_parsesTerm 45 = .ok (.iadd, 1) := dk_96 (dk_at dksX4_parsesTerm_1 23 rfl rfl)
theorem dX4_parsesTerm_46 : decode cX4_parsesTerm 46 = .ok (.putfield 148, 3) := dk_181 0 148 (dk_at dksX4_parsesTerm_2 0 rfl rfl)
theorem dX4_parsesTerm_49 : decode cX4_parsesTerm 49 = .ok (.aload_n 0, 1) := dk_42 (dk_at dksX4_parsesTerm_2 3 rfl rfl)
theorem dX4_parsesTerm_50 : decode cX4_parsesTerm 50 = .ok (.getfield 40, 3) := dk_180 0 40 (dk_at dksX4_parsesTerm_2 4 rfl rfl)
theorem dX4_parsesTerm_53 : decode cX4_parsesTerm 53 = .ok (.iconst 0, 1) := dk_3 (dk_at dksX4_parsesTerm_2 7 rfl rfl)
theorem dX4_parsesTerm_54 : decode cX4_parsesTerm 54 = .ok (.dup2, 1) := dk_92 (dk_at dksX4_parsesTerm_2 8 rfl rfl)
theorem dX4_parsesTerm_55 : decode cX4_parsesTerm 55 = .ok (.iaload, 1) := dk_46 (dk_at dksX4_parsesTerm_2 9 rfl rfl)
theorem dX4_parsesTerm_56 : decode cX4_parsesTerm 56 = .ok (.iconst 1, 1) := dk_4 (dk_at dksX4_parsesTerm_2 10 rfl rfl)
theorem dX4_parsesTerm_57 : decode cX4_parsesTerm 57 = .ok (.iadd, 1) := dk_96 (dk_at dksX4_parsesTerm_2 11 rfl rfl)
theorem dX4_parsesTerm_58 : decode cX4_parsesTerm 58 = .ok (.iastore, 1) := dk_79 (dk_at dksX4_parsesTerm_2 12 rfl rfl)
theorem dX4_parsesTerm_59 : decode cX4_parsesTerm 59 = .ok (.aload_n 0, 1) := dk_42 (dk_at dksX4_parsesTerm_2 13 rfl rfl)
theorem dX4_parsesTerm_60 : decode cX4_parsesTerm 60 = .ok (.getfield 40, 3) := dk_180 0 40 (dk_at dksX4_parsesTerm_2 14 rfl rfl)
theorem dX4_parsesTerm_63 : decode cX4_parsesTerm 63 = .ok (.aload_n 0, 1) := dk_42 (dk_at dksX4_parsesTerm_2 17 rfl rfl)
theorem dX4_parsesTerm_64 : decode cX4_parsesTerm 64 = .ok (.getfield 40, 3) := dk_180 0 40 (dk_at dksX4_parsesTerm_2 18 rfl rfl)
theorem dX4_parsesTerm_67 : decode cX4_parsesTerm 67 = .ok (.iconst 0, 1) := dk_3 (dk_at dksX4_parsesTerm_2 21 rfl rfl)
theorem dX4_parsesTerm_68 : decode cX4_parsesTerm 68 = .ok (.iaload, 1) := dk_46 (dk_at dksX4_parsesTerm_2 22 rfl rfl)
theorem dX4_parsesTerm_69 : decode cX4_parsesTerm 69 = .ok (.iload_n 1, 1) := dk_27 (dk_at dksX4_parsesTerm_2 23 rfl rfl)
theorem dX4_parsesTerm_70 : decode cX4_parsesTerm 70 = .ok (.iastore, 1) := dk_79 (dk_at dksX4_parsesTerm_3 0 rfl rfl)
theorem dX4_parsesTerm_71 : decode cX4_parsesTerm 71 = .ok (.aload_n 0, 1) := dk_42 (dk_at dksX4_parsesTerm_3 1 rfl rfl)
theorem dX4_parsesTerm_72 : decode cX4_parsesTerm 72 = .ok (.iload_n 1, 1) := dk_27 (dk_at dksX4_parsesTerm_3 2 rfl rfl)
theorem dX4_parsesTerm_73 : decode cX4_parsesTerm 73 = .ok (.invokevirtual 113, 3) := dk_182 0 113 (dk_at dksX4_parsesTerm_3 3 rfl rfl)
theorem dX4_parsesTerm_76 : decode cX4_parsesTerm 76 = .ok (.istore_n 2, 1) := dk_61 (dk_at dksX4_parsesTerm_3 6 rfl rfl)
theorem dX4_parsesTerm_77 : decode cX4_parsesTerm 77 = .ok (.iconst 0, 1) := dk_3 (dk_at dksX4_parsesTerm_3 7 rfl rfl)
theorem dX4_parsesTerm_78 : decode cX4_parsesTerm 78 = .ok (.istore_n 3, 1) := dk_62 (dk_at dksX4_parsesTerm_3 8 rfl rfl)
theorem dX4_parsesTerm_79 : decode cX4_parsesTerm 79 = .ok (.iload_n 3, 1) := dk_29 (dk_at dksX4_parsesTerm_3 9 rfl rfl)
theorem dX4_parsesTerm_80 : decode cX4_parsesTerm 80 = .ok (.iload_n 2, 1) := dk_28 (dk_at dksX4_parsesTerm_3 10 rfl rfl)
theorem dX4_parsesTerm_81 : decode cX4_parsesTerm 81 = .ok (.if_icmp .ge 36, 3) := dk_162 0 36 (dk_at dksX4_parsesTerm_3 11 rfl rfl)
theorem dX4_parsesTerm_84 : decode cX4_parsesTerm 84 = .ok (.aload_n 0, 1) := dk_42 (dk_at dksX4_parsesTerm_3 14 rfl rfl)
theorem dX4_parsesTerm_85 : decode cX4_parsesTerm 85 = .ok (.iload_n 3, 1) := dk_29 (dk_at dksX4_parsesTerm_3 15 rfl rfl)
theorem dX4_parsesTerm_86 : decode cX4_parsesTerm 86 = .ok (.ifCond .ne 8, 3) := dk_154 0 8 (dk_at dksX4_parsesTerm_3 16 rfl rfl)
theorem dX4_parsesTerm_89 : decode cX4_parsesTerm 89 = .ok (.bipush 40, 2) := dk_16 40 (dk_at dksX4_parsesTerm_3 19 rfl rfl)
theorem dX4_parsesTerm_91 : decode cX4_parsesTerm 91 = .ok (.goto 5, 3) := dk_167 0 5 (dk_at dksX4_parsesTerm_3 21 rfl rfl)
theorem dX4_parsesTerm_94 : decode cX4_parsesTerm 94 = .ok (.bipush 44, 2) := dk_16 44 (dk_at dksX4_parsesTerm_4 0 rfl rfl)
theorem dX4_parsesTerm_96 : decode cX4_parsesTerm 96 = .ok (.invokevirtual 158, 3) := dk_182 0 158 (dk_at dksX4_parsesTerm_4 2 rfl rfl)
theorem dX4_parsesTerm_99 : decode cX4_parsesTerm 99 = .ok (.ifCond .eq 10, 3) := dk_153 0 10 (dk_at dksX4_parsesTerm_4 5 rfl rfl)
theorem dX4_parsesTerm_102 : decode cX4_parsesTerm 102 = .ok (.aload_n 0, 1) := dk_42 (dk_at dksX4_parsesTerm_4 8 rfl rfl)
theorem dX4_parsesTerm_103 : decode cX4_parsesTerm 103 = .ok (.invokevirtual 161, 3) := dk_182 0 161 (dk_at dksX4_parsesTerm_4 9 rfl rfl)
theorem dX4_parsesTerm_106 : decode cX4_parsesTerm 106 = .ok (.ifCond .ne 5, 3) := dk_154 0 5 (dk_at dksX4_parsesTerm_4 12 rfl rfl)
theorem dX4_parsesTerm_109 : decode cX4_parsesTerm 109 = .ok (.iconst 0, 1) := dk_3 (dk_at dksX4_parsesTerm_4 15 rfl rfl)
theorem dX4_parsesTerm_110 : decode cX4_parsesTerm 110 = .ok (.ireturn, 1) := dk_172 (dk_at dksX4_parsesTerm_4 16 rfl rfl)
theorem dX4_parsesTerm_111 : decode cX4_parsesTerm 111 = .ok (.iinc 3 1, 3) := dk_132 3 1 (dk_at dksX4_parsesTerm_4 17 rfl rfl)
theorem dX4_parsesTerm_114 : decode cX4_parsesTerm 114 = .ok (.goto (-35), 3) := dk_167 255 221 (dk_at dksX4_parsesTerm_4 20 rfl rfl)
theorem dX4_parsesTerm_117 : decode cX4_parsesTerm 117 = .ok (.iload_n 2, 1) := dk_28 (dk_at dksX4_parsesTerm_4 23 rfl rfl)
theorem dX4_parsesTerm_118 : decode cX4_parsesTerm 118 = .ok (.ifCond .eq 12, 3) := dk_153 0 12 (dk_at dksX4_parsesTerm_5 0 rfl rfl)
theorem dX4_parsesTerm_121 : decode cX4_parsesTerm 121 = .ok (.aload_n 0, 1) := dk_42 (dk_at dksX4_parsesTerm_5 3 rfl rfl)
theorem dX4_parsesTerm_122 : decode cX4_parsesTerm 122 = .ok (.bipush 41, 2) := dk_16 41 (dk_at dksX4_parsesTerm_5 4 rfl rfl)
theorem dX4_parsesTerm_124 : decode cX4_parsesTerm 124 = .ok (.invokevirtual 158, 3) := dk_182 0 158 (dk_at dksX4_parsesTerm_5 6 rfl rfl)
theorem dX4_parsesTerm_127 : decode cX4_parsesTerm 127 = .ok (.ifCond .eq 7, 3) := dk_153 0 7 (dk_at dksX4_parsesTerm_5 9 rfl rfl)
theorem dX4_parsesTerm_130 : decode cX4_parsesTerm 130 = .ok (.iconst 1, 1) := dk_4 (dk_at dksX4_parsesTerm_5 12 rfl rfl)
theorem dX4_parsesTerm_131 : decode cX4_parsesTerm 131 = .ok (.goto 4, 3) := dk_167 0 4 (dk_at dksX4_parsesTerm_5 13 rfl rfl)
theorem dX4_parsesTerm_134 : decode cX4_parsesTerm 134 = .ok (.iconst 0, 1) := dk_3 (dk_at dksX4_parsesTerm_5 16 rfl rfl)
theorem dX4_parsesTerm_135 : decode cX4_parsesTerm 135 = .ok (.ireturn, 1) := dk_172 (dk_at dksX4_parsesTerm_5 17 rfl rfl)
abbrev cX4_next : ByteArray := prog_10_method_23_code
def yX4_next : MethodName := ⟨RX4, "next", "()I"⟩
def dkwX4_next_1 : List UInt8 := [172]
abbrev dktX4_next_1 : List UInt8 := dkwX4_next_1 ++ []
def dkwX4_next_0 : List UInt8 := [42, 180, 0, 148, 42, 180, 0, 151, 162, 0, 15, 42, 180, 0, 37, 42, 180, 0, 148, 46, 167, 0, 4, 2]
abbrev dktX4_next_0 : List UInt8 := dkwX4_next_0 ++ dktX4_next_1
theorem dksX4_next_0 : cX4_next.data.toList.drop 0 = dktX4_next_0 := by decide +kernel
theorem dksX4_next_1 : cX4_next.data.toList.drop 24 = dktX4_next_1 := dk_seg dksX4_next_0 24 rfl rfl
theorem dX4_next_0 : decode cX4_next 0 = .ok (.aload_n 0, 1) := dk_42 (dk_at dksX4_next_0 0 rfl rfl)
theorem dX4_next_1 : decode cX4_next 1 = .ok (.getfield 148, 3) := dk_180 0 148 (dk_at dksX4_next_0 1 rfl rfl)
theorem dX4_next_4 : decode cX4_next 4 = .ok (.aload_n 0, 1) := dk_42 (dk_at dksX4_next_0 4 rfl rfl)
theorem dX4_next_5 : decode cX4_next 5 = .ok (.getfield 151, 3) := dk_180 0 151 (dk_at dksX4_next_0 5 rfl rfl)
theorem dX4_next_8 : decode cX4_next 8 = .ok (.if_icmp .ge 15, 3) := dk_162 0 15 (dk_at dksX4_next_0 8 rfl rfl)
theorem dX4_next_11 : decode cX4_next 11 = .ok (.aload_n 0, 1) := dk_42 (dk_at dksX4_next_0 11 rfl rfl)
theorem dX4_next_12 : decode cX4_next 12 = .ok (.getfield 37, 3) := dk_180 0 37 (dk_at dksX4_next_0 12 rfl rfl)
theorem dX4_next_15 : decode cX4_next 15 = .ok (.aload_n 0, 1) := dk_42 (dk_at dksX4_next_0 15 rfl rfl)
theorem dX4_next_16 : decode cX4_next 16 = .ok (.getfield 148, 3) := dk_180 0 148 (dk_at dksX4_next_0 16 rfl rfl)
theorem dX4_next_19 : decode cX4_next 19 = .ok (.iaload, 1) := dk_46 (dk_at dksX4_next_0 19 rfl rfl)
theorem dX4_next_20 : decode cX4_next 20 = .ok (.goto 4, 3) := dk_167 0 4 (dk_at dksX4_next_0 20 rfl rfl)
theorem dX4_next_23 : decode cX4_next 23 = .ok (.iconst (-1), 1) := dk_2 (dk_at dksX4_next_0 23 rfl rfl)
theorem dX4_next_24 : decode cX4_next 24 = .ok (.ireturn, 1) := dk_172 (dk_at dksX4_next_1 0 rfl rfl)
abbrev cX4_isFunction : ByteArray := prog_10_method_5_code
def yX4_isFunction : MethodName := ⟨RX4, "isFunction", "(I)Z"⟩
def dkwX4_isFunction_0 : List UInt8 := [26, 16, 102, 16, 104, 184, 0, 105, 172]
abbrev dktX4_isFunction_0 : List UInt8 := dkwX4_isFunction_0 ++ []
theorem dksX4_isFunction_0 : cX4_isFunction.data.toList.drop 0 = dktX4_isFunction_0 := by decide +kernel
theorem dX4_isFunction_0 : decode cX4_isFunction 0 = .ok (.iload_n 0, 1) := dk_26 (dk_at dksX4_isFunction_0 0 rfl rfl)
theorem dX4_isFunction_1 : decode cX4_isFunction 1 = .ok (.bipush 102, 2) := dk_16 102 (dk_at dksX4_isFunction_0 1 rfl rfl)
theorem dX4_isFunction_3 : decode cX4_isFunction 3 = .ok (.bipush 104, 2) := dk_16 104 (dk_at dksX4_isFunction_0 3 rfl rfl)
theorem dX4_isFunction_5 : decode cX4_isFunction 5 = .ok (.invokestatic 105, 3) := dk_184 0 105 (dk_at dksX4_isFunction_0 5 rfl rfl)
theorem dX4_isFunction_8 : decode cX4_isFunction 8 = .ok (.ireturn, 1) := dk_172 (dk_at dksX4_isFunction_0 8 rfl rfl)
abbrev cX4_isVariable : ByteArray := prog_10_method_6_code
def yX4_isVariable : MethodName := ⟨RX4, "isVariable", "(I)Z"⟩
def dkwX4_isVariable_0 : List UInt8 := [26, 16, 120, 159, 0, 15, 26, 16, 121, 159, 0, 9, 26, 16, 119, 160, 0, 7, 4, 167, 0, 4, 3, 172]
abbrev dktX4_isVariable_0 : List UInt8 := dkwX4_isVariable_0 ++ []
theorem dksX4_isVariable_0 : cX4_isVariable.data.toList.drop 0 = dktX4_isVariable_0 := by decide +kernel
theorem dX4_isVariable_0 : decode cX4_isVariable 0 = .ok (.iload_n 0, 1) := dk_26 (dk_at dksX4_isVariable_0 0 rfl rfl)
theorem dX4_isVariable_1 : decode cX4_isVariable 1 = .ok (.bipush 120, 2) := dk_16 120 (dk_at dksX4_isVariable_0 1 rfl rfl)
theorem dX4_isVariable_3 : decode cX4_isVariable 3 = .ok (.if_icmp .eq 15, 3) := dk_159 0 15 (dk_at dksX4_isVariable_0 3 rfl rfl)
theorem dX4_isVariable_6 : decode cX4_isVariable 6 = .ok (.iload_n 0, 1) := dk_26 (dk_at dksX4_isVariable_0 6 rfl rfl)
theorem dX4_isVariable_7 : decode cX4_isVariable 7 = .ok (.bipush 121, 2) := dk_16 121 (dk_at dksX4_isVariable_0 7 rfl rfl)
theorem dX4_isVariable_9 : decode cX4_isVariable 9 = .ok (.if_icmp .eq 9, 3) := dk_159 0 9 (dk_at dksX4_isVariable_0 9 rfl rfl)
theorem dX4_isVariable_12 : decode cX4_isVariable 12 = .ok (.iload_n 0, 1) := dk_26 (dk_at dksX4_isVariable_0 12 rfl rfl)
theorem dX4_isVariable_13 : decode cX4_isVariable 13 = .ok (.bipush 119, 2) := dk_16 119 (dk_at dksX4_isVariable_0 13 rfl rfl)
theorem dX4_isVariable_15 : decode cX4_isVariable 15 = .ok (.if_icmp .ne 7, 3) := dk_160 0 7 (dk_at dksX4_isVariable_0 15 rfl rfl)
theorem dX4_isVariable_18 : decode cX4_isVariable 18 = .ok (.iconst 1, 1) := dk_4 (dk_at dksX4_isVariable_0 18 rfl rfl)
theorem dX4_isVariable_19 : decode cX4_isVariable 19 = .ok (.goto 4, 3) := dk_167 0 4 (dk_at dksX4_isVariable_0 19 rfl rfl)
theorem dX4_isVariable_22 : decode cX4_isVariable 22 = .ok (.iconst 0, 1) := dk_3 (dk_at dksX4_isVariable_0 22 rfl rfl)
theorem dX4_isVariable_23 : decode cX4_isVariable 23 = .ok (.ireturn, 1) := dk_172 (dk_at dksX4_isVariable_0 23 rfl rfl)
abbrev cX4_arityOf : ByteArray := prog_10_method_7_code
def yX4_arityOf : MethodName := ⟨RX4, "arityOf", "(I)I"⟩
def dkwX4_arityOf_1 : List UInt8 := [160, 0, 7, 4, 167, 0, 14, 27, 16, 99, 160, 0, 7, 5, 167, 0, 4, 3, 172]
abbrev dktX4_arityOf_1 : List UInt8 := dkwX4_arityOf_1 ++ []
def dkwX4_arityOf_0 : List UInt8 := [27, 184, 0, 109, 153, 0, 15, 42, 180, 0, 9, 27, 16, 102, 100, 46, 167, 0, 24, 27, 16, 115]
abbrev dktX4_arityOf_0 : List UInt8 := dkwX4_arityOf_0 ++ dktX4_arityOf_1
theorem dksX4_arityOf_0 : cX4_arityOf.data.toList.drop 0 = dktX4_arityOf_0 := by decide +kernel
theorem dksX4_arityOf_1 : cX4_arityOf.data.toList.drop 22 = dktX4_arityOf_1 := dk_seg dksX4_arityOf_0 22 rfl rfl
theorem dX4_arityOf_0 : decode cX4_arityOf 0 = .ok (.iload_n 1, 1) := dk_27 (dk_at dksX4_arityOf_0 0 rfl rfl)
theorem dX4_arityOf_1 : decode cX4_arityOf 1 = .ok (.invokestatic 109, 3) := dk_184 0 109 (dk_at dksX4_arityOf_0 1 rfl rfl)
theorem dX4_arityOf_4 : decode cX4_arityOf 4 = .ok (.ifCond .eq 15, 3) := dk_153 0 15 (dk_at dksX4_arityOf_0 4 rfl rfl)
theorem dX4_arityOf_7 : decode cX4_arityOf 7 = .ok (.aload_n 0, 1) := dk_42 (dk_at dksX4_arityOf_0 7 rfl rfl)
theorem dX4_arityOf_8 : decode cX4_arityOf 8 = .ok (.getfield 9, 3) := dk_180 0 9 (dk_at dksX4_arityOf_0 8 rfl rfl)
theorem dX4_arityOf_11 : decode cX4_arityOf 11 = .ok (.iload_n 1, 1) := dk_27 (dk_at dksX4_arityOf_0 11 rfl rfl)
theorem dX4_arityOf_12 : decode cX4_arityOf 12 = .ok (.bipush 102, 2) := dk_16 102 (dk_at dksX4_arityOf_0 12 rfl rfl)
theorem dX4_arityOf_14 : decode cX4_arityOf 14 = .ok (.isub, 1) := dk_100 (dk_at dksX4_arityOf_0 14 rfl rfl)
theorem dX4_arityOf_15 : decode cX4_arityOf 15 = .ok (.iaload, 1) := dk_46 (dk_at dksX4_arityOf_0 15 rfl rfl)
theorem dX4_arityOf_16 : decode cX4_arityOf 16 = .ok (.goto 24, 3) := dk_167 0 24 (dk_at dksX4_arityOf_0 16 rfl rfl)
theorem dX4_arityOf_19 : decode cX4_arityOf 19 = .ok (.iload_n 1, 1) := dk_27 (dk_at dksX4_arityOf_0 19 rfl rfl)
theorem dX4_arityOf_20 : decode cX4_arityOf 20 = .ok (.bipush 115, 2) := dk_16 115 (dk_at dksX4_arityOf_0 20 rfl rfl)
theorem dX4_arityOf_22 : decode cX4_arityOf 22 = .ok (.if_icmp .ne 7, 3) := dk_160 0 7 (dk_at dksX4_arityOf_1 0 rfl rfl)
theorem dX4_arityOf_25 : decode cX4_arityOf 25 = .ok (.iconst 1, 1) := dk_4 (dk_at dksX4_arityOf_1 3 rfl rfl)
theorem dX4_arityOf_26 : decode cX4_arityOf 26 = .ok (.goto 14, 3) := dk_167 0 14 (dk_at dksX4_arityOf_1 4 rfl rfl)
theorem dX4_arityOf_29 : decode cX4_arityOf 29 = .ok (.iload_n 1, 1) := dk_27 (dk_at dksX4_arityOf_1 7 rfl rfl)
theorem dX4_arityOf_30 : decode cX4_arityOf 30 = .ok (.bipush 99, 2) := dk_16 99 (dk_at dksX4_arityOf_1 8 rfl rfl)
theorem dX4_arityOf_32 : decode cX4_arityOf 32 = .ok (.if_icmp .ne 7, 3) := dk_160 0 7 (dk_at dksX4_arityOf_1 10 rfl rfl)
theorem dX4_arityOf_35 : decode cX4_arityOf 35 = .ok (.iconst 2, 1) := dk_5 (dk_at dksX4_arityOf_1 13 rfl rfl)
theorem dX4_arityOf_36 : decode cX4_arityOf 36 = .ok (.goto 4, 3) := dk_167 0 4 (dk_at dksX4_arityOf_1 14 rfl rfl)
theorem dX4_arityOf_39 : decode cX4_arityOf 39 = .ok (.iconst 0, 1) := dk_3 (dk_at dksX4_arityOf_1 17 rfl rfl)
theorem dX4_arityOf_40 : decode cX4_arityOf 40 = .ok (.ireturn, 1) := dk_172 (dk_at dksX4_arityOf_1 18 rfl rfl)
abbrev cX4_accepts : ByteArray := prog_10_method_24_code
def yX4_accepts : MethodName := ⟨RX4, "accepts", "(I)Z"⟩
def dkwX4_accepts_0 : List UInt8 := [42, 182, 0, 154, 27, 159, 0, 5, 3, 172, 42, 89, 180, 0, 148, 4, 96, 181, 0, 148, 4, 172]
abbrev dktX4_accepts_0 : List UInt8 := dkwX4_accepts_0 ++ []
theorem dksX4_accepts_0 : cX4_accepts.data.toList.drop 0 = dktX4_accepts_0 := by decide +kernel
theorem dX4_accepts_0 : decode cX4_accepts 0 = .ok (.aload_n 0, 1) := dk_42 (dk_at dksX4_accepts_0 0 rfl rfl)
theorem dX4_accepts_1 : decode cX4_accepts 1 = .ok (.invokevirtual 154, 3) := dk_182 0 154 (dk_at dksX4_accepts_0 1 rfl rfl)
theorem dX4_accepts_4 : decode cX4_accepts 4 = .ok (.iload_n 1, 1) := dk_27 (dk_at dksX4_accepts_0 4 rfl rfl)
theorem dX4_accepts_5 : decode cX4_accepts 5 = .ok (.if_icmp .eq 5, 3) := dk_159 0 5 (dk_at dksX4_accepts_0 5 rfl rfl)
theorem dX4_accepts_8 : decode cX4_accepts 8 = .ok (.iconst 0, 1) := dk_3 (dk_at dksX4_accepts_0 8 rfl rfl)
theorem dX4_accepts_9 : decode cX4_accepts 9 = .ok (.ireturn, 1) := dk_172 (dk_at dksX4_accepts_0 9 rfl rfl)
theorem dX4_accepts_10 : decode cX4_accepts 10 = .ok (.aload_n 0, 1) := dk_42 (dk_at dksX4_accepts_0 10 rfl rfl)
theorem dX4_accepts_11 : decode cX4_accepts 11 = .ok (.dup, 1) := dk_89 (dk_at dksX4_accepts_0 11 rfl rfl)
theorem dX4_accepts_12 : decode cX4_accepts 12 = .ok (.getfield 148, 3) := dk_180 0 148 (dk_at dksX4_accepts_0 12 rfl rfl)
theorem dX4_accepts_15 : decode cX4_accepts 15 = .ok (.iconst 1, 1) := dk_4 (dk_at dksX4_accepts_0 15 rfl rfl)
theorem dX4_accepts_16 : decode cX4_accepts 16 = .ok (.iadd, 1) := dk_96 (dk_at dksX4_accepts_0 16 rfl rfl)
theorem dX4_accepts_17 : decode cX4_accepts 17 = .ok (.putfield 148, 3) := dk_181 0 148 (dk_at dksX4_accepts_0 17 rfl rfl)
theorem dX4_accepts_20 : decode cX4_accepts 20 = .ok (.iconst 1, 1) := dk_4 (dk_at dksX4_accepts_0 20 rfl rfl)
theorem dX4_accepts_21 : decode cX4_accepts 21 = .ok (.ireturn, 1) := dk_172 (dk_at dksX4_accepts_0 21 rfl rfl)
abbrev cX4_copy : ByteArray := prog_10_method_4_code
def yX4_copy : MethodName := ⟨RX4, "copy", "([II[III)V"⟩
def dkwX4_copy_1 : List UInt8 := [132, 5, 1, 167, 255, 234, 177]
abbrev dktX4_copy_1 : List UInt8 := dkwX4_copy_1 ++ []
def dkwX4_copy_0 : List UInt8 := [3, 54, 5, 21, 5, 21, 4, 162, 0, 21, 44, 29, 21, 5, 96, 42, 27, 21, 5, 96, 46, 79]
abbrev dktX4_copy_0 : List UInt8 := dkwX4_copy_0 ++ dktX4_copy_1
theorem dksX4_copy_0 : cX4_copy.data.toList.drop 0 = dktX4_copy_0 := by decide +kernel
theorem dksX4_copy_1 : cX4_copy.data.toList.drop 22 = dktX4_copy_1 := dk_seg dksX4_copy_0 22 rfl rfl
theorem dX4_copy_0 : decode cX4_copy 0 = .ok (.iconst 0, 1) := dk_3 (dk_at dksX4_copy_0 0 rfl rfl)
theorem dX4_copy_1 : decode cX4_copy 1 = .ok (.istore 5, 2) := dk_54 5 (dk_at dksX4_copy_0 1 rfl rfl)
theorem dX4_copy_3 : decode cX4_copy 3 = .ok (.iload 5, 2) := dk_21 5 (dk_at dksX4_copy_0 3 rfl rfl)
theorem dX4_copy_5 : decode cX4_copy 5 = .ok (.iload 4, 2) := dk_21 4 (dk_at dksX4_copy_0 5 rfl rfl)
theorem dX4_copy_7 : decode cX4_copy 7 = .ok (.if_icmp .ge 21, 3) := dk_162 0 21 (dk_at dksX4_copy_0 7 rfl rfl)
theorem dX4_copy_10 : decode cX4_copy 10 = .ok (.aload_n 2, 1) := dk_44 (dk_at dksX4_copy_0 10 rfl rfl)
theorem dX4_copy_11 : decode cX4_copy 11 = .ok (.iload_n 3, 1) := dk_29 (dk_at dksX4_copy_0 11 rfl rfl)
theorem dX4_copy_12 : decode cX4_copy 12 = .ok (.iload 5, 2) := dk_21 5 (dk_at dksX4_copy_0 12 rfl rfl)
theorem dX4_copy_14 : decode cX4_copy 14 = .ok (.iadd, 1) := dk_96 (dk_at dksX4_copy_0 14 rfl rfl)
theorem dX4_copy_15 : decode cX4_copy 15 = .ok (.aload_n 0, 1) := dk_42 (dk_at dksX4_copy_0 15 rfl rfl)
theorem dX4_copy_16 : decode cX4_copy 16 = .ok (.iload_n 1, 1) := dk_27 (dk_at dksX4_copy_0 16 rfl rfl)
theorem dX4_copy_17 : decode cX4_copy 17 = .ok (.iload 5, 2) := dk_21 5 (dk_at dksX4_copy_0 17 rfl rfl)
theorem dX4_copy_19 : decode cX4_copy 19 = .ok (.iadd, 1) := dk_96 (dk_at dksX4_copy_0 19 rfl rfl)
theorem dX4_copy_20 : decode cX4_copy 20 = .ok (.iaload, 1) := dk_46 (dk_at dksX4_copy_0 20 rfl rfl)
theorem dX4_copy_21 : decode cX4_copy 21 = .ok (.iastore, 1) := dk_79 (dk_at dksX4_copy_0 21 rfl rfl)
theorem dX4_copy_22 : decode cX4_copy 22 = .ok (.iinc 5 1, 3) := dk_132 5 1 (dk_at dksX4_copy_1 0 rfl rfl)
theorem dX4_copy_25 : decode cX4_copy 25 = .ok (.goto (-22), 3) := dk_167 255 234 (dk_at dksX4_copy_1 3 rfl rfl)
theorem dX4_copy_28 : decode cX4_copy 28 = .ok (.return_, 1) := dk_177 (dk_at dksX4_copy_1 6 rfl rfl)
abbrev cX4_isValidRule : ByteArray := prog_10_method_27_code
def yX4_isValidRule : MethodName := ⟨RX4, "isValidRule", "()Z"⟩
def dkwX4_isValidRule_5 : List UInt8 := [167, 0, 4, 3, 126, 60, 132, 2, 1, 167, 255, 207, 27, 172]
abbrev dktX4_isValidRule_5 : List UInt8 := dkwX4_isValidRule_5 ++ []
def dkwX4_isValidRule_4 : List UInt8 := [46, 184, 0, 128, 153, 0, 19, 42, 180, 0, 43, 42, 180, 0, 40, 28, 46, 184, 0, 165, 153, 0, 7, 4]
abbrev dktX4_isValidRule_4 : List UInt8 := dkwX4_isValidRule_4 ++ dktX4_isValidRule_5
def dkwX4_isValidRule_3 : List UInt8 := [132, 2, 1, 167, 255, 223, 4, 61, 28, 42, 180, 0, 40, 3, 46, 163, 0, 45, 27, 42, 180, 0, 40, 28]
abbrev dktX4_isValidRule_3 : List UInt8 := dkwX4_isValidRule_3 ++ dktX4_isValidRule_4
def dkwX4_isValidRule_2 : List UInt8 := [46, 163, 0, 29, 27, 42, 180, 0, 43, 28, 46, 184, 0, 109, 154, 0, 7, 4, 167, 0, 4, 3, 126, 60]
abbrev dktX4_isValidRule_2 : List UInt8 := dkwX4_isValidRule_2 ++ dktX4_isValidRule_3
def dkwX4_isValidRule_1 : List UInt8 := [180, 0, 40, 3, 46, 16, 40, 163, 0, 7, 4, 167, 0, 4, 3, 60, 5, 61, 28, 42, 180, 0, 43, 3]
abbrev dktX4_isValidRule_1 : List UInt8 := dkwX4_isValidRule_1 ++ dktX4_isValidRule_2
def dkwX4_isValidRule_0 : List UInt8 := [42, 180, 0, 43, 4, 46, 184, 0, 109, 153, 0, 29, 42, 180, 0, 43, 3, 46, 16, 40, 163, 0, 18, 42]
abbrev dktX4_isValidRule_0 : List UInt8 := dkwX4_isValidRule_0 ++ dktX4_isValidRule_1
theorem dksX4_isValidRule_0 : cX4_isValidRule.data.toList.drop 0 = dktX4_isValidRule_0 := by decide +kernel
theorem dksX4_isValidRule_1 : cX4_isValidRule.data.toList.drop 24 = dktX4_isValidRule_1 := dk_seg dksX4_isValidRule_0 24 rfl rfl
theorem dksX4_isValidRule_2 : cX4_isValidRule.data.toList.drop 48 = dktX4_isValidRule_2 := dk_seg dksX4_isValidRule_1 24 rfl rfl
theorem dksX4_isValidRule_3 : cX4_isValidRule.data.toList.drop 72 = dktX4_isValidRule_3 := dk_seg dksX4_isValidRule_2 24 rfl rfl
theorem dksX4_isValidRule_4 : cX4_isValidRule.data.toList.drop 96 = dktX4_isValidRule_4 := dk_seg dksX4_isValidRule_3 24 rfl rfl
theorem dksX4_isValidRule_5 : cX4_isValidRule.data.toList.drop 120 = dktX4_isValidRule_5 := dk_seg dksX4_isValidRule_4 24 rfl rfl
theorem dX4_isValidRule_0 : decode cX4_isValidRule 0 = .ok (.aload_n 0, 1) := dk_42 (dk_at dksX4_isValidRule_0 0 rfl rfl)
theorem dX4_isValidRule_1 : decode cX4_isValidRule 1 = .ok (.getfield 43, 3) := dk_180 0 43 (dk_at dksX4_isValidRule_0 1 rfl rfl)
theorem dX4_isValidRule_4 : decode cX4_isValidRule 4 = .ok (.iconst 1, 1) := dk_4 (dk_at dksX4_isValidRule_0 4 rfl rfl)
theorem dX4_isValidRule_5 : decode cX4_isValidRule 5 = .ok (.iaload, 1) := dk_46 (dk_at dksX4_isValidRule_0 5 rfl rfl)
theorem dX4_isValidRule_6 : decode cX4_isValidRule 6 = .ok (.invokestatic 109, 3) := dk_184 0 109 (dk_at dksX4_isValidRule_0 6 rfl rfl)
theorem dX4_isValidRule_9 : decode cX4_isValidRule 9 = .ok (.ifCond .eq 29, 3) := dk_153 0 29 (dk_at dksX4_isValidRule_0 9 rfl rfl)
theorem dX4_isValidRule_12 : decode cX4_isValidRule 12 = .ok (.aload_n 0, 1) := dk_42 (dk_at dksX4_isValidRule_0 12 rfl rfl)
theorem dX4_isValidRule_13 : decode cX4_isValidRule 13 = .ok (.getfield 43, 3) := dk_180 0 43 (dk_at dksX4_isValidRule_0 13 rfl rfl)
theorem dX4_isValidRule_16 : decode cX4_isValidRule 16 = .ok (.iconst 0, 1) := dk_3 (dk_at dksX4_isValidRule_0 16 rfl rfl)
theorem dX4_isValidRule_17 : decode cX4_isValidRule 17 = .ok (.iaload, 1) := dk_46 (dk_at dksX4_isValidRule_0 17 rfl rfl)
theorem dX4_isValidRule_18 : decode cX4_isValidRule 18 = .ok (.bipush 40, 2) := dk_16 40 (dk_at dksX4_isValidRule_0 18 rfl rfl)
theorem dX4_isValidRule_20 : decode cX4_isValidRule 20 = .ok (.if_icmp .gt 18, 3) := dk_163 0 18 (dk_at dksX4_isValidRule_0 20 rfl rfl)
theorem dX4_isValidRule_23 : decode cX4_isValidRule 23 = .ok (.aload_n 0, 1) := dk_42 (dk_at dksX4_isValidRule_0 23 rfl rfl)
theorem dX4_isValidRule_24 : decode cX4_isValidRule 24 = .ok (.getfield 40, 3) := dk_180 0 40 (dk_at dksX4_isValidRule_1 0 rfl rfl)
theorem dX4_isValidRule_27 : decode cX4_isValidRule 27 = .ok (.iconst 0, 1) := dk_3 (dk_at dksX4_isValidRule_1 3 rfl rfl)
theorem dX4_isValidRule_28 : decode cX4_isValidRule 28 = .ok (.iaload, 1) := dk_46 (dk_at dksX4_isValidRule_1 4 rfl rfl)
theorem dX4_isValidRule_29 : decode cX4_isValidRule 29 = .ok (.bipush 40, 2) := dk_16 40 (dk_at dksX4_isValidRule_1 5 rfl rfl)
theorem dX4_isValidRule_31 : decode cX4_isValidRule 31 = .ok (.if_icmp .gt 7, 3) := dk_163 0 7 (dk_at dksX4_isValidRule_1 7 rfl rfl)
theorem dX4_isValidRule_34 : decode cX4_isValidRule 34 = .ok (.iconst 1, 1) := dk_4 (dk_at dksX4_isValidRule_1 10 rfl rfl)
theorem dX4_isValidRule_35 : decode cX4_isValidRule 35 = .ok (.goto 4, 3) := dk_167 0 4 (dk_at dksX4_isValidRule_1 11 rfl rfl)
theorem dX4_isValidRule_38 : decode cX4_isValidRule 38 = .ok (.iconst 0, 1) := dk_3 (dk_at dksX4_isValidRule_1 14 rfl rfl)
theorem dX4_isValidRule_39 : decode cX4_isValidRule 39 = .ok (.istore_n 1, 1) := dk_60 (dk_at dksX4_isValidRule_1 15 rfl rfl)
theorem dX4_isValidRule_40 : decode cX4_isValidRule 40 = .ok (.iconst 2, 1) := dk_5 (dk_at dksX4_isValidRule_1 16 rfl rfl)
theorem dX4_isValidRule_41 : decode cX4_isValidRule 41 = .ok (.istore_n 2, 1) := dk_61 (dk_at dksX4_isValidRule_1 17 rfl rfl)
theorem dX4_isValidRule_42 : decode cX4_isValidRule 42 = .ok (.iload_n 2, 1) := dk_28 (dk_at dksX4_isValidRule_1 18 rfl rfl)
theorem dX4_isValidRule_43 : decode cX4_isValidRule 43 = .ok (.aload_n 0, 1) := dk_42 (dk_at dksX4_isValidRule_1 19 rfl rfl)
theorem dX4_isValidRule_44 : decode cX4_isValidRule 44 = .ok (.getfield 43, 3) := dk_180 0 43 (dk_at dksX4_isValidRule_1 20 rfl rfl)
theorem dX4_isValidRule_47 : decode cX4_isValidRule 47 = .ok (.iconst 0, 1) := dk_3 (dk_at dksX4_isValidRule_1 23 rfl rfl)
theorem dX4_isValidRule_48 : decode cX4_isValidRule 48 = .ok (.iaload, 1) := dk_46 (dk_at dksX4_isValidRule_2 0 rfl rfl)
theorem dX4_isValidRule_49 : decode cX4_isValidRule 49 = .ok (.if_icmp .gt 29, 3) := dk_163 0 29 (dk_at dksX4_isValidRule_2 1 rfl rfl)
theorem dX4_isValidRule_52 : decode cX4_isValidRule 52 = .ok (.iload_n 1, 1) := dk_27 (dk_at dksX4_isValidRule_2 4 rfl rfl)
theorem dX4_isValidRule_53 : decode cX4_isValidRule 53 = .ok (.aload_n 0, 1) := dk_42 (dk_at dksX4_isValidRule_2 5 rfl rfl)
theorem dX4_isValidRule_54 : decode cX4_isValidRule 54 = .ok (.getfield 43, 3) := dk_180 0 43 (dk_at dksX4_isValidRule_2 6 rfl rfl)
theorem dX4_isValidRule_57 : decode cX4_isValidRule 57 = .ok (.iload_n 2, 1) := dk_28 (dk_at dksX4_isValidRule_2 9 rfl rfl)
theorem dX4_isValidRule_58 : decode cX4_isValidRule 58 = .ok (.iaload, 1) := dk_46 (dk_at dksX4_isValidRule_2 10 rfl rfl)
theorem dX4_isValidRule_59 : decode cX4_isValidRule 59 = .ok (.invokestatic 109, 3) := dk_184 0 109 (dk_at dksX4_isValidRule_2 11 rfl rfl)
theorem dX4_isValidRule_62 : decode cX4_isValidRule 62 = .ok (.ifCond .ne 7, 3) := dk_154 0 7 (dk_at dksX4_isValidRule_2 14 rfl rfl)
theorem dX4_isValidRule_65 : decode cX4_isValidRule 65 = .ok (.iconst 1, 1) := dk_4 (dk_at dksX4_isValidRule_2 17 rfl rfl)
theorem dX4_isValidRule_66 : decode cX4_isValidRule 66 = .ok (.goto 4, 3) := dk_167 0 4 (dk_at dksX4_isValidRule_2 18 rfl rfl)
theorem dX4_isValidRule_69 : decode cX4_isValidRule 69 = .ok (.iconst 0, 1) := dk_3 (dk_at dksX4_isValidRule_2 21 rfl rfl)
theorem dX4_isValidRule_70 : decode cX4_isValidRule 70 = .ok (.iand, 1) := dk_126 (dk_at dksX4_isValidRule_2 22 rfl rfl)
theorem dX4_isValidRule_71 : decode cX4_isValidRule 71 = .ok (.istore_n 1, 1) := dk_60 (dk_at dksX4_isValidRule_2 23 rfl rfl)
theorem dX4_isValidRule_72 : decode cX4_isValidRule 72 = .ok (.iinc 2 1, 3) := dk_132 2 1 (dk_at dksX4_isValidRule_3 0 rfl rfl)
theorem dX4_isValidRule_75 : decode cX4_isValidRule 75 = .ok (.goto (-33), 3) := dk_167 255 223 (dk_at dksX4_isValidRule_3 3 rfl rfl)
theorem dX4_isValidRule_78 : decode cX4_isValidRule 78 = .ok (.iconst 1, 1) := dk_4 (dk_at dksX4_isValidRule_3 6 rfl rfl)
theorem dX4_isValidRule_79 : decode cX4_isValidRule 79 = .ok (.istore_n 2, 1) := dk_61 (dk_at dksX4_isValidRule_3 7 rfl rfl)
theorem dX4_isValidRule_80 : decode cX4_isValidRule 80 = .ok (.iload_n 2, 1) := dk_28 (dk_at dksX4_isValidRule_3 8 rfl rfl)
theorem dX4_isValidRule_81 : decode cX4_isValidRule 81 = .ok (.aload_n 0, 1) := dk_42 (dk_at dksX4_isValidRule_3 9 rfl rfl)
theorem dX4_isValidRule_82 : decode cX4_isValidRule 82 = .ok (.getfield 40, 3) := dk_180 0 40 (dk_at dksX4_isValidRule_3 10 rfl rfl)
theorem dX4_isValidRule_85 : decode cX4_isValidRule 85 = .ok (.iconst 0, 1) := dk_3 (dk_at dksX4_isValidRule_3 13 rfl rfl)
theorem dX4_isValidRule_86 : decode cX4_isValidRule 86 = .ok (.iaload, 1) := dk_46 (dk_at dksX4_isValidRule_3 14 rfl rfl)
theorem dX4_isValidRule_87 : decode cX4_isValidRule 87 = .ok (.if_icmp .gt 45, 3) := dk_163 0 45 (dk_at dksX4_isValidRule_3 15 rfl rfl)
theorem dX4_isValidRule_90 : decode cX4_isValidRule 90 = .ok (.iload_n 1, 1) := dk_27 (dk_at dksX4_isValidRule_3 18 rfl rfl)
theorem dX4_isValidRule_91 : decode cX4_isValidRule 91 = .ok (.aload_n 0, 1) := dk_42 (dk_at dksX4_isValidRule_3 19 rfl rfl)
theorem dX4_isValidRule_92 : decode cX4_isValidRule 92 = .ok (.getfield 40, 3) := dk_180 0 40 (dk_at dksX4_isValidRule_3 20 rfl rfl)
theorem dX4_isValidRule_95 : decode cX4_isValidRule 95 = .ok (.iload_n 2, 1) := dk_28 (dk_at dksX4_isValidRule_3 23 rfl rfl)
theorem dX4_isValidRule_96 : decode cX4_isValidRule 96 = .ok (.iaload, 1) := dk_46 (dk_at dksX4_isValidRule_4 0 rfl rfl)
theorem dX4_isValidRule_97 : decode cX4_isValidRule 97 = .ok (.invokestatic 128, 3) := dk_184 0 128 (dk_at dksX4_isValidRule_4 1 rfl rfl)
theorem dX4_isValidRule_100 : decode cX4_isValidRule 100 = .ok (.ifCond .eq 19, 3) := dk_153 0 19 (dk_at dksX4_isValidRule_4 4 rfl rfl)
theorem dX4_isValidRule_103 : decode cX4_isValidRule 103 = .ok (.aload_n 0, 1) := dk_42 (dk_at dksX4_isValidRule_4 7 rfl rfl)
theorem dX4_isValidRule_104 : decode cX4_isValidRule 104 = .ok (.getfield 43, 3) := dk_180 0 43 (dk_at dksX4_isValidRule_4 8 rfl rfl)
theorem dX4_isValidRule_107 : decode cX4_isValidRule 107 = .ok (.aload_n 0, 1) := dk_42 (dk_at dksX4_isValidRule_4 11 rfl rfl)
theorem dX4_isValidRule_108 : decode cX4_isValidRule 108 = .ok (.getfield 40, 3) := dk_180 0 40 (dk_at dksX4_isValidRule_4 12 rfl rfl)
theorem dX4_isValidRule_111 : decode cX4_isValidRule 111 = .ok (.iload_n 2, 1) := dk_28 (dk_at dksX4_isValidRule_4 15 rfl rfl)
theorem dX4_isValidRule_112 : decode cX4_isValidRule 112 = .ok (.iaload, 1) := dk_46 (dk_at dksX4_isValidRule_4 16 rfl rfl)
theorem dX4_isValidRule_113 : decode cX4_isValidRule 113 = .ok (.invokestatic 165, 3) := dk_184 0 165 (dk_at dksX4_isValidRule_4 17 rfl rfl)
theorem dX4_isValidRule_116 : decode cX4_isValidRule 116 = .ok (.ifCond .eq 7, 3) := dk_153 0 7 (dk_at dksX4_isValidRule_4 20 rfl rfl)
theorem dX4_isValidRule_119 : decode cX4_isValidRule 119 = .ok (.iconst 1, 1) := dk_4 (dk_at dksX4_isValidRule_4 23 rfl rfl)
theorem dX4_isValidRule_120 : decode cX4_isValidRule 120 = .ok (.goto 4, 3) := dk_167 0 4 (dk_at dksX4_isValidRule_5 0 rfl rfl)
theorem dX4_isValidRule_123 : decode cX4_isValidRule 123 = .ok (.iconst 0, 1) := dk_3 (dk_at dksX4_isValidRule_5 3 rfl rfl)
theorem dX4_isValidRule_124 : decode cX4_isValidRule 124 = .ok (.iand, 1) := dk_126 (dk_at dksX4_isValidRule_5 4 rfl rfl)
theorem dX4_isValidRule_125 : decode cX4_isValidRule 125 = .ok (.istore_n 1, 1) := dk_60 (dk_at dksX4_isValidRule_5 5 rfl rfl)
theorem dX4_isValidRule_126 : decode cX4_isValidRule 126 = .ok (.iinc 2 1, 3) := dk_132 2 1 (dk_at dksX4_isValidRule_5 6 rfl rfl)
theorem dX4_isValidRule_129 : decode cX4_isValidRule 129 = .ok (.goto (-49), 3) := dk_167 255 207 (dk_at dksX4_isValidRule_5 9 rfl rfl)
theorem dX4_isValidRule_132 : decode cX4_isValidRule 132 = .ok (.iload_n 1, 1) := dk_27 (dk_at dksX4_isValidRule_5 12 rfl rfl)
theorem dX4_isValidRule_133 : decode cX4_isValidRule 133 = .ok (.ireturn, 1) := dk_172 (dk_at dksX4_isValidRule_5 13 rfl rfl)
abbrev cX4_hasSymbol : ByteArray := prog_10_method_26_code
def yX4_hasSymbol : MethodName := ⟨RX4, "hasSymbol", "([II)Z"⟩
def dkwX4_hasSymbol_1 : List UInt8 := [128, 61, 132, 3, 1, 167, 255, 231, 28, 172]
abbrev dktX4_hasSymbol_1 : List UInt8 := dkwX4_hasSymbol_1 ++ []
def dkwX4_hasSymbol_0 : List UInt8 := [3, 61, 4, 62, 29, 42, 3, 46, 163, 0, 24, 28, 42, 29, 46, 27, 160, 0, 7, 4, 167, 0, 4, 3]
abbrev dktX4_hasSymbol_0 : List UInt8 := dkwX4_hasSymbol_0 ++ dktX4_hasSymbol_1
theorem dksX4_hasSymbol_0 : cX4_hasSymbol.data.toList.drop 0 = dktX4_hasSymbol_0 := by decide +kernel
theorem dksX4_hasSymbol_1 : cX4_hasSymbol.data.toList.drop 24 = dktX4_hasSymbol_1 := dk_seg dksX4_hasSymbol_0 24 rfl rfl
theorem dX4_hasSymbol_0 : decode cX4_hasSymbol 0 = .ok (.iconst 0, 1) := dk_3 (dk_at dksX4_hasSymbol_0 0 rfl rfl)
theorem dX4_hasSymbol_1 : decode cX4_hasSymbol 1 = .ok (.istore_n 2, 1) := dk_61 (dk_at dksX4_hasSymbol_0 1 rfl rfl)
theorem dX4_hasSymbol_2 : decode cX4_hasSymbol 2 = .ok (.iconst 1, 1) := dk_4 (dk_at dksX4_hasSymbol_0 2 rfl rfl)
theorem dX4_hasSymbol_3 : decode cX4_hasSymbol 3 = .ok (.istore_n 3, 1) := dk_62 (dk_at dksX4_hasSymbol_0 3 rfl rfl)
theorem dX4_hasSymbol_4 : decode cX4_hasSymbol 4 = .ok (.iload_n 3, 1) := dk_29 (dk_at dksX4_hasSymbol_0 4 rfl rfl)
theorem dX4_hasSymbol_5 : decode cX4_hasSymbol 5 = .ok (.aload_n 0, 1) := dk_42 (dk_at dksX4_hasSymbol_0 5 rfl rfl)
theorem dX4_hasSymbol_6 : decode cX4_hasSymbol 6 = .ok (.iconst 0, 1) := dk_3 (dk_at dksX4_hasSymbol_0 6 rfl rfl)
theorem dX4_hasSymbol_7 : decode cX4_hasSymbol 7 = .ok (.iaload, 1) := dk_46 (dk_at dksX4_hasSymbol_0 7 rfl rfl)
theorem dX4_hasSymbol_8 : decode cX4_hasSymbol 8 = .ok (.if_icmp .gt 24, 3) := dk_163 0 24 (dk_at dksX4_hasSymbol_0 8 rfl rfl)
theorem dX4_hasSymbol_11 : decode cX4_hasSymbol 11 = .ok (.iload_n 2, 1) := dk_28 (dk_at dksX4_hasSymbol_0 11 rfl rfl)
theorem dX4_hasSymbol_12 : decode cX4_hasSymbol 12 = .ok (.aload_n 0, 1) := dk_42 (dk_at dksX4_hasSymbol_0 12 rfl rfl)
theorem dX4_hasSymbol_13 : decode cX4_hasSymbol 13 = .ok (.iload_n 3, 1) := dk_29 (dk_at dksX4_hasSymbol_0 13 rfl rfl)
theorem dX4_hasSymbol_14 : decode cX4_hasSymbol 14 = .ok (.iaload, 1) := dk_46 (dk_at dksX4_hasSymbol_0 14 rfl rfl)
theorem dX4_hasSymbol_15 : decode cX4_hasSymbol 15 = .ok (.iload_n 1, 1) := dk_27 (dk_at dksX4_hasSymbol_0 15 rfl rfl)
theorem dX4_hasSymbol_16 : decode cX4_hasSymbol 16 = .ok (.if_icmp .ne 7, 3) := dk_160 0 7 (dk_at dksX4_hasSymbol_0 16 rfl rfl)
theorem dX4_hasSymbol_19 : decode cX4_hasSymbol 19 = .ok (.iconst 1, 1) := dk_4 (dk_at dksX4_hasSymbol_0 19 rfl rfl)
theorem dX4_hasSymbol_20 : decode cX4_hasSymbol 20 = .ok (.goto 4, 3) := dk_167 0 4 (dk_at dksX4_hasSymbol_0 20 rfl rfl)
theorem dX4_hasSymbol_23 : decode cX4_hasSymbol 23 = .ok (.iconst 0, 1) := dk_3 (dk_at dksX4_hasSymbol_0 23 rfl rfl)
theorem dX4_hasSymbol_24 : decode cX4_hasSymbol 24 = .ok (.ior, 1) := dk_128 (dk_at dksX4_hasSymbol_1 0 rfl rfl)
theorem dX4_hasSymbol_25 : decode cX4_hasSymbol 25 = .ok (.istore_n 2, 1) := dk_61 (dk_at dksX4_hasSymbol_1 1 rfl rfl)
theorem dX4_hasSymbol_26 : decode cX4_hasSymbol 26 = .ok (.iinc 3 1, 3) := dk_132 3 1 (dk_at dksX4_hasSymbol_1 2 rfl rfl)
theorem dX4_hasSymbol_29 : decode cX4_hasSymbol 29 = .ok (.goto (-25), 3) := dk_167 255 231 (dk_at dksX4_hasSymbol_1 5 rfl rfl)
theorem dX4_hasSymbol_32 : decode cX4_hasSymbol 32 = .ok (.iload_n 2, 1) := dk_28 (dk_at dksX4_hasSymbol_1 8 rfl rfl)
theorem dX4_hasSymbol_33 : decode cX4_hasSymbol 33 = .ok (.ireturn, 1) := dk_172 (dk_at dksX4_hasSymbol_1 9 rfl rfl)
abbrev cX4_left : ByteArray := prog_10_method_12_code
def yX4_left : MethodName := ⟨RX4, "left", "(I)I"⟩
def dkwX4_left_0 : List UInt8 := [5, 26, 104, 16, 96, 104, 172]
abbrev dktX4_left_0 : List UInt8 := dkwX4_left_0 ++ []
theorem dksX4_left_0 : cX4_left.data.toList.drop 0 = dktX4_left_0 := by decide +kernel
theorem dX4_left_0 : decode cX4_left 0 = .ok (.iconst 2, 1) := dk_5 (dk_at dksX4_left_0 0 rfl rfl)
theorem dX4_left_1 : decode cX4_left 1 = .ok (.iload_n 0, 1) := dk_26 (dk_at dksX4_left_0 1 rfl rfl)
theorem dX4_left_2 : decode cX4_left 2 = .ok (.imul, 1) := dk_104 (dk_at dksX4_left_0 2 rfl rfl)
theorem dX4_left_3 : decode cX4_left 3 = .ok (.bipush 96, 2) := dk_16 96 (dk_at dksX4_left_0 3 rfl rfl)
theorem dX4_left_5 : decode cX4_left 5 = .ok (.imul, 1) := dk_104 (dk_at dksX4_left_0 5 rfl rfl)
theorem dX4_left_6 : decode cX4_left 6 = .ok (.ireturn, 1) := dk_172 (dk_at dksX4_left_0 6 rfl rfl)
abbrev cX4_right : ByteArray := prog_10_method_13_code
def yX4_right : MethodName := ⟨RX4, "right", "(I)I"⟩
def dkwX4_right_0 : List UInt8 := [5, 26, 104, 4, 96, 16, 96, 104, 172]
abbrev dktX4_right_0 : List UInt8 := dkwX4_right_0 ++ []
theorem dksX4_right_0 : cX4_right.data.toList.drop 0 = dktX4_right_0 := by decide +kernel
theorem dX4_right_0 : decode cX4_right 0 = .ok (.iconst 2, 1) := dk_5 (dk_at dksX4_right_0 0 rfl rfl)
theorem dX4_right_1 : decode cX4_right 1 = .ok (.iload_n 0, 1) := dk_26 (dk_at dksX4_right_0 1 rfl rfl)
theorem dX4_right_2 : decode cX4_right 2 = .ok (.imul, 1) := dk_104 (dk_at dksX4_right_0 2 rfl rfl)
theorem dX4_right_3 : decode cX4_right 3 = .ok (.iconst 1, 1) := dk_4 (dk_at dksX4_right_0 3 rfl rfl)
theorem dX4_right_4 : decode cX4_right 4 = .ok (.iadd, 1) := dk_96 (dk_at dksX4_right_0 4 rfl rfl)
theorem dX4_right_5 : decode cX4_right 5 = .ok (.bipush 96, 2) := dk_16 96 (dk_at dksX4_right_0 5 rfl rfl)
theorem dX4_right_7 : decode cX4_right 7 = .ok (.imul, 1) := dk_104 (dk_at dksX4_right_0 7 rfl rfl)
theorem dX4_right_8 : decode cX4_right 8 = .ok (.ireturn, 1) := dk_172 (dk_at dksX4_right_0 8 rfl rfl)
abbrev cX4_removeRule : ByteArray := prog_10_method_29_code
def yX4_removeRule : MethodName := ⟨RX4, "removeRule", "(I)I"⟩
def dkwX4_removeRule_2 : List UInt8 := [132, 2, 1, 167, 255, 224, 42, 89, 180, 0, 121, 4, 100, 181, 0, 121, 42, 180, 0, 121, 172]
abbrev dktX4_removeRule_2 : List UInt8 := dkwX4_removeRule_2 ++ []
def dkwX4_removeRule_1 : List UInt8 := [184, 0, 125, 162, 0, 25, 42, 180, 0, 16, 28, 42, 180, 0, 16, 28, 17, 0, 192, 96, 46, 79]
abbrev dktX4_removeRule_1 : List UInt8 := dkwX4_removeRule_1 ++ dktX4_removeRule_2
def dkwX4_removeRule_0 : List UInt8 := [42, 27, 182, 0, 176, 154, 0, 5, 2, 172, 27, 184, 0, 125, 61, 28, 42, 180, 0, 121, 4, 100]
abbrev dktX4_removeRule_0 : List UInt8 := dkwX4_removeRule_0 ++ dktX4_removeRule_1
theorem dksX4_removeRule_0 : cX4_removeRule.data.toList.drop 0 = dktX4_removeRule_0 := by decide +kernel
theorem dksX4_removeRule_1 : cX4_removeRule.data.toList.drop 22 = dktX4_removeRule_1 := dk_seg dksX4_removeRule_0 22 rfl rfl
theorem dksX4_removeRule_2 : cX4_removeRule.data.toList.drop 44 = dktX4_removeRule_2 := dk_seg dksX4_removeRule_1 22 rfl rfl
theorem dX4_removeRule_0 : decode cX4_removeRule 0 = .ok (.aload_n 0, 1) := dk_42 (dk_at dksX4_removeRule_0 0 rfl rfl)
theorem dX4_removeRule_1 : decode cX4_removeRule 1 = .ok (.iload_n 1, 1) := dk_27 (dk_at dksX4_removeRule_0 1 rfl rfl)
theorem dX4_removeRule_2 : decode cX4_removeRule 2 = .ok (.invokevirtual 176, 3) := dk_182 0 176 (dk_at dksX4_removeRule_0 2 rfl rfl)
theorem dX4_removeRule_5 : decode cX4_removeRule 5 = .ok (.ifCond .ne 5, 3) := dk_154 0 5 (dk_at dksX4_removeRule_0 5 rfl rfl)
theorem dX4_removeRule_8 : decode cX4_removeRule 8 = .ok (.iconst (-1), 1) := dk_2 (dk_at dksX4_removeRule_0 8 rfl rfl)
theorem dX4_removeRule_9 : decode cX4_removeRule 9 = .ok (.ireturn, 1) := dk_172 (dk_at dksX4_removeRule_0 9 rfl rfl)
theorem dX4_removeRule_10 : decode cX4_removeRule 10 = .ok (.iload_n 1, 1) := dk_27 (dk_at dksX4_removeRule_0 10 rfl rfl)
theorem dX4_removeRule_11 : decode cX4_removeRule 11 = .ok (.invokestatic 125, 3) := dk_184 0 125 (dk_at dksX4_removeRule_0 11 rfl rfl)
theorem dX4_removeRule_14 : decode cX4_removeRule 14 = .ok (.istore_n 2, 1) := dk_61 (dk_at dksX4_removeRule_0 14 rfl rfl)
theorem dX4_removeRule_15 : decode cX4_removeRule 15 = .ok (.iload_n 2, 1) := dk_28 (dk_at dksX4_removeRule_0 15 rfl rfl)
theorem dX4_removeRule_16 : decode cX4_removeRule 16 = .ok (.aload_n 0, 1) := dk_42 (dk_at dksX4_removeRule_0 16 rfl rfl)
theorem dX4_removeRule_17 : decode cX4_removeRule 17 = .ok (.getfield 121, 3) := dk_180 0 121 (dk_at dksX4_removeRule_0 17 rfl rfl)
theorem dX4_removeRule_20 : decode cX4_removeRule 20 = .ok (.iconst 1, 1) := dk_4 (dk_at dksX4_removeRule_0 20 rfl rfl)
theorem dX4_removeRule_21 : decode cX4_removeRule 21 = .ok (.isub, 1) := dk_100 (dk_at dksX4_removeRule_0 21 rfl rfl)
theorem dX4_removeRule_22 : decode cX4_removeRule 22 = .ok (.invokestatic 125, 3) := dk_184 0 125 (dk_at dksX4_removeRule_1 0 rfl rfl)
theorem dX4_removeRule_25 : decode cX4_removeRule 25 = .ok (.if_icmp .ge 25, 3) := dk_162 0 25 (dk_at dksX4_removeRule_1 3 rfl rfl)
theorem dX4_removeRule_28 : decode cX4_removeRule 28 = .ok (.aload_n 0, 1) := dk_42 (dk_at dksX4_removeRule_1 6 rfl rfl)
theorem dX4_removeRule_29 : decode cX4_removeRule 29 = .ok (.getfield 16, 3) := dk_180 0 16 (dk_at dksX4_removeRule_1 7 rfl rfl)
theorem dX4_removeRule_32 : decode cX4_removeRule 32 = .ok (.iload_n 2, 1) := dk_28 (dk_at dksX4_removeRule_1 10 rfl rfl)
theorem dX4_removeRule_33 : decode cX4_removeRule 33 = .ok (.aload_n 0, 1) := dk_42 (dk_at dksX4_removeRule_1 11 rfl rfl)
theorem dX4_removeRule_34 : decode cX4_removeRule 34 = .ok (.getfield 16, 3) := dk_180 0 16 (dk_at dksX4_removeRule_1 12 rfl rfl)
theorem dX4_removeRule_37 : decode cX4_removeRule 37 = .ok (.iload_n 2, 1) := dk_28 (dk_at dksX4_removeRule_1 15 rfl rfl)
theorem dX4_removeRule_38 : decode cX4_removeRule 38 = .ok (.sipush 192, 3) := dk_17 0 192 (dk_at dksX4_removeRule_1 16 rfl rfl)
theorem dX4_removeRule_41 : decode cX4_removeRule 41 = .ok (.iadd, 1) := dk_96 (dk_at dksX4_removeRule_1 19 rfl rfl)
theorem dX4_removeRule_42 : decode cX4_removeRule 42 = .ok (.iaload, 1) := dk_46 (dk_at dksX4_removeRule_1 20 rfl rfl)
theorem dX4_removeRule_43 : decode cX4_removeRule 43 = .ok (.iastore, 1) := dk_79 (dk_at dksX4_removeRule_1 21 rfl rfl)
theorem dX4_removeRule_44 : decode cX4_removeRule 44 = .ok (.iinc 2 1, 3) := dk_132 2 1 (dk_at dksX4_removeRule_2 0 rfl rfl)
theorem dX4_removeRule_47 : decode cX4_removeRule 47 = .ok (.goto (-32), 3) := dk_167 255 224 (dk_at dksX4_removeRule_2 3 rfl rfl)
theorem dX4_removeRule_50 : decode cX4_removeRule 50 = .ok (.aload_n 0, 1) := dk_42 (dk_at dksX4_removeRule_2 6 rfl rfl)
theorem dX4_removeRule_51 : decode cX4_removeRule 51 = .ok (.dup, 1) := dk_89 (dk_at dksX4_removeRule_2 7 rfl rfl)
theorem dX4_removeRule_52 : decode cX4_removeRule 52 = .ok (.getfield 121, 3) := dk_180 0 121 (dk_at dksX4_removeRule_2 8 rfl rfl)
theorem dX4_removeRule_55 : decode cX4_removeRule 55 = .ok (.iconst 1, 1) := dk_4 (dk_at dksX4_removeRule_2 11 rfl rfl)
theorem dX4_removeRule_56 : decode cX4_removeRule 56 = .ok (.isub, 1) := dk_100 (dk_at dksX4_removeRule_2 12 rfl rfl)
theorem dX4_removeRule_57 : decode cX4_removeRule 57 = .ok (.putfield 121, 3) := dk_181 0 121 (dk_at dksX4_removeRule_2 13 rfl rfl)
theorem dX4_removeRule_60 : decode cX4_removeRule 60 = .ok (.aload_n 0, 1) := dk_42 (dk_at dksX4_removeRule_2 16 rfl rfl)
theorem dX4_removeRule_61 : decode cX4_removeRule 61 = .ok (.getfield 121, 3) := dk_180 0 121 (dk_at dksX4_removeRule_2 17 rfl rfl)
theorem dX4_removeRule_64 : decode cX4_removeRule 64 = .ok (.ireturn, 1) := dk_172 (dk_at dksX4_removeRule_2 20 rfl rfl)
abbrev cX4_isRule : ByteArray := prog_10_method_14_code
def yX4_isRule : MethodName := ⟨RX4, "isRule", "(I)Z"⟩
def dkwX4_isRule_0 : List UInt8 := [27, 3, 42, 180, 0, 121, 4, 100, 184, 0, 105, 172]
abbrev dktX4_isRule_0 : List UInt8 := dkwX4_isRule_0 ++ []
theorem dksX4_isRule_0 : cX4_isRule.data.toList.drop 0 = dktX4_isRule_0 := by decide +kernel
theorem dX4_isRule_0 : decode cX4_isRule 0 = .ok (.iload_n 1, 1) := dk_27 (dk_at dksX4_isRule_0 0 rfl rfl)
theorem dX4_isRule_1 : decode cX4_isRule 1 = .ok (.iconst 0, 1) := dk_3 (dk_at dksX4_isRule_0 1 rfl rfl)
theorem dX4_isRule_2 : decode cX4_isRule 2 = .ok (.aload_n 0, 1) := dk_42 (dk_at dksX4_isRule_0 2 rfl rfl)
theorem dX4_isRule_3 : decode cX4_isRule 3 = .ok (.getfield 121, 3) := dk_180 0 121 (dk_at dksX4_isRule_0 3 rfl rfl)
theorem dX4_isRule_6 : decode cX4_isRule 6 = .ok (.iconst 1, 1) := dk_4 (dk_at dksX4_isRule_0 6 rfl rfl)
theorem dX4_isRule_7 : decode cX4_isRule 7 = .ok (.isub, 1) := dk_100 (dk_at dksX4_isRule_0 7 rfl rfl)
theorem dX4_isRule_8 : decode cX4_isRule 8 = .ok (.invokestatic 105, 3) := dk_184 0 105 (dk_at dksX4_isRule_0 8 rfl rfl)
theorem dX4_isRule_11 : decode cX4_isRule 11 = .ok (.ireturn, 1) := dk_172 (dk_at dksX4_isRule_0 11 rfl rfl)
abbrev cX4_ruleCount : ByteArray := prog_10_method_30_code
def yX4_ruleCount : MethodName := ⟨RX4, "ruleCount", "()I"⟩
theorem dX4_ruleCount_0 : decode cX4_ruleCount 0 = .ok (.aload_n 0, 1) := by decide +kernel
theorem dX4_ruleCount_1 : decode cX4_ruleCount 1 = .ok (.getfield 121, 3) := by decide +kernel
theorem dX4_ruleCount_4 : decode cX4_ruleCount 4 = .ok (.ireturn, 1) := by decide +kernel
abbrev cX4_leftSize : ByteArray := prog_10_method_31_code
def yX4_leftSize : MethodName := ⟨RX4, "leftSize", "(I)I"⟩
def dkwX4_leftSize_0 : List UInt8 := [42, 27, 182, 0, 176, 153, 0, 15, 42, 180, 0, 16, 27, 184, 0, 125, 46, 167, 0, 4, 2, 172]
abbrev dktX4_leftSize_0 : List UInt8 := dkwX4_leftSize_0 ++ []
theorem dksX4_leftSize_0 : cX4_leftSize.data.toList.drop 0 = dktX4_leftSize_0 := by decide +kernel
theorem dX4_leftSize_0 : decode cX4_leftSize 0 = .ok (.aload_n 0, 1) := dk_42 (dk_at dksX4_leftSize_0 0 rfl rfl)
theorem dX4_leftSize_1 : decode cX4_leftSize 1 = .ok (.iload_n 1, 1) := dk_27 (dk_at dksX4_leftSize_0 1 rfl rfl)
theorem dX4_leftSize_2 : decode cX4_leftSize 2 = .ok (.invokevirtual 176, 3) := dk_182 0 176 (dk_at dksX4_leftSize_0 2 rfl rfl)
theorem dX4_leftSize_5 : decode cX4_leftSize 5 = .ok (.ifCond .eq 15, 3) := dk_153 0 15 (dk_at dksX4_leftSize_0 5 rfl rfl)
theorem dX4_leftSize_8 : decode cX4_leftSize 8 = .ok (.aload_n 0, 1) := dk_42 (dk_at dksX4_leftSize_0 8 rfl rfl)
theorem dX4_leftSize_9 : decode cX4_leftSize 9 = .ok (.getfield 16, 3) := dk_180 0 16 (dk_at dksX4_leftSize_0 9 rfl rfl)
theorem dX4_leftSize_12 : decode cX4_leftSize 12 = .ok (.iload_n 1, 1) := dk_27 (dk_at dksX4_leftSize_0 12 rfl rfl)
theorem dX4_leftSize_13 : decode cX4_leftSize 13 = .ok (.invokestatic 125, 3) := dk_184 0 125 (dk_at dksX4_leftSize_0 13 rfl rfl)
theorem dX4_leftSize_16 : decode cX4_leftSize 16 = .ok (.iaload, 1) := dk_46 (dk_at dksX4_leftSize_0 16 rfl rfl)
theorem dX4_leftSize_17 : decode cX4_leftSize 17 = .ok (.goto 4, 3) := dk_167 0 4 (dk_at dksX4_leftSize_0 17 rfl rfl)
theorem dX4_leftSize_20 : decode cX4_leftSize 20 = .ok (.iconst (-1), 1) := dk_2 (dk_at dksX4_leftSize_0 20 rfl rfl)
theorem dX4_leftSize_21 : decode cX4_leftSize 21 = .ok (.ireturn, 1) := dk_172 (dk_at dksX4_leftSize_0 21 rfl rfl)
abbrev cX4_rightSize : ByteArray := prog_10_method_32_code
def yX4_rightSize : MethodName := ⟨RX4, "rightSize", "(I)I"⟩
def dkwX4_rightSize_0 : List UInt8 := [42, 27, 182, 0, 176, 153, 0, 15, 42, 180, 0, 16, 27, 184, 0, 145, 46, 167, 0, 4, 2, 172]
abbrev dktX4_rightSize_0 : List UInt8 := dkwX4_rightSize_0 ++ []
theorem dksX4_rightSize_0 : cX4_rightSize.data.toList.drop 0 = dktX4_rightSize_0 := by decide +kernel
theorem dX4_rightSize_0 : decode cX4_rightSize 0 = .ok (.aload_n 0, 1) := dk_42 (dk_at dksX4_rightSize_0 0 rfl rfl)
theorem dX4_rightSize_1 : decode cX4_rightSize 1 = .ok (.iload_n 1, 1) := dk_27 (dk_at dksX4_rightSize_0 1 rfl rfl)
theorem dX4_rightSize_2 : decode cX4_rightSize 2 = .ok (.invokevirtual 176, 3) := dk_182 0 176 (dk_at dksX4_rightSize_0 2 rfl rfl)
theorem dX4_rightSize_5 : decode cX4_rightSize 5 = .ok (.ifCond .eq 15, 3) := dk_153 0 15 (dk_at dksX4_rightSize_0 5 rfl rfl)
theorem dX4_rightSize_8 : decode cX4_rightSize 8 = .ok (.aload_n 0, 1) := dk_42 (dk_at dksX4_rightSize_0 8 rfl rfl)
theorem dX4_rightSize_9 : decode cX4_rightSize 9 = .ok (.getfield 16, 3) := dk_180 0 16 (dk_at dksX4_rightSize_0 9 rfl rfl)
theorem dX4_rightSize_12 : decode cX4_rightSize 12 = .ok (.iload_n 1, 1) := dk_27 (dk_at dksX4_rightSize_0 12 rfl rfl)
theorem dX4_rightSize_13 : decode cX4_rightSize 13 = .ok (.invokestatic 145, 3) := dk_184 0 145 (dk_at dksX4_rightSize_0 13 rfl rfl)
theorem dX4_rightSize_16 : decode cX4_rightSize 16 = .ok (.iaload, 1) := dk_46 (dk_at dksX4_rightSize_0 16 rfl rfl)
theorem dX4_rightSize_17 : decode cX4_rightSize 17 = .ok (.goto 4, 3) := dk_167 0 4 (dk_at dksX4_rightSize_0 17 rfl rfl)
theorem dX4_rightSize_20 : decode cX4_rightSize 20 = .ok (.iconst (-1), 1) := dk_2 (dk_at dksX4_rightSize_0 20 rfl rfl)
theorem dX4_rightSize_21 : decode cX4_rightSize 21 = .ok (.ireturn, 1) := dk_172 (dk_at dksX4_rightSize_0 21 rfl rfl)
abbrev cX4_pairCount : ByteArray := prog_10_method_38_code
def yX4_pairCount : MethodName := ⟨RX4, "pairCount", "()I"⟩
theorem dX4_pairCount_0 : decode cX4_pairCount 0 = .ok (.aload_n 0, 1) := by decide +kernel
theorem dX4_pairCount_1 : decode cX4_pairCount 1 = .ok (.invokevirtual 185, 3) := by decide +kernel
theorem dX4_pairCount_4 : decode cX4_pairCount 4 = .ok (.ireturn, 1) := by decide +kernel
abbrev cX4_findPairs : ByteArray := prog_10_method_33_code
def yX4_findPairs : MethodName := ⟨RX4, "findPairs", "()I"⟩
def dkwX4_findPairs_3 : List UInt8 := [132, 2, 1, 167, 255, 188, 27, 172]
abbrev dktX4_findPairs_3 : List UInt8 := dkwX4_findPairs_3 ++ []
def dkwX4_findPairs_2 : List UInt8 := [180, 0, 46, 27, 28, 79, 42, 180, 0, 49, 27, 29, 79, 132, 1, 1, 132, 3, 1, 167, 255, 204]
abbrev dktX4_findPairs_2 : List UInt8 := dkwX4_findPairs_2 ++ dktX4_findPairs_3
def dkwX4_findPairs_1 : List UInt8 := [162, 0, 45, 42, 180, 0, 16, 28, 184, 0, 145, 4, 96, 29, 96, 46, 184, 0, 109, 153, 0, 20, 42]
abbrev dktX4_findPairs_1 : List UInt8 := dkwX4_findPairs_1 ++ dktX4_findPairs_2
def dkwX4_findPairs_0 : List UInt8 := [3, 60, 3, 61, 28, 42, 180, 0, 121, 162, 0, 66, 3, 62, 29, 42, 180, 0, 16, 28, 184, 0, 145, 46]
abbrev dktX4_findPairs_0 : List UInt8 := dkwX4_findPairs_0 ++ dktX4_findPairs_1
theorem dksX4_findPairs_0 : cX4_findPairs.data.toList.drop 0 = dktX4_findPairs_0 := by decide +kernel
theorem dksX4_findPairs_1 : cX4_findPairs.data.toList.drop 24 = dktX4_findPairs_1 := dk_seg dksX4_findPairs_0 24 rfl rfl
theorem dksX4_findPairs_2 : cX4_findPairs.data.toList.drop 47 = dktX4_findPairs_2 := dk_seg dksX4_findPairs_1 23 rfl rfl
theorem dksX4_findPairs_3 : cX4_findPairs.data.toList.drop 69 = dktX4_findPairs_3 := dk_seg dksX4_findPairs_2 22 rfl rfl
theorem dX4_findPairs_0 : decode cX4_findPairs 0 = .ok (.iconst 0, 1) := dk_3 (dk_at dksX4_findPairs_0 0 rfl rfl)
theorem dX4_findPairs_1 : decode cX4_findPairs 1 = .ok (.istore_n 1, 1) := dk_60 (dk_at dksX4_findPairs_0 1 rfl rfl)
theorem dX4_findPairs_2 : decode cX4_findPairs 2 = .ok (.iconst 0, 1) := dk_3 (dk_at dksX4_findPairs_0 2 rfl rfl)
theorem dX4_findPairs_3 : decode cX4_findPairs 3 = .ok (.istore_n 2, 1) := dk_61 (dk_at dksX4_findPairs_0 3 rfl rfl)
theorem dX4_findPairs_4 : decode cX4_findPairs 4 = .ok (.iload_n 2, 1) := dk_28 (dk_at dksX4_findPairs_0 4 rfl rfl)
theorem dX4_findPairs_5 : decode cX4_findPairs 5 = .ok (.aload_n 0, 1) := dk_42 (dk_at dksX4_findPairs_0 5 rfl rfl)
theorem dX4_findPairs_6 : decode cX4_findPairs 6 = .ok (.getfield 121, 3) := dk_180 0 121 (dk_at dksX4_findPairs_0 6 rfl rfl)
theorem dX4_findPairs_9 : decode cX4_findPairs 9 = .ok (.if_icmp .ge 66, 3) := dk_162 0 66 (dk_at dksX4_findPairs_0 9 rfl rfl)
theorem dX4_findPairs_12 : decode cX4_findPairs 12 = .ok (.iconst 0, 1) := dk_3 (dk_at dksX4_findPairs_0 12 rfl rfl)
theorem dX4_findPairs_13 : decode cX4_findPairs 13 = .ok (.istore_n 3, 1) := dk_62 (dk_at dksX4_findPairs_0 13 rfl rfl)
theorem dX4_findPairs_14 : decode cX4_findPairs 14 = .ok (.iload_n 3, 1) := dk_29 (dk_at dksX4_findPairs_0 14 rfl rfl)
theorem dX4_findPairs_15 : decode cX4_findPairs 15 = .ok (.aload_n 0, 1) := dk_42 (dk_at dksX4_findPairs_0 15 rfl rfl)
theorem dX4_findPairs_16 : decode cX4_findPairs 16 = .ok (.getfield 16, 3) := dk_180 0 16 (dk_at dksX4_findPairs_0 16 rfl rfl)
theorem dX4_findPairs_19 : decode cX4_findPairs 19 = .ok (.iload_n 2, 1) := dk_28 (dk_at dksX4_findPairs_0 19 rfl rfl)
theorem dX4_findPairs_20 : decode cX4_findPairs 20 = .ok (.invokestatic 145, 3) := dk_184 0 145 (dk_at dksX4_findPairs_0 20 rfl rfl)
theorem dX4_findPairs_23 : decode cX4_findPairs 23 = .ok (.iaload, 1) := dk_46 (dk_at dksX4_findPairs_0 23 rfl rfl)
theorem dX4_findPairs_24 : decode cX4_findPairs 24 = .ok (.if_icmp .ge 45, 3) := dk_162 0 45 (dk_at dksX4_findPairs_1 0 rfl rfl)
theorem dX4_findPairs_27 : decode cX4_findPairs 27 = .ok (.aload_n 0, 1) := dk_42 (dk_at dksX4_findPairs_1 3 rfl rfl)
theorem dX4_findPairs_28 : decode cX4_findPairs 28 = .ok (.getfield 16, 3) := dk_180 0 16 (dk_at dksX4_findPairs_1 4 rfl rfl)
theorem dX4_findPairs_31 : decode cX4_findPairs 31 = .ok (.iload_n 2, 1) := dk_28 (dk_at dksX4_findPairs_1 7 rfl rfl)
theorem dX4_findPairs_32 : decode cX4_findPairs 32 = .ok (.invokestatic 145, 3) := dk_184 0 145 (dk_at dksX4_findPairs_1 8 rfl rfl)
theorem dX4_findPairs_35 : decode cX4_findPairs 35 = .ok (.iconst 1, 1) := dk_4 (dk_at dksX4_findPairs_1 11 rfl rfl)
theorem dX4_findPairs_36 : decode cX4_findPairs 36 = .ok (.iadd, 1) := dk_96 (dk_at dksX4_findPairs_1 12 rfl rfl)
theorem dX4_findPairs_37 : decode cX4_findPairs 37 = .ok (.iload_n 3, 1) := dk_29 (dk_at dksX4_findPairs_1 13 rfl rfl)
theorem dX4_findPairs_38 : decode cX4_findPairs 38 = .ok (.iadd, 1) := dk_96 (dk_at dksX4_findPairs_1 14 rfl rfl)
theorem dX4_findPairs_39 : decode cX4_findPairs 39 = .ok (.iaload, 1) := dk_46 (dk_at dksX4_findPairs_1 15 rfl rfl)
theorem dX4_findPairs_40 : decode cX4_findPairs 40 = .ok (.invokestatic 109, 3) := dk_184 0 109 (dk_at dksX4_findPairs_1 16 rfl rfl)
theorem dX4_findPairs_43 : decode cX4_findPairs 43 = .ok (.ifCond .eq 20, 3) := dk_153 0 20 (dk_at dksX4_findPairs_1 19 rfl rfl)
theorem dX4_findPairs_46 : decode cX4_findPairs 46 = .ok (.aload_n 0, 1) := dk_42 (dk_at dksX4_findPairs_1 22 rfl rfl)
theorem dX4_findPairs_47 : decode cX4_findPairs 47 = .ok (.getfield 46, 3) := dk_180 0 46 (dk_at dksX4_findPairs_2 0 rfl rfl)
theorem dX4_findPairs_50 : decode cX4_findPairs 50 = .ok (.iload_n 1, 1) := dk_27 (dk_at dksX4_findPairs_2 3 rfl rfl)
theorem dX4_findPairs_51 : decode cX4_findPairs 51 = .ok (.iload_n 2, 1) := dk_28 (dk_at dksX4_findPairs_2 4 rfl rfl)
theorem dX4_findPairs_52 : decode cX4_findPairs 52 = .ok (.iastore, 1) := dk_79 (dk_at dksX4_findPairs_2 5 rfl rfl)
theorem dX4_findPairs_53 : decode cX4_findPairs 53 = .ok (.aload_n 0, 1) := dk_42 (dk_at dksX4_findPairs_2 6 rfl rfl)
theorem dX4_findPairs_54 : decode cX4_findPairs 54 = .ok (.getfield 49, 3) := dk_180 0 49 (dk_at dksX4_findPairs_2 7 rfl rfl)
theorem dX4_findPairs_57 : decode cX4_findPairs 57 = .ok (.iload_n 1, 1) := dk_27 (dk_at dksX4_findPairs_2 10 rfl rfl)
theorem dX4_findPairs_58 : decode cX4_findPairs 58 = .ok (.iload_n 3, 1) := dk_29 (dk_at dksX4_findPairs_2 11 rfl rfl)
theorem dX4_findPairs_59 : decode cX4_findPairs 59 = .ok (.iastore, 1) := dk_79 (dk_at dksX4_findPairs_2 12 rfl rfl)
theorem dX4_findPairs_60 : decode cX4_findPairs 60 = .ok (.iinc 1 1, 3) := dk_132 1 1 (dk_at dksX4_findPairs_2 13 rfl rfl)
theorem dX4_findPairs_63 : decode cX4_findPairs 63 = .ok (.iinc 3 1, 3) := dk_132 3 1 (dk_at dksX4_findPairs_2 16 rfl rfl)
theorem dX4_findPairs_66 : decode cX4_findPairs 66 = .ok (.goto (-52), 3) := dk_167 255 204 (dk_at dksX4_findPairs_2 19 rfl rfl)
theorem dX4_findPairs_69 : decode cX4_findPairs 69 = .ok (.iinc 2 1, 3) := dk_132 2 1 (dk_at dksX4_findPairs_3 0 rfl rfl)
theorem dX4_findPairs_72 : decode cX4_findPairs 72 = .ok (.goto (-68), 3) := dk_167 255 188 (dk_at dksX4_findPairs_3 3 rfl rfl)
theorem dX4_findPairs_75 : decode cX4_findPairs 75 = .ok (.iload_n 1, 1) := dk_27 (dk_at dksX4_findPairs_3 6 rfl rfl)
theorem dX4_findPairs_76 : decode cX4_findPairs 76 = .ok (.ireturn, 1) := dk_172 (dk_at dksX4_findPairs_3 7 rfl rfl)
abbrev cX4_pairRule : ByteArray := prog_10_method_40_code
def yX4_pairRule : MethodName := ⟨RX4, "pairRule", "(I)I"⟩
def dkwX4_pairRule_0 : List UInt8 := [42, 27, 182, 0, 188, 153, 0, 12, 42, 180, 0, 46, 27, 46, 167, 0, 4, 2, 172]
abbrev dktX4_pairRule_0 : List UInt8 := dkwX4_pairRule_0 ++ []
theorem dksX4_pairRule_0 : cX4_pairRule.data.toList.drop 0 = dktX4_pairRule_0 := by decide +kernel
theorem dX4_pairRule_0 : decode cX4_pairRule 0 = .ok (.aload_n 0, 1) := dk_42 (dk_at dksX4_pairRule_0 0 rfl rfl)
theorem dX4_pairRule_1 : decode cX4_pairRule 1 = .ok (.iload_n 1, 1) := dk_27 (dk_at dksX4_pairRule_0 1 rfl rfl)
theorem dX4_pairRule_2 : decode cX4_pairRule 2 = .ok (.invokevirtual 188, 3) := dk_182 0 188 (dk_at dksX4_pairRule_0 2 rfl rfl)
theorem dX4_pairRule_5 : decode cX4_pairRule 5 = .ok (.ifCond .eq 12, 3) := dk_153 0 12 (dk_at dksX4_pairRule_0 5 rfl rfl)
theorem dX4_pairRule_8 : decode cX4_pairRule 8 = .ok (.aload_n 0, 1) := dk_42 (dk_at dksX4_pairRule_0 8 rfl rfl)
theorem dX4_pairRule_9 : decode cX4_pairRule 9 = .ok (.getfield 46, 3) := dk_180 0 46 (dk_at dksX4_pairRule_0 9 rfl rfl)
theorem dX4_pairRule_12 : decode cX4_pairRule 12 = .ok (.iload_n 1, 1) := dk_27 (dk_at dksX4_pairRule_0 12 rfl rfl)
theorem dX4_pairRule_13 : decode cX4_pairRule 13 = .ok (.iaload, 1) := dk_46 (dk_at dksX4_pairRule_0 13 rfl rfl)
theorem dX4_pairRule_14 : decode cX4_pairRule 14 = .ok (.goto 4, 3) := dk_167 0 4 (dk_at dksX4_pairRule_0 14 rfl rfl)
theorem dX4_pairRule_17 : decode cX4_pairRule 17 = .ok (.iconst (-1), 1) := dk_2 (dk_at dksX4_pairRule_0 17 rfl rfl)
theorem dX4_pairRule_18 : decode cX4_pairRule 18 = .ok (.ireturn, 1) := dk_172 (dk_at dksX4_pairRule_0 18 rfl rfl)
abbrev cX4_isPair : ByteArray := prog_10_method_39_code
def yX4_isPair : MethodName := ⟨RX4, "isPair", "(I)Z"⟩
def dkwX4_isPair_0 : List UInt8 := [27, 3, 42, 182, 0, 185, 4, 100, 184, 0, 105, 172]
abbrev dktX4_isPair_0 : List UInt8 := dkwX4_isPair_0 ++ []
theorem dksX4_isPair_0 : cX4_isPair.data.toList.drop 0 = dktX4_isPair_0 := by decide +kernel
theorem dX4_isPair_0 : decode cX4_isPair 0 = .ok (.iload_n 1, 1) := dk_27 (dk_at dksX4_isPair_0 0 rfl rfl)
theorem dX4_isPair_1 : decode cX4_isPair 1 = .ok (.iconst 0, 1) := dk_3 (dk_at dksX4_isPair_0 1 rfl rfl)
theorem dX4_isPair_2 : decode cX4_isPair 2 = .ok (.aload_n 0, 1) := dk_42 (dk_at dksX4_isPair_0 2 rfl rfl)
theorem dX4_isPair_3 : decode cX4_isPair 3 = .ok (.invokevirtual 185, 3) := dk_182 0 185 (dk_at dksX4_isPair_0 3 rfl rfl)
theorem dX4_isPair_6 : decode cX4_isPair 6 = .ok (.iconst 1, 1) := dk_4 (dk_at dksX4_isPair_0 6 rfl rfl)
theorem dX4_isPair_7 : decode cX4_isPair 7 = .ok (.isub, 1) := dk_100 (dk_at dksX4_isPair_0 7 rfl rfl)
theorem dX4_isPair_8 : decode cX4_isPair 8 = .ok (.invokestatic 105, 3) := dk_184 0 105 (dk_at dksX4_isPair_0 8 rfl rfl)
theorem dX4_isPair_11 : decode cX4_isPair 11 = .ok (.ireturn, 1) := dk_172 (dk_at dksX4_isPair_0 11 rfl rfl)
abbrev cX4_pairPosition : ByteArray := prog_10_method_41_code
def yX4_pairPosition : MethodName := ⟨RX4, "pairPosition", "(I)I"⟩
def dkwX4_pairPosition_0 : List UInt8 := [42, 27, 182, 0, 188, 153, 0, 12, 42, 180, 0, 49, 27, 46, 167, 0, 4, 2, 172]
abbrev dktX4_pairPosition_0 : List UInt8 := dkwX4_pairPosition_0 ++ []
theorem dksX4_pairPosition_0 : cX4_pairPosition.data.toList.drop 0 = dktX4_pairPosition_0 := by decide +kernel
theorem dX4_pairPosition_0 : decode cX4_pairPosition 0 = .ok (.aload_n 0, 1) := dk_42 (dk_at dksX4_pairPosition_0 0 rfl rfl)
theorem dX4_pairPosition_1 : decode cX4_pairPosition 1 = .ok (.iload_n 1, 1) := dk_27 (dk_at dksX4_pairPosition_0 1 rfl rfl)
theorem dX4_pairPosition_2 : decode cX4_pairPosition 2 = .ok (.invokevirtual 188, 3) := dk_182 0 188 (dk_at dksX4_pairPosition_0 2 rfl rfl)
theorem dX4_pairPosition_5 : decode cX4_pairPosition 5 = .ok (.ifCond .eq 12, 3) := dk_153 0 12 (dk_at dksX4_pairPosition_0 5 rfl rfl)
theorem dX4_pairPosition_8 : decode cX4_pairPosition 8 = .ok (.aload_n 0, 1) := dk_42 (dk_at dksX4_pairPosition_0 8 rfl rfl)
theorem dX4_pairPosition_9 : decode cX4_pairPosition 9 = .ok (.getfield 49, 3) := dk_180 0 49 (dk_at dksX4_pairPosition_0 9 rfl rfl)
theorem dX4_pairPosition_12 : decode cX4_pairPosition 12 = .ok (.iload_n 1, 1) := dk_27 (dk_at dksX4_pairPosition_0 12 rfl rfl)
theorem dX4_pairPosition_13 : decode cX4_pairPosition 13 = .ok (.iaload, 1) := dk_46 (dk_at dksX4_pairPosition_0 13 rfl rfl)
theorem dX4_pairPosition_14 : decode cX4_pairPosition 14 = .ok (.goto 4, 3) := dk_167 0 4 (dk_at dksX4_pairPosition_0 14 rfl rfl)
theorem dX4_pairPosition_17 : decode cX4_pairPosition 17 = .ok (.iconst (-1), 1) := dk_2 (dk_at dksX4_pairPosition_0 17 rfl rfl)
theorem dX4_pairPosition_18 : decode cX4_pairPosition 18 = .ok (.ireturn, 1) := dk_172 (dk_at dksX4_pairPosition_0 18 rfl rfl)
abbrev cX4_sourceFunction : ByteArray := prog_10_method_42_code
def yX4_sourceFunction : MethodName := ⟨RX4, "sourceFunction", "(I)I"⟩
def dkwX4_sourceFunction_0 : List UInt8 := [42, 27, 182, 0, 188, 153, 0, 11, 42, 27, 182, 0, 191, 167, 0, 4, 2, 172]
abbrev dktX4_sourceFunction_0 : List UInt8 := dkwX4_sourceFunction_0 ++ []
theorem dksX4_sourceFunction_0 : cX4_sourceFunction.data.toList.drop 0 = dktX4_sourceFunction_0 := by decide +kernel
theorem dX4_sourceFunction_0 : decode cX4_sourceFunction 0 = .ok (.aload_n 0, 1) := dk_42 (dk_at dksX4_sourceFunction_0 0 rfl rfl)
theorem dX4_sourceFunction_1 : decode cX4_sourceFunction 1 = .ok (.iload_n 1, 1) := dk_27 (dk_at dksX4_sourceFunction_0 1 rfl rfl)
theorem dX4_sourceFunction_2 : decode cX4_sourceFunction 2 = .ok (.invokevirtual 188, 3) := dk_182 0 188 (dk_at dksX4_sourceFunction_0 2 rfl rfl)
theorem dX4_sourceFunction_5 : decode cX4_sourceFunction 5 = .ok (.ifCond .eq 11, 3) := dk_153 0 11 (dk_at dksX4_sourceFunction_0 5 rfl rfl)
theorem dX4_sourceFunction_8 : decode cX4_sourceFunction 8 = .ok (.aload_n 0, 1) := dk_42 (dk_at dksX4_sourceFunction_0 8 rfl rfl)
theorem dX4_sourceFunction_9 : decode cX4_sourceFunction 9 = .ok (.iload_n 1, 1) := dk_27 (dk_at dksX4_sourceFunction_0 9 rfl rfl)
theorem dX4_sourceFunction_10 : decode cX4_sourceFunction 10 = .ok (.invokevirtual 191, 3) := dk_182 0 191 (dk_at dksX4_sourceFunction_0 10 rfl rfl)
theorem dX4_sourceFunction_13 : decode cX4_sourceFunction 13 = .ok (.goto 4, 3) := dk_167 0 4 (dk_at dksX4_sourceFunction_0 13 rfl rfl)
theorem dX4_sourceFunction_16 : decode cX4_sourceFunction 16 = .ok (.iconst (-1), 1) := dk_2 (dk_at dksX4_sourceFunction_0 16 rfl rfl)
theorem dX4_sourceFunction_17 : decode cX4_sourceFunction 17 = .ok (.ireturn, 1) := dk_172 (dk_at dksX4_sourceFunction_0 17 rfl rfl)
abbrev cX4_sourceOf : ByteArray := prog_10_method_36_code
def yX4_sourceOf : MethodName := ⟨RX4, "sourceOf", "(I)I"⟩
def dkwX4_sourceOf_0 : List UInt8 := [42, 180, 0, 16, 42, 27, 182, 0, 179, 46, 16, 102, 100, 172]
abbrev dktX4_sourceOf_0 : List UInt8 := dkwX4_sourceOf_0 ++ []
theorem dksX4_sourceOf_0 : cX4_sourceOf.data.toList.drop 0 = dktX4_sourceOf_0 := by decide +kernel
theorem dX4_sourceOf_0 : decode cX4_sourceOf 0 = .ok (.aload_n 0, 1) := dk_42 (dk_at dksX4_sourceOf_0 0 rfl rfl)
theorem dX4_sourceOf_1 : decode cX4_sourceOf 1 = .ok (.getfield 16, 3) := dk_180 0 16 (dk_at dksX4_sourceOf_0 1 rfl rfl)
theorem dX4_sourceOf_4 : decode cX4_sourceOf 4 = .ok (.aload_n 0, 1) := dk_42 (dk_at dksX4_sourceOf_0 4 rfl rfl)
theorem dX4_sourceOf_5 : decode cX4_sourceOf 5 = .ok (.iload_n 1, 1) := dk_27 (dk_at dksX4_sourceOf_0 5 rfl rfl)
theorem dX4_sourceOf_6 : decode cX4_sourceOf 6 = .ok (.invokevirtual 179, 3) := dk_182 0 179 (dk_at dksX4_sourceOf_0 6 rfl rfl)
theorem dX4_sourceOf_9 : decode cX4_sourceOf 9 = .ok (.iaload, 1) := dk_46 (dk_at dksX4_sourceOf_0 9 rfl rfl)
theorem dX4_sourceOf_10 : decode cX4_sourceOf 10 = .ok (.bipush 102, 2) := dk_16 102 (dk_at dksX4_sourceOf_0 10 rfl rfl)
theorem dX4_sourceOf_12 : decode cX4_sourceOf 12 = .ok (.isub, 1) := dk_100 (dk_at dksX4_sourceOf_0 12 rfl rfl)
theorem dX4_sourceOf_13 : decode cX4_sourceOf 13 = .ok (.ireturn, 1) := dk_172 (dk_at dksX4_sourceOf_0 13 rfl rfl)
abbrev cX4_source : ByteArray := prog_10_method_34_code
def yX4_source : MethodName := ⟨RX4, "source", "(I)I"⟩
def dkwX4_source_0 : List UInt8 := [42, 180, 0, 46, 27, 46, 184, 0, 125, 4, 96, 172]
abbrev dktX4_source_0 : List UInt8 := dkwX4_source_0 ++ []
theorem dksX4_source_0 : cX4_source.data.toList.drop 0 = dktX4_source_0 := by decide +kernel
theorem dX4_source_0 : decode cX4_source 0 = .ok (.aload_n 0, 1) := dk_42 (dk_at dksX4_source_0 0 rfl rfl)
theorem dX4_source_1 : decode cX4_source 1 = .ok (.getfield 46, 3) := dk_180 0 46 (dk_at dksX4_source_0 1 rfl rfl)
theorem dX4_source_4 : decode cX4_source 4 = .ok (.iload_n 1, 1) := dk_27 (dk_at dksX4_source_0 4 rfl rfl)
theorem dX4_source_5 : decode cX4_source 5 = .ok (.iaload, 1) := dk_46 (dk_at dksX4_source_0 5 rfl rfl)
theorem dX4_source_6 : decode cX4_source 6 = .ok (.invokestatic 125, 3) := dk_184 0 125 (dk_at dksX4_source_0 6 rfl rfl)
theorem dX4_source_9 : decode cX4_source 9 = .ok (.iconst 1, 1) := dk_4 (dk_at dksX4_source_0 9 rfl rfl)
theorem dX4_source_10 : decode cX4_source 10 = .ok (.iadd, 1) := dk_96 (dk_at dksX4_source_0 10 rfl rfl)
theorem dX4_source_11 : decode cX4_source 11 = .ok (.ireturn, 1) := dk_172 (dk_at dksX4_source_0 11 rfl rfl)
abbrev cX4_targetFunction : ByteArray := prog_10_method_43_code
def yX4_targetFunction : MethodName := ⟨RX4, "targetFunction", "(I)I"⟩
def dkwX4_targetFunction_0 : List UInt8 := [42, 27, 182, 0, 188, 153, 0, 11, 42, 27, 182, 0, 194, 167, 0, 4, 2, 172]
abbrev dktX4_targetFunction_0 : List UInt8 := dkwX4_targetFunction_0 ++ []
theorem dksX4_targetFunction_0 : cX4_targetFunction.data.toList.drop 0 = dktX4_targetFunction_0 := by decide +kernel
theorem dX4_targetFunction_0 : decode cX4_targetFunction 0 = .ok (.aload_n 0, 1) := dk_42 (dk_at dksX4_targetFunction_0 0 rfl rfl)
theorem dX4_targetFunction_1 : decode cX4_targetFunction 1 = .ok (.iload_n 1, 1) := dk_27 (dk_at dksX4_targetFunction_0 1 rfl rfl)
theorem dX4_targetFunction_2 : decode cX4_targetFunction 2 = .ok (.invokevirtual 188, 3) := dk_182 0 188 (dk_at dksX4_targetFunction_0 2 rfl rfl)
theorem dX4_targetFunction_5 : decode cX4_targetFunction 5 = .ok (.ifCond .eq 11, 3) := dk_153 0 11 (dk_at dksX4_targetFunction_0 5 rfl rfl)
theorem dX4_targetFunction_8 : decode cX4_targetFunction 8 = .ok (.aload_n 0, 1) := dk_42 (dk_at dksX4_targetFunction_0 8 rfl rfl)
theorem dX4_targetFunction_9 : decode cX4_targetFunction 9 = .ok (.iload_n 1, 1) := dk_27 (dk_at dksX4_targetFunction_0 9 rfl rfl)
theorem dX4_targetFunction_10 : decode cX4_targetFunction 10 = .ok (.invokevirtual 194, 3) := dk_182 0 194 (dk_at dksX4_targetFunction_0 10 rfl rfl)
theorem dX4_targetFunction_13 : decode cX4_targetFunction 13 = .ok (.goto 4, 3) := dk_167 0 4 (dk_at dksX4_targetFunction_0 13 rfl rfl)
theorem dX4_targetFunction_16 : decode cX4_targetFunction 16 = .ok (.iconst (-1), 1) := dk_2 (dk_at dksX4_targetFunction_0 16 rfl rfl)
theorem dX4_targetFunction_17 : decode cX4_targetFunction 17 = .ok (.ireturn, 1) := dk_172 (dk_at dksX4_targetFunction_0 17 rfl rfl)
abbrev cX4_targetOf : ByteArray := prog_10_method_37_code
def yX4_targetOf : MethodName := ⟨RX4, "targetOf", "(I)I"⟩
def dkwX4_targetOf_0 : List UInt8 := [42, 180, 0, 16, 42, 27, 182, 0, 182, 46, 16, 102, 100, 172]
abbrev dktX4_targetOf_0 : List UInt8 := dkwX4_targetOf_0 ++ []
theorem dksX4_targetOf_0 : cX4_targetOf.data.toList.drop 0 = dktX4_targetOf_0 := by decide +kernel
theorem dX4_targetOf_0 : decode cX4_targetOf 0 = .ok (.aload_n 0, 1) := dk_42 (dk_at dksX4_targetOf_0 0 rfl rfl)
theorem dX4_targetOf_1 : decode cX4_targetOf 1 = .ok (.getfield 16, 3) := dk_180 0 16 (dk_at dksX4_targetOf_0 1 rfl rfl)
theorem dX4_targetOf_4 : decode cX4_targetOf 4 = .ok (.aload_n 0, 1) := dk_42 (dk_at dksX4_targetOf_0 4 rfl rfl)
theorem dX4_targetOf_5 : decode cX4_targetOf 5 = .ok (.iload_n 1, 1) := dk_27 (dk_at dksX4_targetOf_0 5 rfl rfl)
theorem dX4_targetOf_6 : decode cX4_targetOf 6 = .ok (.invokevirtual 182, 3) := dk_182 0 182 (dk_at dksX4_targetOf_0 6 rfl rfl)
theorem dX4_targetOf_9 : decode cX4_targetOf 9 = .ok (.iaload, 1) := dk_46 (dk_at dksX4_targetOf_0 9 rfl rfl)
theorem dX4_targetOf_10 : decode cX4_targetOf 10 = .ok (.bipush 102, 2) := dk_16 102 (dk_at dksX4_targetOf_0 10 rfl rfl)
theorem dX4_targetOf_12 : decode cX4_targetOf 12 = .ok (.isub, 1) := dk_100 (dk_at dksX4_targetOf_0 12 rfl rfl)
theorem dX4_targetOf_13 : decode cX4_targetOf 13 = .ok (.ireturn, 1) := dk_172 (dk_at dksX4_targetOf_0 13 rfl rfl)
abbrev cX4_target : ByteArray := prog_10_method_35_code
def yX4_target : MethodName := ⟨RX4, "target", "(I)I"⟩
def dkwX4_target_0 : List UInt8 := [42, 180, 0, 46, 27, 46, 184, 0, 145, 4, 96, 42, 180, 0, 49, 27, 46, 96, 172]
abbrev dktX4_target_0 : List UInt8 := dkwX4_target_0 ++ []
theorem dksX4_target_0 : cX4_target.data.toList.drop 0 = dktX4_target_0 := by decide +kernel
theorem dX4_target_0 : decode cX4_target 0 = .ok (.aload_n 0, 1) := dk_42 (dk_at dksX4_target_0 0 rfl rfl)
theorem dX4_target_1 : decode cX4_target 1 = .ok (.getfield 46, 3) := dk_180 0 46 (dk_at dksX4_target_0 1 rfl rfl)
theorem dX4_target_4 : decode cX4_target 4 = .ok (.iload_n 1, 1) := dk_27 (dk_at dksX4_target_0 4 rfl rfl)
theorem dX4_target_5 : decode cX4_target 5 = .ok (.iaload, 1) := dk_46 (dk_at dksX4_target_0 5 rfl rfl)
theorem dX4_target_6 : decode cX4_target 6 = .ok (.invokestatic 145, 3) := dk_184 0 145 (dk_at dksX4_target_0 6 rfl rfl)
theorem dX4_target_9 : decode cX4_target 9 = .ok (.iconst 1, 1) := dk_4 (dk_at dksX4_target_0 9 rfl rfl)
theorem dX4_target_10 : decode cX4_target 10 = .ok (.iadd, 1) := dk_96 (dk_at dksX4_target_0 10 rfl rfl)
theorem dX4_target_11 : decode cX4_target 11 = .ok (.aload_n 0, 1) := dk_42 (dk_at dksX4_target_0 11 rfl rfl)
theorem dX4_target_12 : decode cX4_target 12 = .ok (.getfield 49, 3) := dk_180 0 49 (dk_at dksX4_target_0 12 rfl rfl)
theorem dX4_target_15 : decode cX4_target 15 = .ok (.iload_n 1, 1) := dk_27 (dk_at dksX4_target_0 15 rfl rfl)
theorem dX4_target_16 : decode cX4_target 16 = .ok (.iaload, 1) := dk_46 (dk_at dksX4_target_0 16 rfl rfl)
theorem dX4_target_17 : decode cX4_target 17 = .ok (.iadd, 1) := dk_96 (dk_at dksX4_target_0 17 rfl rfl)
theorem dX4_target_18 : decode cX4_target 18 = .ok (.ireturn, 1) := dk_172 (dk_at dksX4_target_0 18 rfl rfl)
abbrev cX4_hasEdge : ByteArray := prog_10_method_47_code
def yX4_hasEdge : MethodName := ⟨RX4, "hasEdge", "(II)I"⟩
def dkwX4_hasEdge_1 : List UInt8 := [153, 0, 7, 4, 167, 0, 8, 3, 167, 0, 4, 2, 172]
abbrev dktX4_hasEdge_1 : List UInt8 := dkwX4_hasEdge_1 ++ []
def dkwX4_hasEdge_0 : List UInt8 := [42, 27, 182, 0, 188, 153, 0, 28, 42, 28, 182, 0, 188, 153, 0, 20, 42, 27, 28, 182, 0, 208]
abbrev dktX4_hasEdge_0 : List UInt8 := dkwX4_hasEdge_0 ++ dktX4_hasEdge_1
theorem dksX4_hasEdge_0 : cX4_hasEdge.data.toList.drop 0 = dktX4_hasEdge_0 := by decide +kernel
theorem dksX4_hasEdge_1 : cX4_hasEdge.data.toList.drop 22 = dktX4_hasEdge_1 := dk_seg dksX4_hasEdge_0 22 rfl rfl
theorem dX4_hasEdge_0 : decode cX4_hasEdge 0 = .ok (.aload_n 0, 1) := dk_42 (dk_at dksX4_hasEdge_0 0 rfl rfl)
theorem dX4_hasEdge_1 : decode cX4_hasEdge 1 = .ok (.iload_n 1, 1) := dk_27 (dk_at dksX4_hasEdge_0 1 rfl rfl)
theorem dX4_hasEdge_2 : decode cX4_hasEdge 2 = .ok (.invokevirtual 188, 3) := dk_182 0 188 (dk_at dksX4_hasEdge_0 2 rfl rfl)
theorem dX4_hasEdge_5 : decode cX4_hasEdge 5 = .ok (.ifCond .eq 28, 3) := dk_153 0 28 (dk_at dksX4_hasEdge_0 5 rfl rfl)
theorem dX4_hasEdge_8 : decode cX4_hasEdge 8 = .ok (.aload_n 0, 1) := dk_42 (dk_at dksX4_hasEdge_0 8 rfl rfl)
theorem dX4_hasEdge_9 : decode cX4_hasEdge 9 = .ok (.iload_n 2, 1) := dk_28 (dk_at dksX4_hasEdge_0 9 rfl rfl)
theorem dX4_hasEdge_10 : decode cX4_hasEdge 10 = .ok (.invokevirtual 188, 3) := dk_182 0 188 (dk_at dksX4_hasEdge_0 10 rfl rfl)
theorem dX4_hasEdge_13 : decode cX4_hasEdge 13 = .ok (.ifCond .eq 20, 3) := dk_153 0 20 (dk_at dksX4_hasEdge_0 13 rfl rfl)
theorem dX4_hasEdge_16 : decode cX4_hasEdge 16 = .ok (.aload_n 0, 1) := dk_42 (dk_at dksX4_hasEdge_0 16 rfl rfl)
theorem dX4_hasEdge_17 : decode cX4_hasEdge 17 = .ok (.iload_n 1, 1) := dk_27 (dk_at dksX4_hasEdge_0 17 rfl rfl)
theorem dX4_hasEdge_18 : decode cX4_hasEdge 18 = .ok (.iload_n 2, 1) := dk_28 (dk_at dksX4_hasEdge_0 18 rfl rfl)
theorem dX4_hasEdge_19 : decode cX4_hasEdge 19 = .ok (.invokevirtual 208, 3) := dk_182 0 208 (dk_at dksX4_hasEdge_0 19 rfl rfl)
theorem dX4_hasEdge_22 : decode cX4_hasEdge 22 = .ok (.ifCond .eq 7, 3) := dk_153 0 7 (dk_at dksX4_hasEdge_1 0 rfl rfl)
theorem dX4_hasEdge_25 : decode cX4_hasEdge 25 = .ok (.iconst 1, 1) := dk_4 (dk_at dksX4_hasEdge_1 3 rfl rfl)
theorem dX4_hasEdge_26 : decode cX4_hasEdge 26 = .ok (.goto 8, 3) := dk_167 0 8 (dk_at dksX4_hasEdge_1 4 rfl rfl)
theorem dX4_hasEdge_29 : decode cX4_hasEdge 29 = .ok (.iconst 0, 1) := dk_3 (dk_at dksX4_hasEdge_1 7 rfl rfl)
theorem dX4_hasEdge_30 : decode cX4_hasEdge 30 = .ok (.goto 4, 3) := dk_167 0 4 (dk_at dksX4_hasEdge_1 8 rfl rfl)
theorem dX4_hasEdge_33 : decode cX4_hasEdge 33 = .ok (.iconst (-1), 1) := dk_2 (dk_at dksX4_hasEdge_1 11 rfl rfl)
theorem dX4_hasEdge_34 : decode cX4_hasEdge 34 = .ok (.ireturn, 1) := dk_172 (dk_at dksX4_hasEdge_1 12 rfl rfl)
abbrev cX4_isEdge : ByteArray := prog_10_method_46_code
def yX4_isEdge : MethodName := ⟨RX4, "isEdge", "(II)Z"⟩
def dkwX4_isEdge_1 : List UInt8 := [182, 0, 197, 153, 0, 7, 4, 167, 0, 4, 3, 172]
abbrev dktX4_isEdge_1 : List UInt8 := dkwX4_isEdge_1 ++ []
def dkwX4_isEdge_0 : List UInt8 := [42, 27, 182, 0, 194, 42, 28, 182, 0, 191, 160, 0, 24, 42, 42, 27, 182, 0, 182, 42, 28, 182, 0, 179]
abbrev dktX4_isEdge_0 : List UInt8 := dkwX4_isEdge_0 ++ dktX4_isEdge_1
theorem dksX4_isEdge_0 : cX4_isEdge.data.toList.drop 0 = dktX4_isEdge_0 := by decide +kernel
theorem dksX4_isEdge_1 : cX4_isEdge.data.toList.drop 24 = dktX4_isEdge_1 := dk_seg dksX4_isEdge_0 24 rfl rfl
theorem dX4_isEdge_0 : decode cX4_isEdge 0 = .ok (.aload_n 0, 1) := dk_42 (dk_at dksX4_isEdge_0 0 rfl rfl)
theorem dX4_isEdge_1 : decode cX4_isEdge 1 = .ok (.iload_n 1, 1) := dk_27 (dk_at dksX4_isEdge_0 1 rfl rfl)
theorem dX4_isEdge_2 : decode cX4_isEdge 2 = .ok (.invokevirtual 194, 3) := dk_182 0 194 (dk_at dksX4_isEdge_0 2 rfl rfl)
theorem dX4_isEdge_5 : decode cX4_isEdge 5 = .ok (.aload_n 0, 1) := dk_42 (dk_at dksX4_isEdge_0 5 rfl rfl)
theorem dX4_isEdge_6 : decode cX4_isEdge 6 = .ok (.iload_n 2, 1) := dk_28 (dk_at dksX4_isEdge_0 6 rfl rfl)
theorem dX4_isEdge_7 : decode cX4_isEdge 7 = .ok (.invokevirtual 191, 3) := dk_182 0 191 (dk_at dksX4_isEdge_0 7 rfl rfl)
theorem dX4_isEdge_10 : decode cX4_isEdge 10 = .ok (.if_icmp .ne 24, 3) := dk_160 0 24 (dk_at dksX4_isEdge_0 10 rfl rfl)
theorem dX4_isEdge_13 : decode cX4_isEdge 13 = .ok (.aload_n 0, 1) := dk_42 (dk_at dksX4_isEdge_0 13 rfl rfl)
theorem dX4_isEdge_14 : decode cX4_isEdge 14 = .ok (.aload_n 0, 1) := dk_42 (dk_at dksX4_isEdge_0 14 rfl rfl)
theorem dX4_isEdge_15 : decode cX4_isEdge 15 = .ok (.iload_n 1, 1) := dk_27 (dk_at dksX4_isEdge_0 15 rfl rfl)
theorem dX4_isEdge_16 : decode cX4_isEdge 16 = .ok (.invokevirtual 182, 3) := dk_182 0 182 (dk_at dksX4_isEdge_0 16 rfl rfl)
theorem dX4_isEdge_19 : decode cX4_isEdge 19 = .ok (.aload_n 0, 1) := dk_42 (dk_at dksX4_isEdge_0 19 rfl rfl)
theorem dX4_isEdge_20 : decode cX4_isEdge 20 = .ok (.iload_n 2, 1) := dk_28 (dk_at dksX4_isEdge_0 20 rfl rfl)
theorem dX4_isEdge_21 : decode cX4_isEdge 21 = .ok (.invokevirtual 179, 3) := dk_182 0 179 (dk_at dksX4_isEdge_0 21 rfl rfl)
theorem dX4_isEdge_24 : decode cX4_isEdge 24 = .ok (.invokevirtual 197, 3) := dk_182 0 197 (dk_at dksX4_isEdge_1 0 rfl rfl)
theorem dX4_isEdge_27 : decode cX4_isEdge 27 = .ok (.ifCond .eq 7, 3) := dk_153 0 7 (dk_at dksX4_isEdge_1 3 rfl rfl)
theorem dX4_isEdge_30 : decode cX4_isEdge 30 = .ok (.iconst 1, 1) := dk_4 (dk_at dksX4_isEdge_1 6 rfl rfl)
theorem dX4_isEdge_31 : decode cX4_isEdge 31 = .ok (.goto 4, 3) := dk_167 0 4 (dk_at dksX4_isEdge_1 7 rfl rfl)
theorem dX4_isEdge_34 : decode cX4_isEdge 34 = .ok (.iconst 0, 1) := dk_3 (dk_at dksX4_isEdge_1 10 rfl rfl)
theorem dX4_isEdge_35 : decode cX4_isEdge 35 = .ok (.ireturn, 1) := dk_172 (dk_at dksX4_isEdge_1 11 rfl rfl)
abbrev cX4_areArgumentsCompatible : ByteArray := prog_10_method_45_code
def yX4_areArgumentsCompatible : MethodName := ⟨RX4, "areArgumentsCompatible", "(II)Z"⟩
def dkwX4_areArgumentsCompatible_2 : List UInt8 := [182, 0, 205, 62, 132, 4, 1, 167, 255, 207, 29, 172]
abbrev dktX4_areArgumentsCompatible_2 : List UInt8 := dkwX4_areArgumentsCompatible_2 ++ []
def dkwX4_areArgumentsCompatible_1 : List UInt8 := [42, 42, 42, 180, 0, 16, 27, 21, 4, 182, 0, 201, 42, 42, 180, 0, 16, 28, 21, 4, 182, 0, 201]
abbrev dktX4_areArgumentsCompatible_1 : List UInt8 := dkwX4_areArgumentsCompatible_1 ++ dktX4_areArgumentsCompatible_2
def dkwX4_areArgumentsCompatible_0 : List UInt8 := [4, 62, 3, 54, 4, 21, 4, 42, 42, 180, 0, 16, 27, 46, 182, 0, 113, 162, 0, 40, 29, 153, 0, 36]
abbrev dktX4_areArgumentsCompatible_0 : List UInt8 := dkwX4_areArgumentsCompatible_0 ++ dktX4_areArgumentsCompatible_1
theorem dksX4_areArgumentsCompatible_0 : cX4_areArgumentsCompatible.data.toList.drop 0 = dktX4_areArgumentsCompatible_0 := by decide +kernel
theorem dksX4_areArgumentsCompatible_1 : cX4_areArgumentsCompatible.data.toList.drop 24 = dktX4_areArgumentsCompatible_1 := dk_seg dksX4_areArgumentsCompatible_0 24 rfl rfl
theorem dksX4_areArgumentsCompatible_2 : cX4_areArgumentsCompatible.data.toList.drop 47 = dktX4_areArgumentsCompatible_2 := dk_seg dksX4_areArgumentsCompatible_1 23 rfl rfl
theorem dX4_areArgumentsCompatible_0 : decode cX4_areArgumentsCompatible 0 = .ok (.iconst 1, 1) := dk_4 (dk_at dksX4_areArgumentsCompatible_0 0 rfl rfl)
theorem dX4_areArgumentsCompatible_1 : decode cX4_areArgumentsCompatible 1 = .ok (.istore_n 3, 1) := dk_62 (dk_at dksX4_areArgumentsCompatible_0 1 rfl rfl)
theorem dX4_areArgumentsCompatible_2 : decode cX4_areArgumentsCompatible 2 = .ok (.iconst 0, 1) := dk_3 (dk_at dksX4_areArgumentsCompatible_0 2 rfl rfl)
theorem dX4_areArgumentsCompatible_3 : decode cX4_areArgumentsCompatible 3 = .ok (.istore 4, 2) := dk_54 4 (dk_at dksX4_areArgumentsCompatible_0 3 rfl rfl)
theorem dX4_areArgumentsCompatible_5 : decode cX4_areArgumentsCompatible 5 = .ok (.iload 4, 2) := dk_21 4 (dk_at dksX4_areArgumentsCompatible_0 5 rfl rfl)
theorem dX4_areArgumentsCompatible_7 : decode cX4_areArgumentsCompatible 7 = .ok (.aload_n 0, 1) := dk_42 (dk_at dksX4_areArgumentsCompatible_0 7 rfl rfl)
theorem dX4_areArgumentsCompatible_8 : decode cX4_areArgumentsCompatible 8 = .ok (.aload_n 0, 1) := dk_42 (dk_at dksX4_areArgumentsCompatible_0 8 rfl rfl)
theorem dX4_areArgumentsCompatible_9 : decode cX4_areArgumentsCompatible 9 = .ok (.getfield 16, 3) := dk_180 0 16 (dk_at dksX4_areArgumentsCompatible_0 9 rfl rfl)
theorem dX4_areArgumentsCompatible_12 : decode cX4_areArgumentsCompatible 12 = .ok (.iload_n 1, 1) := dk_27 (dk_at dksX4_areArgumentsCompatible_0 12 rfl rfl)
theorem dX4_areArgumentsCompatible_13 : decode cX4_areArgumentsCompatible 13 = .ok (.iaload, 1) := dk_46 (dk_at dksX4_areArgumentsCompatible_0 13 rfl rfl)
theorem dX4_areArgumentsCompatible_14 : decode cX4_areArgumentsCompatible 14 = .ok (.invokevirtual 113, 3) := dk_182 0 113 (dk_at dksX4_areArgumentsCompatible_0 14 rfl rfl)
theorem dX4_areArgumentsCompatible_17 : decode cX4_areArgumentsCompatible 17 = .ok (.if_icmp .ge 40, 3) := dk_162 0 40 (dk_at dksX4_areArgumentsCompatible_0 17 rfl rfl)
theorem dX4_areArgumentsCompatible_20 : decode cX4_areArgumentsCompatible 20 = .ok (.iload_n 3, 1) := dk_29 (dk_at dksX4_areArgumentsCompatible_0 20 rfl rfl)
theorem dX4_areArgumentsCompatible_21 : decode cX4_areArgumentsCompatible 21 = .ok (.ifCond .eq 36, 3) := dk_153 0 36 (dk_at dksX4_areArgumentsCompatible_0 21 rfl rfl)
theorem dX4_areArgumentsCompatible_24 : decode cX4_areArgumentsCompatible 24 = .ok (.aload_n 0, 1) := dk_42 (dk_at dksX4_areArgumentsCompatible_1 0 rfl rfl)
theorem dX4_areArgumentsCompatible_25 : decode cX4_areArgumentsCompatible 25 = .ok (.aload_n 0, 1) := dk_42 (dk_at dksX4_areArgumentsCompatible_1 1 rfl rfl)
theorem dX4_areArgumentsCompatible_26 : decode cX4_areArgumentsCompatible 26 = .ok (.aload_n 0, 1) := dk_42 (dk_at dksX4_areArgumentsCompatible_1 2 rfl rfl)
theorem dX4_areArgumentsCompatible_27 : decode cX4_areArgumentsCompatible 27 = .ok (.getfield 16, 3) := dk_180 0 16 (dk_at dksX4_areArgumentsCompatible_1 3 rfl rfl)
theorem dX4_areArgumentsCompatible_30 : decode cX4_areArgumentsCompatible 30 = .ok (.iload_n 1, 1) := dk_27 (dk_at dksX4_areArgumentsCompatible_1 6 rfl rfl)
theorem dX4_areArgumentsCompatible_31 : decode cX4_areArgumentsCompatible 31 = .ok (.iload 4, 2) := dk_21 4 (dk_at dksX4_areArgumentsCompatible_1 7 rfl rfl)
theorem dX4_areArgumentsCompatible_33 : decode cX4_areArgumentsCompatible 33 = .ok (.invokevirtual 201, 3) := dk_182 0 201 (dk_at dksX4_areArgumentsCompatible_1 9 rfl rfl)
theorem dX4_areArgumentsCompatible_36 : decode cX4_areArgumentsCompatible 36 = .ok (.aload_n 0, 1) := dk_42 (dk_at dksX4_areArgumentsCompatible_1 12 rfl rfl)
theorem dX4_areArgumentsCompatible_37 : decode cX4_areArgumentsCompatible 37 = .ok (.aload_n 0, 1) := dk_42 (dk_at dksX4_areArgumentsCompatible_1 13 rfl rfl)
theorem dX4_areArgumentsCompatible_38 : decode cX4_areArgumentsCompatible 38 = .ok (.getfield 16, 3) := dk_180 0 16 (dk_at dksX4_areArgumentsCompatible_1 14 rfl rfl)
theorem dX4_areArgumentsCompatible_41 : decode cX4_areArgumentsCompatible 41 = .ok (.iload_n 2, 1) := dk_28 (dk_at dksX4_areArgumentsCompatible_1 17 rfl rfl)
theorem dX4_areArgumentsCompatible_42 : decode cX4_areArgumentsCompatible 42 = .ok (.iload 4, 2) := dk_21 4 (dk_at dksX4_areArgumentsCompatible_1 18 rfl rfl)
theorem dX4_areArgumentsCompatible_44 : decode cX4_areArgumentsCompatible 44 = .ok (.invokevirtual 201, 3) := dk_182 0 201 (dk_at dksX4_areArgumentsCompatible_1 20 rfl rfl)
theorem dX4_areArgumentsCompatible_47 : decode cX4_areArgumentsCompatible 47 = .ok (.invokevirtual 205, 3) := dk_182 0 205 (dk_at dksX4_areArgumentsCompatible_2 0 rfl rfl)
theorem dX4_areArgumentsCompatible_50 : decode cX4_areArgumentsCompatible 50 = .ok (.istore_n 3, 1) := dk_62 (dk_at dksX4_areArgumentsCompatible_2 3 rfl rfl)
theorem dX4_areArgumentsCompatible_51 : decode cX4_areArgumentsCompatible 51 = .ok (.iinc 4 1, 3) := dk_132 4 1 (dk_at dksX4_areArgumentsCompatible_2 4 rfl rfl)
theorem dX4_areArgumentsCompatible_54 : decode cX4_areArgumentsCompatible 54 = .ok (.goto (-49), 3) := dk_167 255 207 (dk_at dksX4_areArgumentsCompatible_2 7 rfl rfl)
theorem dX4_areArgumentsCompatible_57 : decode cX4_areArgumentsCompatible 57 = .ok (.iload_n 3, 1) := dk_29 (dk_at dksX4_areArgumentsCompatible_2 10 rfl rfl)
theorem dX4_areArgumentsCompatible_58 : decode cX4_areArgumentsCompatible 58 = .ok (.ireturn, 1) := dk_172 (dk_at dksX4_areArgumentsCompatible_2 11 rfl rfl)
abbrev cX4_argument : ByteArray := prog_10_method_9_code
def yX4_argument : MethodName := ⟨RX4, "argument", "([III)I"⟩
def dkwX4_argument_1 : List UInt8 := [132, 5, 1, 167, 255, 238, 21, 4, 172]
abbrev dktX4_argument_1 : List UInt8 := dkwX4_argument_1 ++ []
def dkwX4_argument_0 : List UInt8 := [28, 4, 96, 54, 4, 3, 54, 5, 21, 5, 29, 162, 0, 18, 42, 43, 21, 4, 182, 0, 117, 54, 4]
abbrev dktX4_argument_0 : List UInt8 := dkwX4_argument_0 ++ dktX4_argument_1
theorem dksX4_argument_0 : cX4_argument.data.toList.drop 0 = dktX4_argument_0 := by decide +kernel
theorem dksX4_argument_1 : cX4_argument.data.toList.drop 23 = dktX4_argument_1 := dk_seg dksX4_argument_0 23 rfl rfl
theorem dX4_argument_0 : decode cX4_argument 0 = .ok (.iload_n 2, 1) := dk_28 (dk_at dksX4_argument_0 0 rfl rfl)
theorem dX4_argument_1 : decode cX4_argument 1 = .ok (.iconst 1, 1) := dk_4 (dk_at dksX4_argument_0 1 rfl rfl)
theorem dX4_argument_2 : decode cX4_argument 2 = .ok (.iadd, 1) := dk_96 (dk_at dksX4_argument_0 2 rfl rfl)
theorem dX4_argument_3 : decode cX4_argument 3 = .ok (.istore 4, 2) := dk_54 4 (dk_at dksX4_argument_0 3 rfl rfl)
theorem dX4_argument_5 : decode cX4_argument 5 = .ok (.iconst 0, 1) := dk_3 (dk_at dksX4_argument_0 5 rfl rfl)
theorem dX4_argument_6 : decode cX4_argument 6 = .ok (.istore 5, 2) := dk_54 5 (dk_at dksX4_argument_0 6 rfl rfl)
theorem dX4_argument_8 : decode cX4_argument 8 = .ok (.iload 5, 2) := dk_21 5 (dk_at dksX4_argument_0 8 rfl rfl)
theorem dX4_argument_10 : decode cX4_argument 10 = .ok (.iload_n 3, 1) := dk_29 (dk_at dksX4_argument_0 10 rfl rfl)
theorem dX4_argument_11 : decode cX4_argument 11 = .ok (.if_icmp .ge 18, 3) := dk_162 0 18 (dk_at dksX4_argument_0 11 rfl rfl)
theorem dX4_argument_14 : decode cX4_argument 14 = .ok (.aload_n 0, 1) := dk_42 (dk_at dksX4_argument_0 14 rfl rfl)
theorem dX4_argument_15 : decode cX4_argument 15 = .ok (.aload_n 1, 1) := dk_43 (dk_at dksX4_argument_0 15 rfl rfl)
theorem dX4_argument_16 : decode cX4_argument 16 = .ok (.iload 4, 2) := dk_21 4 (dk_at dksX4_argument_0 16 rfl rfl)
theorem dX4_argument_18 : decode cX4_argument 18 = .ok (.invokevirtual 117, 3) := dk_182 0 117 (dk_at dksX4_argument_0 18 rfl rfl)
theorem dX4_argument_21 : decode cX4_argument 21 = .ok (.istore 4, 2) := dk_54 4 (dk_at dksX4_argument_0 21 rfl rfl)
theorem dX4_argument_23 : decode cX4_argument 23 = .ok (.iinc 5 1, 3) := dk_132 5 1 (dk_at dksX4_argument_1 0 rfl rfl)
theorem dX4_argument_26 : decode cX4_argument 26 = .ok (.goto (-18), 3) := dk_167 255 238 (dk_at dksX4_argument_1 3 rfl rfl)
theorem dX4_argument_29 : decode cX4_argument 29 = .ok (.iload 4, 2) := dk_21 4 (dk_at dksX4_argument_1 6 rfl rfl)
theorem dX4_argument_31 : decode cX4_argument 31 = .ok (.ireturn, 1) := dk_172 (dk_at dksX4_argument_1 8 rfl rfl)
abbrev cX4_end : ByteArray := prog_10_method_8_code
def yX4_end : MethodName := ⟨RX4, "end", "([II)I"⟩
def dkwX4_end_1 : List UInt8 := [132, 4, 1, 167, 255, 236, 21, 4, 172]
abbrev dktX4_end_1 : List UInt8 := dkwX4_end_1 ++ []
def dkwX4_end_0 : List UInt8 := [4, 62, 28, 54, 4, 29, 158, 0, 22, 29, 42, 43, 21, 4, 46, 182, 0, 113, 4, 100, 96, 62]
abbrev dktX4_end_0 : List UInt8 := dkwX4_end_0 ++ dktX4_end_1
theorem dksX4_end_0 : cX4_end.data.toList.drop 0 = dktX4_end_0 := by decide +kernel
theorem dksX4_end_1 : cX4_end.data.toList.drop 22 = dktX4_end_1 := dk_seg dksX4_end_0 22 rfl rfl
theorem dX4_end_0 : decode cX4_end 0 = .ok (.iconst 1, 1) := dk_4 (dk_at dksX4_end_0 0 rfl rfl)
theorem dX4_end_1 : decode cX4_end 1 = .ok (.istore_n 3, 1) := dk_62 (dk_at dksX4_end_0 1 rfl rfl)
theorem dX4_end_2 : decode cX4_end 2 = .ok (.iload_n 2, 1) := dk_28 (dk_at dksX4_end_0 2 rfl rfl)
theorem dX4_end_3 : decode cX4_end 3 = .ok (.istore 4, 2) := dk_54 4 (dk_at dksX4_end_0 3 rfl rfl)
theorem dX4_end_5 : decode cX4_end 5 = .ok (.iload_n 3, 1) := dk_29 (dk_at dksX4_end_0 5 rfl rfl)
theorem dX4_end_6 : decode cX4_end 6 = .ok (.ifCond .le 22, 3) := dk_158 0 22 (dk_at dksX4_end_0 6 rfl rfl)
theorem dX4_end_9 : decode cX4_end 9 = .ok (.iload_n 3, 1) := dk_29 (dk_at dksX4_end_0 9 rfl rfl)
theorem dX4_end_10 : decode cX4_end 10 = .ok (.aload_n 0, 1) := dk_42 (dk_at dksX4_end_0 10 rfl rfl)
theorem dX4_end_11 : decode cX4_end 11 = .ok (.aload_n 1, 1) := dk_43 (dk_at dksX4_end_0 11 rfl rfl)
theorem dX4_end_12 : decode cX4_end 12 = .ok (.iload 4, 2) := dk_21 4 (dk_at dksX4_end_0 12 rfl rfl)
theorem dX4_end_14 : decode cX4_end 14 = .ok (.iaload, 1) := dk_46 (dk_at dksX4_end_0 14 rfl rfl)
theorem dX4_end_15 : decode cX4_end 15 = .ok (.invokevirtual 113, 3) := dk_182 0 113 (dk_at dksX4_end_0 15 rfl rfl)
theorem dX4_end_18 : decode cX4_end 18 = .ok (.iconst 1, 1) := dk_4 (dk_at dksX4_end_0 18 rfl rfl)
theorem dX4_end_19 : decode cX4_end 19 = .ok (.isub, 1) := dk_100 (dk_at dksX4_end_0 19 rfl rfl)
theorem dX4_end_20 : decode cX4_end 20 = .ok (.iadd, 1) := dk_96 (dk_at dksX4_end_0 20 rfl rfl)
theorem dX4_end_21 : decode cX4_end 21 = .ok (.istore_n 3, 1) := dk_62 (dk_at dksX4_end_0 21 rfl rfl)
theorem dX4_end_22 : decode cX4_end 22 = .ok (.iinc 4 1, 3) := dk_132 4 1 (dk_at dksX4_end_1 0 rfl rfl)
theorem dX4_end_25 : decode cX4_end 25 = .ok (.goto (-20), 3) := dk_167 255 236 (dk_at dksX4_end_1 3 rfl rfl)
theorem dX4_end_28 : decode cX4_end 28 = .ok (.iload 4, 2) := dk_21 4 (dk_at dksX4_end_1 6 rfl rfl)
theorem dX4_end_30 : decode cX4_end 30 = .ok (.ireturn, 1) := dk_172 (dk_at dksX4_end_1 8 rfl rfl)
abbrev cX4_isCompatible : ByteArray := prog_10_method_44_code
def yX4_isCompatible : MethodName := ⟨RX4, "isCompatible", "(II)Z"⟩
def dkwX4_isCompatible_2 : List UInt8 := [182, 0, 197, 153, 0, 7, 4, 167, 0, 4, 3, 172]
abbrev dktX4_isCompatible_2 : List UInt8 := dkwX4_isCompatible_2 ++ []
def dkwX4_isCompatible_1 : List UInt8 := [184, 0, 128, 154, 0, 10, 29, 184, 0, 109, 153, 0, 5, 4, 172, 29, 21, 4, 160, 0, 16, 42, 27, 28]
abbrev dktX4_isCompatible_1 : List UInt8 := dkwX4_isCompatible_1 ++ dktX4_isCompatible_2
def dkwX4_isCompatible_0 : List UInt8 := [42, 180, 0, 16, 27, 46, 62, 42, 180, 0, 16, 28, 46, 54, 4, 29, 184, 0, 128, 154, 0, 18, 21, 4]
abbrev dktX4_isCompatible_0 : List UInt8 := dkwX4_isCompatible_0 ++ dktX4_isCompatible_1
theorem dksX4_isCompatible_0 : cX4_isCompatible.data.toList.drop 0 = dktX4_isCompatible_0 := by decide +kernel
theorem dksX4_isCompatible_1 : cX4_isCompatible.data.toList.drop 24 = dktX4_isCompatible_1 := dk_seg dksX4_isCompatible_0 24 rfl rfl
theorem dksX4_isCompatible_2 : cX4_isCompatible.data.toList.drop 48 = dktX4_isCompatible_2 := dk_seg dksX4_isCompatible_1 24 rfl rfl
theorem dX4_isCompatible_0 : decode cX4_isCompatible 0 = .ok (.aload_n 0, 1) := dk_42 (dk_at dksX4_isCompatible_0 0 rfl rfl)
theorem dX4_isCompatible_1 : decode cX4_isCompatible 1 = .ok (.getfield 16, 3) := dk_180 0 16 (dk_at dksX4_isCompatible_0 1 rfl rfl)
theorem dX4_isCompatible_4 : decode cX4_isCompatible 4 = .ok (.iload_n 1, 1) := dk_27 (dk_at dksX4_isCompatible_0 4 rfl rfl)
theorem dX4_isCompatible_5 : decode cX4_isCompatible 5 = .ok (.iaload, 1) := dk_46 (dk_at dksX4_isCompatible_0 5 rfl rfl)
theorem dX4_isCompatible_6 : decode cX4_isCompatible 6 = .ok (.istore_n 3, 1) := dk_62 (dk_at dksX4_isCompatible_0 6 rfl rfl)
theorem dX4_isCompatible_7 : decode cX4_isCompatible 7 = .ok (.aload_n 0, 1) := dk_42 (dk_at dksX4_isCompatible_0 7 rfl rfl)
theorem dX4_isCompatible_8 : decode cX4_isCompatible 8 = .ok (.getfield 16, 3) := dk_180 0 16 (dk_at dksX4_isCompatible_0 8 rfl rfl)
theorem dX4_isCompatible_11 : decode cX4_isCompatible 11 = .ok (.iload_n 2, 1) := dk_28 (dk_at dksX4_isCompatible_0 11 rfl rfl)
theorem dX4_isCompatible_12 : decode cX4_isCompatible 12 = .ok (.iaload, 1) := dk_46 (dk_at dksX4_isCompatible_0 12 rfl rfl)
theorem dX4_isCompatible_13 : decode cX4_isCompatible 13 = .ok (.istore 4, 2) := dk_54 4 (dk_at dksX4_isCompatible_0 13 rfl rfl)
theorem dX4_isCompatible_15 : decode cX4_isCompatible 15 = .ok (.iload_n 3, 1) := dk_29 (dk_at dksX4_isCompatible_0 15 rfl rfl)
theorem dX4_isCompatible_16 : decode cX4_isCompatible 16 = .ok (.invokestatic 128, 3) := dk_184 0 128 (dk_at dksX4_isCompatible_0 16 rfl rfl)
theorem dX4_isCompatible_19 : decode cX4_isCompatible 19 = .ok (.ifCond .ne 18, 3) := dk_154 0 18 (dk_at dksX4_isCompatible_0 19 rfl rfl)
theorem dX4_isCompatible_22 : decode cX4_isCompatible 22 = .ok (.iload 4, 2) := dk_21 4 (dk_at dksX4_isCompatible_0 22 rfl rfl)
theorem dX4_isCompatible_24 : decode cX4_isCompatible 24 = .ok (.invokestatic 128, 3) := dk_184 0 128 (dk_at dksX4_isCompatible_1 0 rfl rfl)
theorem dX4_isCompatible_27 : decode cX4_isCompatible 27 = .ok (.ifCond .ne 10, 3) := dk_154 0 10 (dk_at dksX4_isCompatible_1 3 rfl rfl)
theorem dX4_isCompatible_30 : decode cX4_isCompatible 30 = .ok (.iload_n 3, 1) := dk_29 (dk_at dksX4_isCompatible_1 6 rfl rfl)
theorem dX4_isCompatible_31 : decode cX4_isCompatible 31 = .ok (.invokestatic 109, 3) := dk_184 0 109 (dk_at dksX4_isCompatible_1 7 rfl rfl)
theorem dX4_isCompatible_34 : decode cX4_isCompatible 34 = .ok (.ifCond .eq 5, 3) := dk_153 0 5 (dk_at dksX4_isCompatible_1 10 rfl rfl)
theorem dX4_isCompatible_37 : decode cX4_isCompatible 37 = .ok (.iconst 1, 1) := dk_4 (dk_at dksX4_isCompatible_1 13 rfl rfl)
theorem dX4_isCompatible_38 : decode cX4_isCompatible 38 = .ok (.ireturn, 1) := dk_172 (dk_at dksX4_isCompatible_1 14 rfl rfl)
theorem dX4_isCompatible_39 : decode cX4_isCompatible 39 = .ok (.iload_n 3, 1) := dk_29 (dk_at dksX4_isCompatible_1 15 rfl rfl)
theorem dX4_isCompatible_40 : decode cX4_isCompatible 40 = .ok (.iload 4, 2) := dk_21 4 (dk_at dksX4_isCompatible_1 16 rfl rfl)
theorem dX4_isCompatible_42 : decode cX4_isCompatible 42 = .ok (.if_icmp .ne 16, 3) := dk_160 0 16 (dk_at dksX4_isCompatible_1 18 rfl rfl)
theorem dX4_isCompatible_45 : decode cX4_isCompatible 45 = .ok (.aload_n 0, 1) := dk_42 (dk_at dksX4_isCompatible_1 21 rfl rfl)
theorem dX4_isCompatible_46 : decode cX4_isCompatible 46 = .ok (.iload_n 1, 1) := dk_27 (dk_at dksX4_isCompatible_1 22 rfl rfl)
theorem dX4_isCompatible_47 : decode cX4_isCompatible 47 = .ok (.iload_n 2, 1) := dk_28 (dk_at dksX4_isCompatible_1 23 rfl rfl)
theorem dX4_isCompatible_48 : decode cX4_isCompatible 48 = .ok (.invokevirtual 197, 3) := dk_182 0 197 (dk_at dksX4_isCompatible_2 0 rfl rfl)
theorem dX4_isCompatible_51 : decode cX4_isCompatible 51 = .ok (.ifCond .eq 7, 3) := dk_153 0 7 (dk_at dksX4_isCompatible_2 3 rfl rfl)
theorem dX4_isCompatible_54 : decode cX4_isCompatible 54 = .ok (.iconst 1, 1) := dk_4 (dk_at dksX4_isCompatible_2 6 rfl rfl)
theorem dX4_isCompatible_55 : decode cX4_isCompatible 55 = .ok (.goto 4, 3) := dk_167 0 4 (dk_at dksX4_isCompatible_2 7 rfl rfl)
theorem dX4_isCompatible_58 : decode cX4_isCompatible 58 = .ok (.iconst 0, 1) := dk_3 (dk_at dksX4_isCompatible_2 10 rfl rfl)
theorem dX4_isCompatible_59 : decode cX4_isCompatible 59 = .ok (.ireturn, 1) := dk_172 (dk_at dksX4_isCompatible_2 11 rfl rfl)
abbrev cX4_edgeCount : ByteArray := prog_10_method_48_code
def yX4_edgeCount : MethodName := ⟨RX4, "edgeCount", "()I"⟩
def dkwX4_edgeCount_2 : List UInt8 := [132, 3, 1, 167, 255, 215, 28, 172]
abbrev dktX4_edgeCount_2 : List UInt8 := dkwX4_edgeCount_2 ++ []
def dkwX4_edgeCount_1 : List UInt8 := [42, 29, 21, 4, 182, 0, 208, 153, 0, 7, 4, 167, 0, 4, 3, 96, 61, 132, 4, 1, 167, 255, 229]
abbrev dktX4_edgeCount_1 : List UInt8 := dkwX4_edgeCount_1 ++ dktX4_edgeCount_2
def dkwX4_edgeCount_0 : List UInt8 := [42, 182, 0, 185, 60, 3, 61, 3, 62, 29, 27, 162, 0, 42, 3, 54, 4, 21, 4, 27, 162, 0, 27, 28]
abbrev dktX4_edgeCount_0 : List UInt8 := dkwX4_edgeCount_0 ++ dktX4_edgeCount_1
theorem dksX4_edgeCount_0 : cX4_edgeCount.data.toList.drop 0 = dktX4_edgeCount_0 := by decide +kernel
theorem dksX4_edgeCount_1 : cX4_edgeCount.data.toList.drop 24 = dktX4_edgeCount_1 := dk_seg dksX4_edgeCount_0 24 rfl rfl
theorem dksX4_edgeCount_2 : cX4_edgeCount.data.toList.drop 47 = dktX4_edgeCount_2 := dk_seg dksX4_edgeCount_1 23 rfl rfl
theorem dX4_edgeCount_0 : decode cX4_edgeCount 0 = .ok (.aload_n 0, 1) := dk_42 (dk_at dksX4_edgeCount_0 0 rfl rfl)
theorem dX4_edgeCount_1 : decode cX4_edgeCount 1 = .ok (.invokevirtual 185, 3) := dk_182 0 185 (dk_at dksX4_edgeCount_0 1 rfl rfl)
theorem dX4_edgeCount_4 : decode cX4_edgeCount 4 = .ok (.istore_n 1, 1) := dk_60 (dk_at dksX4_edgeCount_0 4 rfl rfl)
theorem dX4_edgeCount_5 : decode cX4_edgeCount 5 = .ok (.iconst 0, 1) := dk_3 (dk_at dksX4_edgeCount_0 5 rfl rfl)
theorem dX4_edgeCount_6 : decode cX4_edgeCount 6 = .ok (.istore_n 2, 1) := dk_61 (dk_at dksX4_edgeCount_0 6 rfl rfl)
theorem dX4_edgeCount_7 : decode cX4_edgeCount 7 = .ok (.iconst 0, 1) := dk_3 (dk_at dksX4_edgeCount_0 7 rfl rfl)
theorem dX4_edgeCount_8 : decode cX4_edgeCount 8 = .ok (.istore_n 3, 1) := dk_62 (dk_at dksX4_edgeCount_0 8 rfl rfl)
theorem dX4_edgeCount_9 : decode cX4_edgeCount 9 = .ok (.iload_n 3, 1) := dk_29 (dk_at dksX4_edgeCount_0 9 rfl rfl)
theorem dX4_edgeCount_10 : decode cX4_edgeCount 10 = .ok (.iload_n 1, 1) := dk_27 (dk_at dksX4_edgeCount_0 10 rfl rfl)
theorem dX4_edgeCount_11 : decode cX4_edgeCount 11 = .ok (.if_icmp .ge 42, 3) := dk_162 0 42 (dk_at dksX4_edgeCount_0 11 rfl rfl)
theorem dX4_edgeCount_14 : decode cX4_edgeCount 14 = .ok (.iconst 0, 1) := dk_3 (dk_at dksX4_edgeCount_0 14 rfl rfl)
theorem dX4_edgeCount_15 : decode cX4_edgeCount 15 = .ok (.istore 4, 2) := dk_54 4 (dk_at dksX4_edgeCount_0 15 rfl rfl)
theorem dX4_edgeCount_17 : decode cX4_edgeCount 17 = .ok (.iload 4, 2) := dk_21 4 (dk_at dksX4_edgeCount_0 17 rfl rfl)
theorem dX4_edgeCount_19 : decode cX4_edgeCount 19 = .ok (.iload_n 1, 1) := dk_27 (dk_at dksX4_edgeCount_0 19 rfl rfl)
theorem dX4_edgeCount_20 : decode cX4_edgeCount 20 = .ok (.if_icmp .ge 27, 3) := dk_162 0 27 (dk_at dksX4_edgeCount_0 20 rfl rfl)
theorem dX4_edgeCount_23 : decode cX4_edgeCount 23 = .ok (.iload_n 2, 1) := dk_28 (dk_at dksX4_edgeCount_0 23 rfl rfl)
theorem dX4_edgeCount_24 : decode cX4_edgeCount 24 = .ok (.aload_n 0, 1) := dk_42 (dk_at dksX4_edgeCount_1 0 rfl rfl)
theorem dX4_edgeCount_25 : decode cX4_edgeCount 25 = .ok (.iload_n 3, 1) := dk_29 (dk_at dksX4_edgeCount_1 1 rfl rfl)
theorem dX4_edgeCount_26 : decode cX4_edgeCount 26 = .ok (.iload 4, 2) := dk_21 4 (dk_at dksX4_edgeCount_1 2 rfl rfl)
theorem dX4_edgeCount_28 : decode cX4_edgeCount 28 = .ok (.invokevirtual 208, 3) := dk_182 0 208 (dk_at dksX4_edgeCount_1 4 rfl rfl)
theorem dX4_edgeCount_31 : decode cX4_edgeCount 31 = .ok (.ifCond .eq 7, 3) := dk_153 0 7 (dk_at dksX4_edgeCount_1 7 rfl rfl)
theorem dX4_edgeCount_34 : decode cX4_edgeCount 34 = .ok (.iconst 1, 1) := dk_4 (dk_at dksX4_edgeCount_1 10 rfl rfl)
theorem dX4_edgeCount_35 : decode cX4_edgeCount 35 = .ok (.goto 4, 3) := dk_167 0 4 (dk_at dksX4_edgeCount_1 11 rfl rfl)
theorem dX4_edgeCount_38 : decode cX4_edgeCount 38 = .ok (.iconst 0, 1) := dk_3 (dk_at dksX4_edgeCount_1 14 rfl rfl)
theorem dX4_edgeCount_39 : decode cX4_edgeCount 39 = .ok (.iadd, 1) := dk_96 (dk_at dksX4_edgeCount_1 15 rfl rfl)
theorem dX4_edgeCount_40 : decode cX4_edgeCount 40 = .ok (.istore_n 2, 1) := dk_61 (dk_at dksX4_edgeCount_1 16 rfl rfl)
theorem dX4_edgeCount_41 : decode cX4_edgeCount 41 = .ok (.iinc 4 1, 3) := dk_132 4 1 (dk_at dksX4_edgeCount_1 17 rfl rfl)
theorem dX4_edgeCount_44 : decode cX4_edgeCount 44 = .ok (.goto (-27), 3) := dk_167 255 229 (dk_at dksX4_edgeCount_1 20 rfl rfl)
theorem dX4_edgeCount_47 : decode cX4_edgeCount 47 = .ok (.iinc 3 1, 3) := dk_132 3 1 (dk_at dksX4_edgeCount_2 0 rfl rfl)
theorem dX4_edgeCount_50 : decode cX4_edgeCount 50 = .ok (.goto (-41), 3) := dk_167 255 215 (dk_at dksX4_edgeCount_2 3 rfl rfl)
theorem dX4_edgeCount_53 : decode cX4_edgeCount 53 = .ok (.iload_n 2, 1) := dk_28 (dk_at dksX4_edgeCount_2 6 rfl rfl)
theorem dX4_edgeCount_54 : decode cX4_edgeCount 54 = .ok (.ireturn, 1) := dk_172 (dk_at dksX4_edgeCount_2 7 rfl rfl)
abbrev cX4_componentCount : ByteArray := prog_10_method_52_code
def yX4_componentCount : MethodName := ⟨RX4, "componentCount", "()I"⟩
def dkwX4_componentCount_0 : List UInt8 := [42, 182, 0, 223, 42, 182, 0, 226, 42, 180, 0, 220, 172]
abbrev dktX4_componentCount_0 : List UInt8 := dkwX4_componentCount_0 ++ []
theorem dksX4_componentCount_0 : cX4_componentCount.data.toList.drop 0 = dktX4_componentCount_0 := by decide +kernel
theorem dX4_componentCount_0 : decode cX4_componentCount 0 = .ok (.aload_n 0, 1) := dk_42 (dk_at dksX4_componentCount_0 0 rfl rfl)
theorem dX4_componentCount_1 : decode cX4_componentCount 1 = .ok (.invokevirtual 223, 3) := dk_182 0 223 (dk_at dksX4_componentCount_0 1 rfl rfl)
theorem dX4_componentCount_4 : decode cX4_componentCount 4 = .ok (.aload_n 0, 1) := dk_42 (dk_at dksX4_componentCount_0 4 rfl rfl)
theorem dX4_componentCount_5 : decode cX4_componentCount 5 = .ok (.invokevirtual 226, 3) := dk_182 0 226 (dk_at dksX4_componentCount_0 5 rfl rfl)
theorem dX4_componentCount_8 : decode cX4_componentCount 8 = .ok (.aload_n 0, 1) := dk_42 (dk_at dksX4_componentCount_0 8 rfl rfl)
theorem dX4_componentCount_9 : decode cX4_componentCount 9 = .ok (.getfield 220, 3) := dk_180 0 220 (dk_at dksX4_componentCount_0 9 rfl rfl)
theorem dX4_componentCount_12 : decode cX4_componentCount 12 = .ok (.ireturn, 1) := dk_172 (dk_at dksX4_componentCount_0 12 rfl rfl)
abbrev cX4_findGraph : ByteArray := prog_10_method_50_code
def yX4_findGraph : MethodName := ⟨RX4, "findGraph", "()V"⟩
def dkwX4_findGraph_4 : List UInt8 := [167, 255, 213, 132, 1, 1, 167, 255, 166, 177]
abbrev dktX4_findGraph_4 : List UInt8 := dkwX4_findGraph_4 ++ []
def dkwX4_findGraph_3 : List UInt8 := [96, 92, 47, 42, 27, 28, 182, 0, 208, 153, 0, 9, 10, 28, 121, 167, 0, 4, 9, 129, 80, 132, 2, 1]
abbrev dktX4_findGraph_3 : List UInt8 := dkwX4_findGraph_3 ++ dktX4_findGraph_4
def dkwX4_findGraph_2 : List UInt8 := [167, 255, 237, 3, 61, 28, 42, 180, 0, 211, 162, 0, 41, 42, 180, 0, 52, 7, 27, 104, 28, 16, 64, 108]
abbrev dktX4_findGraph_2 : List UInt8 := dkwX4_findGraph_2 ++ dktX4_findGraph_3
def dkwX4_findGraph_1 : List UInt8 := [84, 3, 61, 28, 7, 162, 0, 20, 42, 180, 0, 52, 7, 27, 104, 28, 96, 9, 80, 132, 2, 1]
abbrev dktX4_findGraph_1 : List UInt8 := dkwX4_findGraph_1 ++ dktX4_findGraph_2
def dkwX4_findGraph_0 : List UInt8 := [42, 42, 182, 0, 185, 181, 0, 211, 3, 60, 27, 42, 180, 0, 211, 162, 0, 88, 42, 180, 0, 59, 27, 4]
abbrev dktX4_findGraph_0 : List UInt8 := dkwX4_findGraph_0 ++ dktX4_findGraph_1
theorem dksX4_findGraph_0 : cX4_findGraph.data.toList.drop 0 = dktX4_findGraph_0 := by decide +kernel
theorem dksX4_findGraph_1 : cX4_findGraph.data.toList.drop 24 = dktX4_findGraph_1 := dk_seg dksX4_findGraph_0 24 rfl rfl
theorem dksX4_findGraph_2 : cX4_findGraph.data.toList.drop 46 = dktX4_findGraph_2 := dk_seg dksX4_findGraph_1 22 rfl rfl
theorem dksX4_findGraph_3 : cX4_findGraph.data.toList.drop 70 = dktX4_findGraph_3 := dk_seg dksX4_findGraph_2 24 rfl rfl
theorem dksX4_findGraph_4 : cX4_findGraph.data.toList.drop 94 = dktX4_findGraph_4 := dk_seg dksX4_findGraph_3 24 rfl rfl
theorem dX4_findGraph_0 : decode cX4_findGraph 0 = .ok (.aload_n 0, 1) := dk_42 (dk_at dksX4_findGraph_0 0 rfl rfl)
theorem dX4_findGraph_1 : decode cX4_findGraph 1 = .ok (.aload_n 0, 1) := dk_42 (dk_at dksX4_findGraph_0 1 rfl rfl)
theorem dX4_findGraph_2 : decode cX4_findGraph 2 = .ok (.invokevirtual 185, 3) := dk_182 0 185 (dk_at dksX4_findGraph_0 2 rfl rfl)
theorem dX4_findGraph_5 : decode cX4_findGraph 5 = .ok (.putfield 211, 3) := dk_181 0 211 (dk_at dksX4_findGraph_0 5 rfl rfl)
theorem dX4_findGraph_8 : decode cX4_findGraph 8 = .ok (.iconst 0, 1) := dk_3 (dk_at dksX4_findGraph_0 8 rfl rfl)
theorem dX4_findGraph_9 : decode cX4_findGraph 9 = .ok (.istore_n 1, 1) := dk_60 (dk_at dksX4_findGraph_0 9 rfl rfl)
theorem dX4_findGraph_10 : decode cX4_findGraph 10 = .ok (.iload_n 1, 1) := dk_27 (dk_at dksX4_findGraph_0 10 rfl rfl)
theorem dX4_findGraph_11 : decode cX4_findGraph 11 = .ok (.aload_n 0, 1) := dk_42 (dk_at dksX4_findGraph_0 11 rfl rfl)
theorem dX4_findGraph_12 : decode cX4_findGraph 12 = .ok (.getfield 211, 3) := dk_180 0 211 (dk_at dksX4_findGraph_0 12 rfl rfl)
theorem dX4_findGraph_15 : decode cX4_findGraph 15 = .ok (.if_icmp .ge 88, 3) := dk_162 0 88 (dk_at dksX4_findGraph_0 15 rfl rfl)
theorem dX4_findGraph_18 : decode cX4_findGraph 18 = .ok (.aload_n 0, 1) := dk_42 (dk_at dksX4_findGraph_0 18 rfl rfl)
theorem dX4_findGraph_19 : decode cX4_findGraph 19 = .ok (.getfield 59, 3) := dk_180 0 59 (dk_at dksX4_findGraph_0 19 rfl rfl)
theorem dX4_findGraph_22 : decode cX4_findGraph 22 = .ok (.iload_n 1, 1) := dk_27 (dk_at dksX4_findGraph_0 22 rfl rfl)
theorem dX4_findGraph_23 : decode cX4_findGraph 23 = .ok (.iconst 1, 1) := dk_4 (dk_at dksX4_findGraph_0 23 rfl rfl)
theorem dX4_findGraph_24 : decode cX4_findGraph 24 = .ok (.bastore, 1) := dk_84 (dk_at dksX4_findGraph_1 0 rfl rfl)
theorem dX4_findGraph_25 : decode cX4_findGraph 25 = .ok (.iconst 0, 1) := dk_3 (dk_at dksX4_findGraph_1 1 rfl rfl)
theorem dX4_findGraph_26 : decode cX4_findGraph 26 = .ok (.istore_n 2, 1) := dk_61 (dk_at dksX4_findGraph_1 2 rfl rfl)
theorem dX4_findGraph_27 : decode cX4_findGraph 27 = .ok (.iload_n 2, 1) := dk_28 (dk_at dksX4_findGraph_1 3 rfl rfl)
theorem dX4_findGraph_28 : decode cX4_findGraph 28 = .ok (.iconst 4, 1) := dk_7 (dk_at dksX4_findGraph_1 4 rfl rfl)
theorem dX4_findGraph_29 : decode cX4_findGraph 29 = .ok (.if_icmp .ge 20, 3) := dk_162 0 20 (dk_at dksX4_findGraph_1 5 rfl rfl)
theorem dX4_findGraph_32 : decode cX4_findGraph 32 = .ok (.aload_n 0, 1) := dk_42 (dk_at dksX4_findGraph_1 8 rfl rfl)
theorem dX4_findGraph_33 : decode cX4_findGraph 33 = .ok (.getfield 52, 3) := dk_180 0 52 (dk_at dksX4_findGraph_1 9 rfl rfl)
theorem dX4_findGraph_36 : decode cX4_findGraph 36 = .ok (.iconst 4, 1) := dk_7 (dk_at dksX4_findGraph_1 12 rfl rfl)
theorem dX4_findGraph_37 : decode cX4_findGraph 37 = .ok (.iload_n 1, 1) := dk_27 (dk_at dksX4_findGraph_1 13 rfl rfl)
theorem dX4_findGraph_38 : decode cX4_findGraph 38 = .ok (.imul, 1) := dk_104 (dk_at dksX4_findGraph_1 14 rfl rfl)
theorem dX4_findGraph_39 : decode cX4_findGraph 39 = .ok (.iload_n 2, 1) := dk_28 (dk_at dksX4_findGraph_1 15 rfl rfl)
theorem dX4_findGraph_40 : decode cX4_findGraph 40 = .ok (.iadd, 1) := dk_96 (dk_at dksX4_findGraph_1 16 rfl rfl)
theorem dX4_findGraph_41 : decode cX4_findGraph 41 = .ok (.lconst 0, 1) := dk_9 (dk_at dksX4_findGraph_1 17 rfl rfl)
theorem dX4_findGraph_42 : decode cX4_findGraph 42 = .ok (.lastore, 1) := dk_80 (dk_at dksX4_findGraph_1 18 rfl rfl)
theorem dX4_findGraph_43 : decode cX4_findGraph 43 = .ok (.iinc 2 1, 3) := dk_132 2 1 (dk_at dksX4_findGraph_1 19 rfl rfl)
theorem dX4_findGraph_46 : decode cX4_findGraph 46 = .ok (.goto (-19), 3) := dk_167 255 237 (dk_at dksX4_findGraph_2 0 rfl rfl)
theorem dX4_findGraph_49 : decode cX4_findGraph 49 = .ok (.iconst 0, 1) := dk_3 (dk_at dksX4_findGraph_2 3 rfl rfl)
theorem dX4_findGraph_50 : decode cX4_findGraph 50 = .ok (.istore_n 2, 1) := dk_61 (dk_at dksX4_findGraph_2 4 rfl rfl)
theorem dX4_findGraph_51 : decode cX4_findGraph 51 = .ok (.iload_n 2, 1) := dk_28 (dk_at dksX4_findGraph_2 5 rfl rfl)
theorem dX4_findGraph_52 : decode cX4_findGraph 52 = .ok (.aload_n 0, 1) := dk_42 (dk_at dksX4_findGraph_2 6 rfl rfl)
theorem dX4_findGraph_53 : decode cX4_findGraph 53 = .ok (.getfield 211, 3) := dk_180 0 211 (dk_at dksX4_findGraph_2 7 rfl rfl)
theorem dX4_findGraph_56 : decode cX4_findGraph 56 = .ok (.if_icmp .ge 41, 3) := dk_162 0 41 (dk_at dksX4_findGraph_2 10 rfl rfl)
theorem dX4_findGraph_59 : decode cX4_findGraph 59 = .ok (.aload_n 0, 1) := dk_42 (dk_at dksX4_findGraph_2 13 rfl rfl)
theorem dX4_findGraph_60 : decode cX4_findGraph 60 = .ok (.getfield 52, 3) := dk_180 0 52 (dk_at dksX4_findGraph_2 14 rfl rfl)
theorem dX4_findGraph_63 : decode cX4_findGraph 63 = .ok (.iconst 4, 1) := dk_7 (dk_at dksX4_findGraph_2 17 rfl rfl)
theorem dX4_findGraph_64 : decode cX4_findGraph 64 = .ok (.iload_n 1, 1) := dk_27 (dk_at dksX4_findGraph_2 18 rfl rfl)
theorem dX4_findGraph_65 : decode cX4_findGraph 65 = .ok (.imul, 1) := dk_104 (dk_at dksX4_findGraph_2 19 rfl rfl)
theorem dX4_findGraph_66 : decode cX4_findGraph 66 = .ok (.iload_n 2, 1) := dk_28 (dk_at dksX4_findGraph_2 20 rfl rfl)
theorem dX4_findGraph_67 : decode cX4_findGraph 67 = .ok (.bipush 64, 2) := dk_16 64 (dk_at dksX4_findGraph_2 21 rfl rfl)
theorem dX4_findGraph_69 : decode cX4_findGraph 69 = .ok (.idiv, 1) := dk_108 (dk_at dksX4_findGraph_2 23 rfl rfl)
theorem dX4_findGraph_70 : decode cX4_findGraph 70 = .ok (.iadd, 1) := dk_96 (dk_at dksX4_findGraph_3 0 rfl rfl)
theorem dX4_findGraph_71 : decode cX4_findGraph 71 = .ok (.dup2, 1) := dk_92 (dk_at dksX4_findGraph_3 1 rfl rfl)
theorem dX4_findGraph_72 : decode cX4_findGraph 72 = .ok (.laload, 1) := dk_47 (dk_at dksX4_findGraph_3 2 rfl rfl)
theorem dX4_findGraph_73 : decode cX4_findGraph 73 = .ok (.aload_n 0, 1) := dk_42 (dk_at dksX4_findGraph_3 3 rfl rfl)
theorem dX4_findGraph_74 : decode cX4_findGraph 74 = .ok (.iload_n 1, 1) := dk_27 (dk_at dksX4_findGraph_3 4 rfl rfl)
theorem dX4_findGraph_75 : decode cX4_findGraph 75 = .ok (.iload_n 2, 1) := dk_28 (dk_at dksX4_findGraph_3 5 rfl rfl)
theorem dX4_findGraph_76 : decode cX4_findGraph 76 = .ok (.invokevirtual 208, 3) := dk_182 0 208 (dk_at dksX4_findGraph_3 6 rfl rfl)
theorem dX4_findGraph_79 : decode cX4_findGraph 79 = .ok (.ifCond .eq 9, 3) := dk_153 0 9 (dk_at dksX4_findGraph_3 9 rfl rfl)
theorem dX4_findGraph_82 : decode cX4_findGraph 82 = .ok (.lconst 1, 1) := dk_10 (dk_at dksX4_findGraph_3 12 rfl rfl)
theorem dX4_findGraph_83 : decode cX4_findGraph 83 = .ok (.iload_n 2, 1) := dk_28 (dk_at dksX4_findGraph_3 13 rfl rfl)
theorem dX4_findGraph_84 : decode cX4_findGraph 84 = .ok (.lshl, 1) := dk_121 (dk_at dksX4_findGraph_3 14 rfl rfl)
theorem dX4_findGraph_85 : decode cX4_findGraph 85 = .ok (.goto 4, 3) := dk_167 0 4 (dk_at dksX4_findGraph_3 15 rfl rfl)
theorem dX4_findGraph_88 : decode cX4_findGraph 88 = .ok (.lconst 0, 1) := dk_9 (dk_at dksX4_findGraph_3 18 rfl rfl)
theorem dX4_findGraph_89 : decode cX4_findGraph 89 = .ok (.lor, 1) := dk_129 (dk_at dksX4_findGraph_3 19 rfl rfl)
theorem dX4_findGraph_90 : decode cX4_findGraph 90 = .ok (.lastore, 1) := dk_80 (dk_at dksX4_findGraph_3 20 rfl rfl)
theorem dX4_findGraph_91 : decode cX4_findGraph 91 = .ok (.iinc 2 1, 3) := dk_132 2 1 (dk_at dksX4_findGraph_3 21 rfl rfl)
theorem dX4_findGraph_94 : decode cX4_findGraph 94 = .ok (.goto (-43), 3) := dk_167 255 213 (dk_at dksX4_findGraph_4 0 rfl rfl)
theorem dX4_findGraph_97 : decode cX4_findGraph 97 = .ok (.iinc 1 1, 3) := dk_132 1 1 (dk_at dksX4_findGraph_4 3 rfl rfl)
theorem dX4_findGraph_100 : decode cX4_findGraph 100 = .ok (.goto (-90), 3) := dk_167 255 166 (dk_at dksX4_findGraph_4 6 rfl rfl)
theorem dX4_findGraph_103 : decode cX4_findGraph 103 = .ok (.return_, 1) := dk_177 (dk_at dksX4_findGraph_4 9 rfl rfl)
abbrev cX4_findComponents : ByteArray := prog_10_method_51_code
def yX4_findComponents : MethodName := ⟨RX4, "findComponents", "()V"⟩
def dkwX4_findComponents_13 : List UInt8 := [4, 96, 181, 0, 220, 132, 1, 1, 167, 255, 159, 177]
abbrev dktX4_findComponents_13 : List UInt8 := dkwX4_findComponents_13 ++ []
def dkwX4_findComponents_12 : List UInt8 := [153, 0, 13, 42, 180, 0, 63, 28, 42, 180, 0, 220, 79, 132, 2, 1, 167, 255, 211, 42, 89, 180, 0, 220]
abbrev dktX4_findComponents_12 : List UInt8 := dkwX4_findComponents_12 ++ dktX4_findComponents_13
def dkwX4_findComponents_11 : List UInt8 := [162, 0, 43, 42, 180, 0, 56, 27, 28, 184, 0, 216, 153, 0, 25, 42, 180, 0, 56, 28, 27, 184, 0, 216]
abbrev dktX4_findComponents_11 : List UInt8 := dkwX4_findComponents_11 ++ dktX4_findComponents_12
def dkwX4_findComponents_10 : List UInt8 := [42, 180, 0, 56, 27, 27, 184, 0, 216, 154, 0, 6, 167, 0, 63, 27, 61, 28, 42, 180, 0, 211]
abbrev dktX4_findComponents_10 : List UInt8 := dkwX4_findComponents_10 ++ dktX4_findComponents_11
def dkwX4_findComponents_9 : List UInt8 := [167, 255, 237, 3, 60, 27, 42, 180, 0, 211, 162, 0, 95, 42, 180, 0, 63, 27, 46, 16, 251, 160, 0, 78]
abbrev dktX4_findComponents_9 : List UInt8 := dkwX4_findComponents_9 ++ dktX4_findComponents_10
def dkwX4_findComponents_8 : List UInt8 := [181, 0, 220, 3, 60, 27, 42, 180, 0, 211, 162, 0, 17, 42, 180, 0, 63, 27, 16, 251, 79, 132, 1, 1]
abbrev dktX4_findComponents_8 : List UInt8 := dkwX4_findComponents_8 ++ dktX4_findComponents_9
def dkwX4_findComponents_7 : List UInt8 := [96, 47, 129, 80, 132, 3, 1, 167, 255, 225, 132, 2, 1, 167, 255, 197, 132, 1, 1, 167, 255, 181, 42, 3]
abbrev dktX4_findComponents_7 : List UInt8 := dkwX4_findComponents_7 ++ dktX4_findComponents_8
def dkwX4_findComponents_6 : List UInt8 := [29, 7, 162, 0, 32, 42, 180, 0, 56, 7, 28, 104, 29, 96, 92, 47, 42, 180, 0, 56, 7, 27, 104, 29]
abbrev dktX4_findComponents_6 : List UInt8 := dkwX4_findComponents_6 ++ dktX4_findComponents_7
def dkwX4_findComponents_5 : List UInt8 := [3, 61, 28, 42, 180, 0, 211, 162, 0, 57, 42, 180, 0, 56, 28, 27, 184, 0, 216, 153, 0, 39, 3, 62]
abbrev dktX4_findComponents_5 : List UInt8 := dkwX4_findComponents_5 ++ dktX4_findComponents_6
def dkwX4_findComponents_4 : List UInt8 := [127, 80, 132, 2, 1, 167, 255, 213, 132, 1, 1, 167, 255, 151, 3, 60, 27, 42, 180, 0, 211, 162, 0, 73]
abbrev dktX4_findComponents_4 : List UInt8 := dkwX4_findComponents_4 ++ dktX4_findComponents_5
def dkwX4_findComponents_3 : List UInt8 := [154, 0, 26, 42, 180, 0, 56, 7, 27, 104, 28, 16, 64, 108, 96, 92, 47, 10, 28, 121, 20, 0, 214, 131]
abbrev dktX4_findComponents_3 : List UInt8 := dkwX4_findComponents_3 ++ dktX4_findComponents_4
def dkwX4_findComponents_2 : List UInt8 := [9, 80, 132, 2, 1, 167, 255, 215, 3, 61, 28, 42, 180, 0, 211, 162, 0, 41, 42, 180, 0, 59, 28, 51]
abbrev dktX4_findComponents_2 : List UInt8 := dkwX4_findComponents_2 ++ dktX4_findComponents_3
def dkwX4_findComponents_1 : List UInt8 := [28, 96, 42, 180, 0, 59, 27, 51, 153, 0, 16, 42, 180, 0, 52, 7, 27, 104, 28, 96, 47, 167, 0, 4]
abbrev dktX4_findComponents_1 : List UInt8 := dkwX4_findComponents_1 ++ dktX4_findComponents_2
def dkwX4_findComponents_0 : List UInt8 := [3, 60, 27, 42, 180, 0, 211, 162, 0, 103, 3, 61, 28, 7, 162, 0, 42, 42, 180, 0, 56, 7, 27, 104]
abbrev dktX4_findComponents_0 : List UInt8 := dkwX4_findComponents_0 ++ dktX4_findComponents_1
theorem dksX4_findComponents_0 : cX4_findComponents.data.toList.drop 0 = dktX4_findComponents_0 := by decide +kernel
theorem dksX4_findComponents_1 : cX4_findComponents.data.toList.drop 24 = dktX4_findComponents_1 := dk_seg dksX4_findComponents_0 24 rfl rfl
theorem dksX4_findComponents_2 : cX4_findComponents.data.toList.drop 48 = dktX4_findComponents_2 := dk_seg dksX4_findComponents_1 24 rfl rfl
theorem dksX4_findComponents_3 : cX4_findComponents.data.toList.drop 72 = dktX4_findComponents_3 := dk_seg dksX4_findComponents_2 24 rfl rfl
theorem dksX4_findComponents_4 : cX4_findComponents.data.toList.drop 96 = dktX4_findComponents_4 := dk_seg dksX4_findComponents_3 24 rfl rfl
theorem dksX4_findComponents_5 : cX4_findComponents.data.toList.drop 120 = dktX4_findComponents_5 := dk_seg dksX4_findComponents_4 24 rfl rfl
theorem dksX4_findComponents_6 : cX4_findComponents.data.toList.drop 144 = dktX4_findComponents_6 := dk_seg dksX4_findComponents_5 24 rfl rfl
theorem dksX4_findComponents_7 : cX4_findComponents.data.toList.drop 168 = dktX4_findComponents_7 := dk_seg dksX4_findComponents_6 24 rfl rfl
theorem dksX4_findComponents_8 : cX4_findComponents.data.toList.drop 192 = dktX4_findComponents_8 := dk_seg dksX4_findComponents_7 24 rfl rfl
theorem dksX4_findComponents_9 : cX4_findComponents.data.toList.drop 216 = dktX4_findComponents_9 := dk_seg dksX4_findComponents_8 24 rfl rfl
theorem dksX4_findComponents_10 : cX4_findComponents.data.toList.drop 240 = dktX4_findComponents_10 := dk_seg dksX4_findComponents_9 24 rfl rfl
theorem dksX4_findComponents_11 : cX4_findComponents.data.toList.drop 262 = dktX4_findComponents_11 := dk_seg dksX4_findComponents_10 22 rfl rfl
theorem dksX4_findComponents_12 : cX4_findComponents.data.toList.drop 286 = dktX4_findComponents_12 := dk_seg dksX4_findComponents_11 24 rfl rfl
theorem dksX4_findComponents_13 : cX4_findComponents.data.toList.drop 310 = dktX4_findComponents_13 := dk_seg dksX4_findComponents_12 24 rfl rfl
theorem dX4_findComponents_0 : decode cX4_findComponents 0 = .ok (.iconst 0, 1) := dk_3 (dk_at dksX4_findComponents_0 0 rfl rfl)
theorem dX4_findComponents_1 : decode cX4_findComponents 1 = .ok (.istore_n 1, 1) := dk_60 (dk_at dksX4_findComponents_0 1 rfl rfl)
theorem dX4_findComponents_2 : decode cX4_findComponents 2 = .ok (.iload_n 1, 1) := dk_27 (dk_at dksX4_findComponents_0 2 rfl rfl)
theorem dX4_findComponents_3 : decode cX4_findComponents 3 = .ok (.aload_n 0, 1) := dk_42 (dk_at dksX4_findComponents_0 3 rfl rfl)
theorem dX4_findComponents_4 : decode cX4_findComponents 4 = .ok (.getfield 211, 3) := dk_180 0 211 (dk_at dksX4_findComponents_0 4 rfl rfl)
theorem dX4_findComponents_7 : decode cX4_findComponents 7 = .ok (.if_icmp .ge 103, 3) := dk_162 0 103 (dk_at dksX4_findComponents_0 7 rfl rfl)
theorem dX4_findComponents_10 : decode cX4_findComponents 10 = .ok (.iconst 0, 1) := dk_3 (dk_at dksX4_findComponents_0 10 rfl rfl)
theorem dX4_findComponents_11 : decode cX4_findComponents 11 = .ok (.istore_n 2, 1) := dk_61 (dk_at dksX4_findComponents_0 11 rfl rfl)
theorem dX4_findComponents_12 : decode cX4_findComponents 12 = .ok (.iload_n 2, 1) := dk_28 (dk_at dksX4_findComponents_0 12 rfl rfl)
theorem dX4_findComponents_13 : decode cX4_findComponents 13 = .ok (.iconst 4, 1) := dk_7 (dk_at dksX4_findComponents_0 13 rfl rfl)
theorem dX4_findComponents_14 : decode cX4_findComponents 14 = .ok (.if_icmp .ge 42, 3) := dk_162 0 42 (dk_at dksX4_findComponents_0 14 rfl rfl)
theorem dX4_findComponents_17 : decode cX4_findComponents 17 = .ok (.aload_n 0, 1) := dk_42 (dk_at dksX4_findComponents_0 17 rfl rfl)
theorem dX4_findComponents_18 : decode cX4_findComponents 18 = .ok (.getfield 56, 3) := dk_180 0 56 (dk_at dksX4_findComponents_0 18 rfl rfl)
theorem dX4_findComponents_21 : decode cX4_findComponents 21 = .ok (.iconst 4, 1) := dk_7 (dk_at dksX4_findComponents_0 21 rfl rfl)
theorem dX4_findComponents_22 : decode cX4_findComponents 22 = .ok (.iload_n 1, 1) := dk_27 (dk_at dksX4_findComponents_0 22 rfl rfl)
theorem dX4_findComponents_23 : decode cX4_findComponents 23 = .ok (.imul, 1) := dk_104 (dk_at dksX4_findComponents_0 23 rfl rfl)
theorem dX4_findComponents_24 : decode cX4_findComponents 24 = .ok (.iload_n 2, 1) := dk_28 (dk_at dksX4_findComponents_1 0 rfl rfl)
theorem dX4_findComponents_25 : decode cX4_findComponents 25 = .ok (.iadd, 1) := dk_96 (dk_at dksX4_findComponents_1 1 rfl rfl)
theorem dX4_findComponents_26 : decode cX4_findComponents 26 = .ok (.aload_n 0, 1) := dk_42 (dk_at dksX4_findComponents_1 2 rfl rfl)
theorem dX4_findComponents_27 : decode cX4_findComponents 27 = .ok (.getfield 59, 3) := dk_180 0 59 (dk_at dksX4_findComponents_1 3 rfl rfl)
theorem dX4_findComponents_30 : decode cX4_findComponents 30 = .ok (.iload_n 1, 1) := dk_27 (dk_at dksX4_findComponents_1 6 rfl rfl)
theorem dX4_findComponents_31 : decode cX4_findComponents 31 = .ok (.baload, 1) := dk_51 (dk_at dksX4_findComponents_1 7 rfl rfl)
theorem dX4_findComponents_32 : decode cX4_findComponents 32 = .ok (.ifCond .eq 16, 3) := dk_153 0 16 (dk_at dksX4_findComponents_1 8 rfl rfl)
theorem dX4_findComponents_35 : decode cX4_findComponents 35 = .ok (.aload_n 0, 1) := dk_42 (dk_at dksX4_findComponents_1 11 rfl rfl)
theorem dX4_findComponents_36 : decode cX4_findComponents 36 = .ok (.getfield 52, 3) := dk_180 0 52 (dk_at dksX4_findComponents_1 12 rfl rfl)
theorem dX4_findComponents_39 : decode cX4_findComponents 39 = .ok (.iconst 4, 1) := dk_7 (dk_at dksX4_findComponents_1 15 rfl rfl)
theorem dX4_findComponents_40 : decode cX4_findComponents 40 = .ok (.iload_n 1, 1) := dk_27 (dk_at dksX4_findComponents_1 16 rfl rfl)
theorem dX4_findComponents_41 : decode cX4_findComponents 41 = .ok (.imul, 1) := dk_104 (dk_at dksX4_findComponents_1 17 rfl rfl)
theorem dX4_findComponents_42 : decode cX4_findComponents 42 = .ok (.iload_n 2, 1) := dk_28 (dk_at dksX4_findComponents_1 18 rfl rfl)
theorem dX4_findComponents_43 : decode cX4_findComponents 43 = .ok (.iadd, 1) := dk_96 (dk_at dksX4_findComponents_1 19 rfl rfl)
theorem dX4_findComponents_44 : decode cX4_findComponents 44 = .ok (.laload, 1) := dk_47 (dk_at dksX4_findComponents_1 20 rfl rfl)
theorem dX4_findComponents_45 : decode cX4_findComponents 45 = .ok (.goto 4, 3) := dk_167 0 4 (dk_at dksX4_findComponents_1 21 rfl rfl)
theorem dX4_findComponents_48 : decode cX4_findComponents 48 = .ok (.lconst 0, 1) := dk_9 (dk_at dksX4_findComponents_2 0 rfl rfl)
theorem dX4_findComponents_49 : decode cX4_findComponents 49 = .ok (.lastore, 1) := dk_80 (dk_at dksX4_findComponents_2 1 rfl rfl)
theorem dX4_findComponents_50 : decode cX4_findComponents 50 = .ok (.iinc 2 1, 3) := dk_132 2 1 (dk_at dksX4_findComponents_2 2 rfl rfl)
theorem dX4_findComponents_53 : decode cX4_findComponents 53 = .ok (.goto (-41), 3) := dk_167 255 215 (dk_at dksX4_findComponents_2 5 rfl rfl)
theorem dX4_findComponents_56 : decode cX4_findComponents 56 = .ok (.iconst 0, 1) := dk_3 (dk_at dksX4_findComponents_2 8 rfl rfl)
theorem dX4_findComponents_57 : decode cX4_findComponents 57 = .ok (.istore_n 2, 1) := dk_61 (dk_at dksX4_findComponents_2 9 rfl rfl)
theorem dX4_findComponents_58 : decode cX4_findComponents 58 = .ok (.iload_n 2, 1) := dk_28 (dk_at dksX4_findComponents_2 10 rfl rfl)
theorem dX4_findComponents_59 : decode cX4_findComponents 59 = .ok (.aload_n 0, 1) := dk_42 (dk_at dksX4_findComponents_2 11 rfl rfl)
theorem dX4_findComponents_60 : decode cX4_findComponents 60 = .ok (.getfield 211, 3) := dk_180 0 211 (dk_at dksX4_findComponents_2 12 rfl rfl)
theorem dX4_findComponents_63 : decode cX4_findComponents 63 = .ok (.if_icmp .ge 41, 3) := dk_162 0 41 (dk_at dksX4_findComponents_2 15 rfl rfl)
theorem dX4_findComponents_66 : decode cX4_findComponents 66 = .ok (.aload_n 0, 1) := dk_42 (dk_at dksX4_findComponents_2 18 rfl rfl)
theorem dX4_findComponents_67 : decode cX4_findComponents 67 = .ok (.getfield 59, 3) := dk_180 0 59 (dk_at dksX4_findComponents_2 19 rfl rfl)
theorem dX4_findComponents_70 : decode cX4_findComponents 70 = .ok (.iload_n 2, 1) := dk_28 (dk_at dksX4_findComponents_2 22 rfl rfl)
theorem dX4_findComponents_71 : decode cX4_findComponents 71 = .ok (.baload, 1) := dk_51 (dk_at dksX4_findComponents_2 23 rfl rfl)
theorem dX4_findComponents_72 : decode cX4_findComponents 72 = .ok (.ifCond .ne 26, 3) := dk_154 0 26 (dk_at dksX4_findComponents_3 0 rfl rfl)
theorem dX4_findComponents_75 : decode cX4_findComponents 75 = .ok (.aload_n 0, 1) := dk_42 (dk_at dksX4_findComponents_3 3 rfl rfl)
theorem dX4_findComponents_76 : decode cX4_findComponents 76 = .ok (.getfield 56, 3) := dk_180 0 56 (dk_at dksX4_findComponents_3 4 rfl rfl)
theorem dX4_findComponents_79 : decode cX4_findComponents 79 = .ok (.iconst 4, 1) := dk_7 (dk_at dksX4_findComponents_3 7 rfl rfl)
theorem dX4_findComponents_80 : decode cX4_findComponents 80 = .ok (.iload_n 1, 1) := dk_27 (dk_at dksX4_findComponents_3 8 rfl rfl)
theorem dX4_findComponents_81 : decode cX4_findComponents 81 = .ok (.imul, 1) := dk_104 (dk_at dksX4_findComponents_3 9 rfl rfl)
theorem dX4_findComponents_82 : decode cX4_findComponents 82 = .ok (.iload_n 2, 1) := dk_28 (dk_at dksX4_findComponents_3 10 rfl rfl)
theorem dX4_findComponents_83 : decode cX4_findComponents 83 = .ok (.bipush 64, 2) := dk_16 64 (dk_at dksX4_findComponents_3 11 rfl rfl)
theorem dX4_findComponents_85 : decode cX4_findComponents 85 = .ok (.idiv, 1) := dk_108 (dk_at dksX4_findComponents_3 13 rfl rfl)
theorem dX4_findComponents_86 : decode cX4_findComponents 86 = .ok (.iadd, 1) := dk_96 (dk_at dksX4_findComponents_3 14 rfl rfl)
theorem dX4_findComponents_87 : decode cX4_findComponents 87 = .ok (.dup2, 1) := dk_92 (dk_at dksX4_findComponents_3 15 rfl rfl)
theorem dX4_findComponents_88 : decode cX4_findComponents 88 = .ok (.laload, 1) := dk_47 (dk_at dksX4_findComponents_3 16 rfl rfl)
theorem dX4_findComponents_89 : decode cX4_findComponents 89 = .ok (.lconst 1, 1) := dk_10 (dk_at dksX4_findComponents_3 17 rfl rfl)
theorem dX4_findComponents_90 : decode cX4_findComponents 90 = .ok (.iload_n 2, 1) := dk_28 (dk_at dksX4_findComponents_3 18 rfl rfl)
theorem dX4_findComponents_91 : decode cX4_findComponents 91 = .ok (.lshl, 1) := dk_121 (dk_at dksX4_findComponents_3 19 rfl rfl)
theorem dX4_findComponents_92 : decode cX4_findComponents 92 = .ok (.ldc2_w 214, 3) := dk_20 0 214 (dk_at dksX4_findComponents_3 20 rfl rfl)
theorem dX4_findComponents_95 : decode cX4_findComponents 95 = .ok (.lxor, 1) := dk_131 (dk_at dksX4_findComponents_3 23 rfl rfl)
theorem dX4_findComponents_96 : decode cX4_findComponents 96 = .ok (.land, 1) := dk_127 (dk_at dksX4_findComponents_4 0 rfl rfl)
theorem dX4_findComponents_97 : decode cX4_findComponents 97 = .ok (.lastore, 1) := dk_80 (dk_at dksX4_findComponents_4 1 rfl rfl)
theorem dX4_findComponents_98 : decode cX4_findComponents 98 = .ok (.iinc 2 1, 3) := dk_132 2 1 (dk_at dksX4_findComponents_4 2 rfl rfl)
theorem dX4_findComponents_101 : decode cX4_findComponents 101 = .ok (.goto (-43), 3) := dk_167 255 213 (dk_at dksX4_findComponents_4 5 rfl rfl)
theorem dX4_findComponents_104 : decode cX4_findComponents 104 = .ok (.iinc 1 1, 3) := dk_132 1 1 (dk_at dksX4_findComponents_4 8 rfl rfl)
theorem dX4_findComponents_107 : decode cX4_findComponents 107 = .ok (.goto (-105), 3) := dk_167 255 151 (dk_at dksX4_findComponents_4 11 rfl rfl)
theorem dX4_findComponents_110 : decode cX4_findComponents 110 = .ok (.iconst 0, 1) := dk_3 (dk_at dksX4_findComponents_4 14 rfl rfl)
theorem dX4_findComponents_111 : decode cX4_findComponents 111 = .ok (.istore_n 1, 1) := dk_60 (dk_at dksX4_findComponents_4 15 rfl rfl)
theorem dX4_findComponents_112 : decode cX4_findComponents 112 = .ok (.iload_n 1, 1) := dk_27 (dk_at dksX4_findComponents_4 16 rfl rfl)
theorem dX4_findComponents_113 : decode cX4_findComponents 113 = .ok (.aload_n 0, 1) := dk_42 (dk_at dksX4_findComponents_4 17 rfl rfl)
theorem dX4_findComponents_114 : decode cX4_findComponents 114 = .ok (.getfield 211, 3) := dk_180 0 211 (dk_at dksX4_findComponents_4 18 rfl rfl)
theorem dX4_findComponents_117 : decode cX4_findComponents 117 = .ok (.if_icmp .ge 73, 3) := dk_162 0 73 (dk_at dksX4_findComponents_4 21 rfl rfl)
theorem dX4_findComponents_120 : decode cX4_findComponents 120 = .ok (.iconst 0, 1) := dk_3 (dk_at dksX4_findComponents_5 0 rfl rfl)
theorem dX4_findComponents_121 : decode cX4_findComponents 121 = .ok (.istore_n 2, 1) := dk_61 (dk_at dksX4_findComponents_5 1 rfl rfl)
theorem dX4_findComponents_122 : decode cX4_findComponents 122 = .ok (.iload_n 2, 1) := dk_28 (dk_at dksX4_findComponents_5 2 rfl rfl)
theorem dX4_findComponents_123 : decode cX4_findComponents 123 = .ok (.aload_n 0, 1) := dk_42 (dk_at dksX4_findComponents_5 3 rfl rfl)
theorem dX4_findComponents_124 : decode cX4_findComponents 124 = .ok (.getfield 211, 3) := dk_180 0 211 (dk_at dksX4_findComponents_5 4 rfl rfl)
theorem dX4_findComponents_127 : decode cX4_findComponents 127 = .ok (.if_icmp .ge 57, 3) := dk_162 0 57 (dk_at dksX4_findComponents_5 7 rfl rfl)
theorem dX4_findComponents_130 : decode cX4_findComponents 130 = .ok (.aload_n 0, 1) := dk_42 (dk_at dksX4_findComponents_5 10 rfl rfl)
theorem dX4_findComponents_131 : decode cX4_findComponents 131 = .ok (.getfield 56, 3) := dk_180 0 56 (dk_at dksX4_findComponents_5 11 rfl rfl)
theorem dX4_findComponents_134 : decode cX4_findComponents 134 = .ok (.iload_n 2, 1) := dk_28 (dk_at dksX4_findComponents_5 14 rfl rfl)
theorem dX4_findComponents_135 : decode cX4_findComponents 135 = .ok (.iload_n 1, 1) := dk_27 (dk_at dksX4_findComponents_5 15 rfl rfl)
theorem dX4_findComponents_136 : decode cX4_findComponents 136 = .ok (.invokestatic 216, 3) := dk_184 0 216 (dk_at dksX4_findComponents_5 16 rfl rfl)
theorem dX4_findComponents_139 : decode cX4_findComponents 139 = .ok (.ifCond .eq 39, 3) := dk_153 0 39 (dk_at dksX4_findComponents_5 19 rfl rfl)
theorem dX4_findComponents_142 : decode cX4_findComponents 142 = .ok (.iconst 0, 1) := dk_3 (dk_at dksX4_findComponents_5 22 rfl rfl)
theorem dX4_findComponents_143 : decode cX4_findComponents 143 = .ok (.istore_n 3, 1) := dk_62 (dk_at dksX4_findComponents_5 23 rfl rfl)
theorem dX4_findComponents_144 : decode cX4_findComponents 144 = .ok (.iload_n 3, 1) := dk_29 (dk_at dksX4_findComponents_6 0 rfl rfl)
theorem dX4_findComponents_145 : decode cX4_findComponents 145 = .ok (.iconst 4, 1) := dk_7 (dk_at dksX4_findComponents_6 1 rfl rfl)
theorem dX4_findComponents_146 : decode cX4_findComponents 146 = .ok (.if_icmp .ge 32, 3) := dk_162 0 32 (dk_at dksX4_findComponents_6 2 rfl rfl)
theorem dX4_findComponents_149 : decode cX4_findComponents 149 = .ok (.aload_n 0, 1) := dk_42 (dk_at dksX4_findComponents_6 5 rfl rfl)
theorem dX4_findComponents_150 : decode cX4_findComponents 150 = .ok (.getfield 56, 3) := dk_180 0 56 (dk_at dksX4_findComponents_6 6 rfl rfl)
theorem dX4_findComponents_153 : decode cX4_findComponents 153 = .ok (.iconst 4, 1) := dk_7 (dk_at dksX4_findComponents_6 9 rfl rfl)
theorem dX4_findComponents_154 : decode cX4_findComponents 154 = .ok (.iload_n 2, 1) := dk_28 (dk_at dksX4_findComponents_6 10 rfl rfl)
theorem dX4_findComponents_155 : decode cX4_findComponents 155 = .ok (.imul, 1) := dk_104 (dk_at dksX4_findComponents_6 11 rfl rfl)
theorem dX4_findComponents_156 : decode cX4_findComponents 156 = .ok (.iload_n 3, 1) := dk_29 (dk_at dksX4_findComponents_6 12 rfl rfl)
theorem dX4_findComponents_157 : decode cX4_findComponents 157 = .ok (.iadd, 1) := dk_96 (dk_at dksX4_findComponents_6 13 rfl rfl)
theorem dX4_findComponents_158 : decode cX4_findComponents 158 = .ok (.dup2, 1) := dk_92 (dk_at dksX4_findComponents_6 14 rfl rfl)
theorem dX4_findComponents_159 : decode cX4_findComponents 159 = .ok (.laload, 1) := dk_47 (dk_at dksX4_findComponents_6 15 rfl rfl)
theorem dX4_findComponents_160 : decode cX4_findComponents 160 = .ok (.aload_n 0, 1) := dk_42 (dk_at dksX4_findComponents_6 16 rfl rfl)
theorem dX4_findComponents_161 : decode cX4_findComponents 161 = .ok (.getfield 56, 3) := dk_180 0 56 (dk_at dksX4_findComponents_6 17 rfl rfl)
theorem dX4_findComponents_164 : decode cX4_findComponents 164 = .ok (.iconst 4, 1) := dk_7 (dk_at dksX4_findComponents_6 20 rfl rfl)
theorem dX4_findComponents_165 : decode cX4_findComponents 165 = .ok (.iload_n 1, 1) := dk_27 (dk_at dksX4_findComponents_6 21 rfl rfl)
theorem dX4_findComponents_166 : decode cX4_findComponents 166 = .ok (.imul, 1) := dk_104 (dk_at dksX4_findComponents_6 22 rfl rfl)
theorem dX4_findComponents_167 : decode cX4_findComponents 167 = .ok (.iload_n 3, 1) := dk_29 (dk_at dksX4_findComponents_6 23 rfl rfl)
theorem dX4_findComponents_168 : decode cX4_findComponents 168 = .ok (.iadd, 1) := dk_96 (dk_at dksX4_findComponents_7 0 rfl rfl)
theorem dX4_findComponents_169 : decode cX4_findComponents 169 = .ok (.laload, 1) := dk_47 (dk_at dksX4_findComponents_7 1 rfl rfl)
theorem dX4_findComponents_170 : decode cX4_findComponents 170 = .ok (.lor, 1) := dk_129 (dk_at dksX4_findComponents_7 2 rfl rfl)
theorem dX4_findComponents_171 : decode cX4_findComponents 171 = .ok (.lastore, 1) := dk_80 (dk_at dksX4_findComponents_7 3 rfl rfl)
theorem dX4_findComponents_172 : decode cX4_findComponents 172 = .ok (.iinc 3 1, 3) := dk_132 3 1 (dk_at dksX4_findComponents_7 4 rfl rfl)
theorem dX4_findComponents_175 : decode cX4_findComponents 175 = .ok (.goto (-31), 3) := dk_167 255 225 (dk_at dksX4_findComponents_7 7 rfl rfl)
theorem dX4_findComponents_178 : decode cX4_findComponents 178 = .ok (.iinc 2 1, 3) := dk_132 2 1 (dk_at dksX4_findComponents_7 10 rfl rfl)
theorem dX4_findComponents_181 : decode cX4_findComponents 181 = .ok (.goto (-59), 3) := dk_167 255 197 (dk_at dksX4_findComponents_7 13 rfl rfl)
theorem dX4_findComponents_184 : decode cX4_findComponents 184 = .ok (.iinc 1 1, 3) := dk_132 1 1 (dk_at dksX4_findComponents_7 16 rfl rfl)
theorem dX4_findComponents_187 : decode cX4_findComponents 187 = .ok (.goto (-75), 3) := dk_167 255 181 (dk_at dksX4_findComponents_7 19 rfl rfl)
theorem dX4_findComponents_190 : decode cX4_findComponents 190 = .ok (.aload_n 0, 1) := dk_42 (dk_at dksX4_findComponents_7 22 rfl rfl)
theorem dX4_findComponents_191 : decode cX4_findComponents 191 = .ok (.iconst 0, 1) := dk_3 (dk_at dksX4_findComponents_7 23 rfl rfl)
theorem dX4_findComponents_192 : decode cX4_findComponents 192 = .ok (.putfield 220, 3) := dk_181 0 220 (dk_at dksX4_findComponents_8 0 rfl rfl)
theorem dX4_findComponents_195 : decode cX4_findComponents 195 = .ok (.iconst 0, 1) := dk_3 (dk_at dksX4_findComponents_8 3 rfl rfl)
theorem dX4_findComponents_196 : decode cX4_findComponents 196 = .ok (.istore_n 1, 1) := dk_60 (dk_at dksX4_findComponents_8 4 rfl rfl)
theorem dX4_findComponents_197 : decode cX4_findComponents 197 = .ok (.iload_n 1, 1) := dk_27 (dk_at dksX4_findComponents_8 5 rfl rfl)
theorem dX4_findComponents_198 : decode cX4_findComponents 198 = .ok (.aload_n 0, 1) := dk_42 (dk_at dksX4_findComponents_8 6 rfl rfl)
theorem dX4_findComponents_199 : decode cX4_findComponents 199 = .ok (.getfield 211, 3) := dk_180 0 211 (dk_at dksX4_findComponents_8 7 rfl rfl)
theorem dX4_findComponents_202 : decode cX4_findComponents 202 = .ok (.if_icmp .ge 17, 3) := dk_162 0 17 (dk_at dksX4_findComponents_8 10 rfl rfl)
theorem dX4_findComponents_205 : decode cX4_findComponents 205 = .ok (.aload_n 0, 1) := dk_42 (dk_at dksX4_findComponents_8 13 rfl rfl)
theorem dX4_findComponents_206 : decode cX4_findComponents 206 = .ok (.getfield 63, 3) := dk_180 0 63 (dk_at dksX4_findComponents_8 14 rfl rfl)
theorem dX4_findComponents_209 : decode cX4_findComponents 209 = .ok (.iload_n 1, 1) := dk_27 (dk_at dksX4_findComponents_8 17 rfl rfl)
theorem dX4_findComponents_210 : decode cX4_findComponents 210 = .ok (.bipush (-5), 2) := dk_16 251 (dk_at dksX4_findComponents_8 18 rfl rfl)
theorem dX4_findComponents_212 : decode cX4_findComponents 212 = .ok (.iastore, 1) := dk_79 (dk_at dksX4_findComponents_8 20 rfl rfl)
theorem dX4_findComponents_213 : decode cX4_findComponents 213 = .ok (.iinc 1 1, 3) := dk_132 1 1 (dk_at dksX4_findComponents_8 21 rfl rfl)
theorem dX4_findComponents_216 : decode cX4_findComponents 216 = .ok (.goto (-19), 3) := dk_167 255 237 (dk_at dksX4_findComponents_9 0 rfl rfl)
theorem dX4_findComponents_219 : decode cX4_findComponents 219 = .ok (.iconst 0, 1) := dk_3 (dk_at dksX4_findComponents_9 3 rfl rfl)
theorem dX4_findComponents_220 : decode cX4_findComponents 220 = .ok (.istore_n 1, 1) := dk_60 (dk_at dksX4_findComponents_9 4 rfl rfl)
theorem dX4_findComponents_221 : decode cX4_findComponents 221 = .ok (.iload_n 1, 1) := dk_27 (dk_at dksX4_findComponents_9 5 rfl rfl)
theorem dX4_findComponents_222 : decode cX4_findComponents 222 = .ok (.aload_n 0, 1) := dk_42 (dk_at dksX4_findComponents_9 6 rfl rfl)
theorem dX4_findComponents_223 : decode cX4_findComponents 223 = .ok (.getfield 211, 3) := dk_180 0 211 (dk_at dksX4_findComponents_9 7 rfl rfl)
theorem dX4_findComponents_226 : decode cX4_findComponents 226 = .ok (.if_icmp .ge 95, 3) := dk_162 0 95 (dk_at dksX4_findComponents_9 10 rfl rfl)
theorem dX4_findComponents_229 : decode cX4_findComponents 229 = .ok (.aload_n 0, 1) := dk_42 (dk_at dksX4_findComponents_9 13 rfl rfl)
theorem dX4_findComponents_230 : decode cX4_findComponents 230 = .ok (.getfield 63, 3) := dk_180 0 63 (dk_at dksX4_findComponents_9 14 rfl rfl)
theorem dX4_findComponents_233 : decode cX4_findComponents 233 = .ok (.iload_n 1, 1) := dk_27 (dk_at dksX4_findComponents_9 17 rfl rfl)
theorem dX4_findComponents_234 : decode cX4_findComponents 234 = .ok (.iaload, 1) := dk_46 (dk_at dksX4_findComponents_9 18 rfl rfl)
theorem dX4_findComponents_235 : decode cX4_findComponents 235 = .ok (.bipush (-5), 2) := dk_16 251 (dk_at dksX4_findComponents_9 19 rfl rfl)
theorem dX4_findComponents_237 : decode cX4_findComponents 237 = .ok (.if_icmp .ne 78, 3) := dk_160 0 78 (dk_at dksX4_findComponents_9 21 rfl rfl)
theorem dX4_findComponents_240 : decode cX4_findComponents 240 = .ok (.aload_n 0, 1) := dk_42 (dk_at dksX4_findComponents_10 0 rfl rfl)
theorem dX4_findComponents_241 : decode cX4_findComponents 241 = .ok (.getfield 56, 3) := dk_180 0 56 (dk_at dksX4_findComponents_10 1 rfl rfl)
theorem dX4_findComponents_244 : decode cX4_findComponents 244 = .ok (.iload_n 1, 1) := dk_27 (dk_at dksX4_findComponents_10 4 rfl rfl)
theorem dX4_findComponents_245 : decode cX4_findComponents 245 = .ok (.iload_n 1, 1) := dk_27 (dk_at dksX4_findComponents_10 5 rfl rfl)
theorem dX4_findComponents_246 : decode cX4_findComponents 246 = .ok (.invokestatic 216, 3) := dk_184 0 216 (dk_at dksX4_findComponents_10 6 rfl rfl)
theorem dX4_findComponents_249 : decode cX4_findComponents 249 = .ok (.ifCond .ne 6, 3) := dk_154 0 6 (dk_at dksX4_findComponents_10 9 rfl rfl)
theorem dX4_findComponents_252 : decode cX4_findComponents 252 = .ok (.goto 63, 3) := dk_167 0 63 (dk_at dksX4_findComponents_10 12 rfl rfl)
theorem dX4_findComponents_255 : decode cX4_findComponents 255 = .ok (.iload_n 1, 1) := dk_27 (dk_at dksX4_findComponents_10 15 rfl rfl)
theorem dX4_findComponents_256 : decode cX4_findComponents 256 = .ok (.istore_n 2, 1) := dk_61 (dk_at dksX4_findComponents_10 16 rfl rfl)
theorem dX4_findComponents_257 : decode cX4_findComponents 257 = .ok (.iload_n 2, 1) := dk_28 (dk_at dksX4_findComponents_10 17 rfl rfl)
theorem dX4_findComponents_258 : decode cX4_findComponents 258 = .ok (.aload_n 0, 1) := dk_42 (dk_at dksX4_findComponents_10 18 rfl rfl)
theorem dX4_findComponents_259 : decode cX4_findComponents 259 = .ok (.getfield 211, 3) := dk_180 0 211 (dk_at dksX4_findComponents_10 19 rfl rfl)
theorem dX4_findComponents_262 : decode cX4_findComponents 262 = .ok (.if_icmp .ge 43, 3) := dk_162 0 43 (dk_at dksX4_findComponents_11 0 rfl rfl)
theorem dX4_findComponents_265 : decode cX4_findComponents 265 = .ok (.aload_n 0, 1) := dk_42 (dk_at dksX4_findComponents_11 3 rfl rfl)
theorem dX4_findComponents_266 : decode cX4_findComponents 266 = .ok (.getfield 56, 3) := dk_180 0 56 (dk_at dksX4_findComponents_11 4 rfl rfl)
theorem dX4_findComponents_269 : decode cX4_findComponents 269 = .ok (.iload_n 1, 1) := dk_27 (dk_at dksX4_findComponents_11 7 rfl rfl)
theorem dX4_findComponents_270 : decode cX4_findComponents 270 = .ok (.iload_n 2, 1) := dk_28 (dk_at dksX4_findComponents_11 8 rfl rfl)
theorem dX4_findComponents_271 : decode cX4_findComponents 271 = .ok (.invokestatic 216, 3) := dk_184 0 216 (dk_at dksX4_findComponents_11 9 rfl rfl)
theorem dX4_findComponents_274 : decode cX4_findComponents 274 = .ok (.ifCond .eq 25, 3) := dk_153 0 25 (dk_at dksX4_findComponents_11 12 rfl rfl)
theorem dX4_findComponents_277 : decode cX4_findComponents 277 = .ok (.aload_n 0, 1) := dk_42 (dk_at dksX4_findComponents_11 15 rfl rfl)
theorem dX4_findComponents_278 : decode cX4_findComponents 278 = .ok (.getfield 56, 3) := dk_180 0 56 (dk_at dksX4_findComponents_11 16 rfl rfl)
theorem dX4_findComponents_281 : decode cX4_findComponents 281 = .ok (.iload_n 2, 1) := dk_28 (dk_at dksX4_findComponents_11 19 rfl rfl)
theorem dX4_findComponents_282 : decode cX4_findComponents 282 = .ok (.iload_n 1, 1) := dk_27 (dk_at dksX4_findComponents_11 20 rfl rfl)
theorem dX4_findComponents_283 : decode cX4_findComponents 283 = .ok (.invokestatic 216, 3) := dk_184 0 216 (dk_at dksX4_findComponents_11 21 rfl rfl)
theorem dX4_findComponents_286 : decode cX4_findComponents 286 = .ok (.ifCond .eq 13, 3) := dk_153 0 13 (dk_at dksX4_findComponents_12 0 rfl rfl)
theorem dX4_findComponents_289 : decode cX4_findComponents 289 = .ok (.aload_n 0, 1) := dk_42 (dk_at dksX4_findComponents_12 3 rfl rfl)
theorem dX4_findComponents_290 : decode cX4_findComponents 290 = .ok (.getfield 63, 3) := dk_180 0 63 (dk_at dksX4_findComponents_12 4 rfl rfl)
theorem dX4_findComponents_293 : decode cX4_findComponents 293 = .ok (.iload_n 2, 1) := dk_28 (dk_at dksX4_findComponents_12 7 rfl rfl)
theorem dX4_findComponents_294 : decode cX4_findComponents 294 = .ok (.aload_n 0, 1) := dk_42 (dk_at dksX4_findComponents_12 8 rfl rfl)
theorem dX4_findComponents_295 : decode cX4_findComponents 295 = .ok (.getfield 220, 3) := dk_180 0 220 (dk_at dksX4_findComponents_12 9 rfl rfl)
theorem dX4_findComponents_298 : decode cX4_findComponents 298 = .ok (.iastore, 1) := dk_79 (dk_at dksX4_findComponents_12 12 rfl rfl)
theorem dX4_findComponents_299 : decode cX4_findComponents 299 = .ok (.iinc 2 1, 3) := dk_132 2 1 (dk_at dksX4_findComponents_12 13 rfl rfl)
theorem dX4_findComponents_302 : decode cX4_findComponents 302 = .ok (.goto (-45), 3) := dk_167 255 211 (dk_at dksX4_findComponents_12 16 rfl rfl)
theorem dX4_findComponents_305 : decode cX4_findComponents 305 = .ok (.aload_n 0, 1) := dk_42 (dk_at dksX4_findComponents_12 19 rfl rfl)
theorem dX4_findComponents_306 : decode cX4_findComponents 306 = .ok (.dup, 1) := dk_89 (dk_at dksX4_findComponents_12 20 rfl rfl)
theorem dX4_findComponents_307 : decode cX4_findComponents 307 = .ok (.getfield 220, 3) := dk_180 0 220 (dk_at dksX4_findComponents_12 21 rfl rfl)
theorem dX4_findComponents_310 : decode cX4_findComponents 310 = .ok (.iconst 1, 1) := dk_4 (dk_at dksX4_findComponents_13 0 rfl rfl)
theorem dX4_findComponents_311 : decode cX4_findComponents 311 = .ok (.iadd, 1) := dk_96 (dk_at dksX4_findComponents_13 1 rfl rfl)
theorem dX4_findComponents_312 : decode cX4_findComponents 312 = .ok (.putfield 220, 3) := dk_181 0 220 (dk_at dksX4_findComponents_13 2 rfl rfl)
theorem dX4_findComponents_315 : decode cX4_findComponents 315 = .ok (.iinc 1 1, 3) := dk_132 1 1 (dk_at dksX4_findComponents_13 5 rfl rfl)
theorem dX4_findComponents_318 : decode cX4_findComponents 318 = .ok (.goto (-97), 3) := dk_167 255 159 (dk_at dksX4_findComponents_13 8 rfl rfl)
theorem dX4_findComponents_321 : decode cX4_findComponents 321 = .ok (.return_, 1) := dk_177 (dk_at dksX4_findComponents_13 11 rfl rfl)
abbrev cX4_hasBit : ByteArray := prog_10_method_49_code
def yX4_hasBit : MethodName := ⟨RX4, "hasBit", "([JII)Z"⟩
def dkwX4_hasBit_1 : List UInt8 := [172]
abbrev dktX4_hasBit_1 : List UInt8 := dkwX4_hasBit_1 ++ []
def dkwX4_hasBit_0 : List UInt8 := [42, 7, 27, 104, 28, 16, 64, 108, 96, 47, 28, 123, 10, 127, 10, 148, 154, 0, 7, 4, 167, 0, 4, 3]
abbrev dktX4_hasBit_0 : List UInt8 := dkwX4_hasBit_0 ++ dktX4_hasBit_1
theorem dksX4_hasBit_0 : cX4_hasBit.data.toList.drop 0 = dktX4_hasBit_0 := by decide +kernel
theorem dksX4_hasBit_1 : cX4_hasBit.data.toList.drop 24 = dktX4_hasBit_1 := dk_seg dksX4_hasBit_0 24 rfl rfl
theorem dX4_hasBit_0 : decode cX4_hasBit 0 = .ok (.aload_n 0, 1) := dk_42 (dk_at dksX4_hasBit_0 0 rfl rfl)
theorem dX4_hasBit_1 : decode cX4_hasBit 1 = .ok (.iconst 4, 1) := dk_7 (dk_at dksX4_hasBit_0 1 rfl rfl)
theorem dX4_hasBit_2 : decode cX4_hasBit 2 = .ok (.iload_n 1, 1) := dk_27 (dk_at dksX4_hasBit_0 2 rfl rfl)
theorem dX4_hasBit_3 : decode cX4_hasBit 3 = .ok (.imul, 1) := dk_104 (dk_at dksX4_hasBit_0 3 rfl rfl)
theorem dX4_hasBit_4 : decode cX4_hasBit 4 = .ok (.iload_n 2, 1) := dk_28 (dk_at dksX4_hasBit_0 4 rfl rfl)
theorem dX4_hasBit_5 : decode cX4_hasBit 5 = .ok (.bipush 64, 2) := dk_16 64 (dk_at dksX4_hasBit_0 5 rfl rfl)
theorem dX4_hasBit_7 : decode cX4_hasBit 7 = .ok (.idiv, 1) := dk_108 (dk_at dksX4_hasBit_0 7 rfl rfl)
theorem dX4_hasBit_8 : decode cX4_hasBit 8 = .ok (.iadd, 1) := dk_96 (dk_at dksX4_hasBit_0 8 rfl rfl)
theorem dX4_hasBit_9 : decode cX4_hasBit 9 = .ok (.laload, 1) := dk_47 (dk_at dksX4_hasBit_0 9 rfl rfl)
theorem dX4_hasBit_10 : decode cX4_hasBit 10 = .ok (.iload_n 2, 1) := dk_28 (dk_at dksX4_hasBit_0 10 rfl rfl)
theorem dX4_hasBit_11 : decode cX4_hasBit 11 = .ok (.lshr, 1) := dk_123 (dk_at dksX4_hasBit_0 11 rfl rfl)
theorem dX4_hasBit_12 : decode cX4_hasBit 12 = .ok (.lconst 1, 1) := dk_10 (dk_at dksX4_hasBit_0 12 rfl rfl)
theorem dX4_hasBit_13 : decode cX4_hasBit 13 = .ok (.land, 1) := dk_127 (dk_at dksX4_hasBit_0 13 rfl rfl)
theorem dX4_hasBit_14 : decode cX4_hasBit 14 = .ok (.lconst 1, 1) := dk_10 (dk_at dksX4_hasBit_0 14 rfl rfl)
theorem dX4_hasBit_15 : decode cX4_hasBit 15 = .ok (.lcmp, 1) := dk_148 (dk_at dksX4_hasBit_0 15 rfl rfl)
theorem dX4_hasBit_16 : decode cX4_hasBit 16 = .ok (.ifCond .ne 7, 3) := dk_154 0 7 (dk_at dksX4_hasBit_0 16 rfl rfl)
theorem dX4_hasBit_19 : decode cX4_hasBit 19 = .ok (.iconst 1, 1) := dk_4 (dk_at dksX4_hasBit_0 19 rfl rfl)
theorem dX4_hasBit_20 : decode cX4_hasBit 20 = .ok (.goto 4, 3) := dk_167 0 4 (dk_at dksX4_hasBit_0 20 rfl rfl)
theorem dX4_hasBit_23 : decode cX4_hasBit 23 = .ok (.iconst 0, 1) := dk_3 (dk_at dksX4_hasBit_0 23 rfl rfl)
theorem dX4_hasBit_24 : decode cX4_hasBit 24 = .ok (.ireturn, 1) := dk_172 (dk_at dksX4_hasBit_1 0 rfl rfl)
abbrev cX4_componentOf : ByteArray := prog_10_method_53_code
def yX4_componentOf : MethodName := ⟨RX4, "componentOf", "(I)I"⟩
def dkwX4_componentOf_1 : List UInt8 := [172]
abbrev dktX4_componentOf_1 : List UInt8 := dkwX4_componentOf_1 ++ []
def dkwX4_componentOf_0 : List UInt8 := [42, 27, 182, 0, 188, 154, 0, 5, 2, 172, 42, 182, 0, 223, 42, 182, 0, 226, 42, 180, 0, 63, 27, 46]
abbrev dktX4_componentOf_0 : List UInt8 := dkwX4_componentOf_0 ++ dktX4_componentOf_1
theorem dksX4_componentOf_0 : cX4_componentOf.data.toList.drop 0 = dktX4_componentOf_0 := by decide +kernel
theorem dksX4_componentOf_1 : cX4_componentOf.data.toList.drop 24 = dktX4_componentOf_1 := dk_seg dksX4_componentOf_0 24 rfl rfl
theorem dX4_componentOf_0 : decode cX4_componentOf 0 = .ok (.aload_n 0, 1) := dk_42 (dk_at dksX4_componentOf_0 0 rfl rfl)
theorem dX4_componentOf_1 : decode cX4_componentOf 1 = .ok (.iload_n 1, 1) := dk_27 (dk_at dksX4_componentOf_0 1 rfl rfl)
theorem dX4_componentOf_2 : decode cX4_componentOf 2 = .ok (.invokevirtual 188, 3) := dk_182 0 188 (dk_at dksX4_componentOf_0 2 rfl rfl)
theorem dX4_componentOf_5 : decode cX4_componentOf 5 = .ok (.ifCond .ne 5, 3) := dk_154 0 5 (dk_at dksX4_componentOf_0 5 rfl rfl)
theorem dX4_componentOf_8 : decode cX4_componentOf 8 = .ok (.iconst (-1), 1) := dk_2 (dk_at dksX4_componentOf_0 8 rfl rfl)
theorem dX4_componentOf_9 : decode cX4_componentOf 9 = .ok (.ireturn, 1) := dk_172 (dk_at dksX4_componentOf_0 9 rfl rfl)
theorem dX4_componentOf_10 : decode cX4_componentOf 10 = .ok (.aload_n 0, 1) := dk_42 (dk_at dksX4_componentOf_0 10 rfl rfl)
theorem dX4_componentOf_11 : decode cX4_componentOf 11 = .ok (.invokevirtual 223, 3) := dk_182 0 223 (dk_at dksX4_componentOf_0 11 rfl rfl)
theorem dX4_componentOf_14 : decode cX4_componentOf 14 = .ok (.aload_n 0, 1) := dk_42 (dk_at dksX4_componentOf_0 14 rfl rfl)
theorem dX4_componentOf_15 : decode cX4_componentOf 15 = .ok (.invokevirtual 226, 3) := dk_182 0 226 (dk_at dksX4_componentOf_0 15 rfl rfl)
theorem dX4_componentOf_18 : decode cX4_componentOf 18 = .ok (.aload_n 0, 1) := dk_42 (dk_at dksX4_componentOf_0 18 rfl rfl)
theorem dX4_componentOf_19 : decode cX4_componentOf 19 = .ok (.getfield 63, 3) := dk_180 0 63 (dk_at dksX4_componentOf_0 19 rfl rfl)
theorem dX4_componentOf_22 : decode cX4_componentOf 22 = .ok (.iload_n 1, 1) := dk_27 (dk_at dksX4_componentOf_0 22 rfl rfl)
theorem dX4_componentOf_23 : decode cX4_componentOf 23 = .ok (.iaload, 1) := dk_46 (dk_at dksX4_componentOf_0 23 rfl rfl)
theorem dX4_componentOf_24 : decode cX4_componentOf 24 = .ok (.ireturn, 1) := dk_172 (dk_at dksX4_componentOf_1 0 rfl rfl)
abbrev cX4_sizeRelation : ByteArray := prog_10_method_55_code
def yX4_sizeRelation : MethodName := ⟨RX4, "sizeRelation", "(III)I"⟩
def dkwX4_sizeRelation_2 : List UInt8 := [154, 0, 5, 2, 172, 42, 27, 28, 29, 182, 0, 229, 172]
abbrev dktX4_sizeRelation_2 : List UInt8 := dkwX4_sizeRelation_2 ++ []
def dkwX4_sizeRelation_1 : List UInt8 := [184, 0, 105, 153, 0, 23, 29, 3, 42, 180, 0, 9, 42, 27, 182, 0, 194, 46, 4, 100, 184, 0, 105]
abbrev dktX4_sizeRelation_1 : List UInt8 := dkwX4_sizeRelation_1 ++ dktX4_sizeRelation_2
def dkwX4_sizeRelation_0 : List UInt8 := [42, 27, 182, 0, 188, 153, 0, 43, 28, 3, 42, 180, 0, 9, 42, 27, 182, 0, 191, 46, 4, 100]
abbrev dktX4_sizeRelation_0 : List UInt8 := dkwX4_sizeRelation_0 ++ dktX4_sizeRelation_1
theorem dksX4_sizeRelation_0 : cX4_sizeRelation.data.toList.drop 0 = dktX4_sizeRelation_0 := by decide +kernel
theorem dksX4_sizeRelation_1 : cX4_sizeRelation.data.toList.drop 22 = dktX4_sizeRelation_1 := dk_seg dksX4_sizeRelation_0 22 rfl rfl
theorem dksX4_sizeRelation_2 : cX4_sizeRelation.data.toList.drop 45 = dktX4_sizeRelation_2 := dk_seg dksX4_sizeRelation_1 23 rfl rfl
theorem dX4_sizeRelation_0 : decode cX4_sizeRelation 0 = .ok (.aload_n 0, 1) := dk_42 (dk_at dksX4_sizeRelation_0 0 rfl rfl)
theorem dX4_sizeRelation_1 : decode cX4_sizeRelation 1 = .ok (.iload_n 1, 1) := dk_27 (dk_at dksX4_sizeRelation_0 1 rfl rfl)
theorem dX4_sizeRelation_2 : decode cX4_sizeRelation 2 = .ok (.invokevirtual 188, 3) := dk_182 0 188 (dk_at dksX4_sizeRelation_0 2 rfl rfl)
theorem dX4_sizeRelation_5 : decode cX4_sizeRelation 5 = .ok (.ifCond .eq 43, 3) := dk_153 0 43 (dk_at dksX4_sizeRelation_0 5 rfl rfl)
theorem dX4_sizeRelation_8 : decode cX4_sizeRelation 8 = .ok (.iload_n 2, 1) := dk_28 (dk_at dksX4_sizeRelation_0 8 rfl rfl)
theorem dX4_sizeRelation_9 : decode cX4_sizeRelation 9 = .ok (.iconst 0, 1) := dk_3 (dk_at dksX4_sizeRelation_0 9 rfl rfl)
theorem dX4_sizeRelation_10 : decode cX4_sizeRelation 10 = .ok (.aload_n 0, 1) := dk_42 (dk_at dksX4_sizeRelation_0 10 rfl rfl)
theorem dX4_sizeRelation_11 : decode cX4_sizeRelation 11 = .ok (.getfield 9, 3) := dk_180 0 9 (dk_at dksX4_sizeRelation_0 11 rfl rfl)
theorem dX4_sizeRelation_14 : decode cX4_sizeRelation 14 = .ok (.aload_n 0, 1) := dk_42 (dk_at dksX4_sizeRelation_0 14 rfl rfl)
theorem dX4_sizeRelation_15 : decode cX4_sizeRelation 15 = .ok (.iload_n 1, 1) := dk_27 (dk_at dksX4_sizeRelation_0 15 rfl rfl)
theorem dX4_sizeRelation_16 : decode cX4_sizeRelation 16 = .ok (.invokevirtual 191, 3) := dk_182 0 191 (dk_at dksX4_sizeRelation_0 16 rfl rfl)
theorem dX4_sizeRelation_19 : decode cX4_sizeRelation 19 = .ok (.iaload, 1) := dk_46 (dk_at dksX4_sizeRelation_0 19 rfl rfl)
theorem dX4_sizeRelation_20 : decode cX4_sizeRelation 20 = .ok (.iconst 1, 1) := dk_4 (dk_at dksX4_sizeRelation_0 20 rfl rfl)
theorem dX4_sizeRelation_21 : decode cX4_sizeRelation 21 = .ok (.isub, 1) := dk_100 (dk_at dksX4_sizeRelation_0 21 rfl rfl)
theorem dX4_sizeRelation_22 : decode cX4_sizeRelation 22 = .ok (.invokestatic 105, 3) := dk_184 0 105 (dk_at dksX4_sizeRelation_1 0 rfl rfl)
theorem dX4_sizeRelation_25 : decode cX4_sizeRelation 25 = .ok (.ifCond .eq 23, 3) := dk_153 0 23 (dk_at dksX4_sizeRelation_1 3 rfl rfl)
theorem dX4_sizeRelation_28 : decode cX4_sizeRelation 28 = .ok (.iload_n 3, 1) := dk_29 (dk_at dksX4_sizeRelation_1 6 rfl rfl)
theorem dX4_sizeRelation_29 : decode cX4_sizeRelation 29 = .ok (.iconst 0, 1) := dk_3 (dk_at dksX4_sizeRelation_1 7 rfl rfl)
theorem dX4_sizeRelation_30 : decode cX4_sizeRelation 30 = .ok (.aload_n 0, 1) := dk_42 (dk_at dksX4_sizeRelation_1 8 rfl rfl)
theorem dX4_sizeRelation_31 : decode cX4_sizeRelation 31 = .ok (.getfield 9, 3) := dk_180 0 9 (dk_at dksX4_sizeRelation_1 9 rfl rfl)
theorem dX4_sizeRelation_34 : decode cX4_sizeRelation 34 = .ok (.aload_n 0, 1) := dk_42 (dk_at dksX4_sizeRelation_1 12 rfl rfl)
theorem dX4_sizeRelation_35 : decode cX4_sizeRelation 35 = .ok (.iload_n 1, 1) := dk_27 (dk_at dksX4_sizeRelation_1 13 rfl rfl)
theorem dX4_sizeRelation_36 : decode cX4_sizeRelation 36 = .ok (.invokevirtual 194, 3) := dk_182 0 194 (dk_at dksX4_sizeRelation_1 14 rfl rfl)
theorem dX4_sizeRelation_39 : decode cX4_sizeRelation 39 = .ok (.iaload, 1) := dk_46 (dk_at dksX4_sizeRelation_1 17 rfl rfl)
theorem dX4_sizeRelation_40 : decode cX4_sizeRelation 40 = .ok (.iconst 1, 1) := dk_4 (dk_at dksX4_sizeRelation_1 18 rfl rfl)
theorem dX4_sizeRelation_41 : decode cX4_sizeRelation 41 = .ok (.isub, 1) := dk_100 (dk_at dksX4_sizeRelation_1 19 rfl rfl)
theorem dX4_sizeRelation_42 : decode cX4_sizeRelation 42 = .ok (.invokestatic 105, 3) := dk_184 0 105 (dk_at dksX4_sizeRelation_1 20 rfl rfl)
theorem dX4_sizeRelation_45 : decode cX4_sizeRelation 45 = .ok (.ifCond .ne 5, 3) := dk_154 0 5 (dk_at dksX4_sizeRelation_2 0 rfl rfl)
theorem dX4_sizeRelation_48 : decode cX4_sizeRelation 48 = .ok (.iconst (-1), 1) := dk_2 (dk_at dksX4_sizeRelation_2 3 rfl rfl)
theorem dX4_sizeRelation_49 : decode cX4_sizeRelation 49 = .ok (.ireturn, 1) := dk_172 (dk_at dksX4_sizeRelation_2 4 rfl rfl)
theorem dX4_sizeRelation_50 : decode cX4_sizeRelation 50 = .ok (.aload_n 0, 1) := dk_42 (dk_at dksX4_sizeRelation_2 5 rfl rfl)
theorem dX4_sizeRelation_51 : decode cX4_sizeRelation 51 = .ok (.iload_n 1, 1) := dk_27 (dk_at dksX4_sizeRelation_2 6 rfl rfl)
theorem dX4_sizeRelation_52 : decode cX4_sizeRelation 52 = .ok (.iload_n 2, 1) := dk_28 (dk_at dksX4_sizeRelation_2 7 rfl rfl)
theorem dX4_sizeRelation_53 : decode cX4_sizeRelation 53 = .ok (.iload_n 3, 1) := dk_29 (dk_at dksX4_sizeRelation_2 8 rfl rfl)
theorem dX4_sizeRelation_54 : decode cX4_sizeRelation 54 = .ok (.invokevirtual 229, 3) := dk_182 0 229 (dk_at dksX4_sizeRelation_2 9 rfl rfl)
theorem dX4_sizeRelation_57 : decode cX4_sizeRelation 57 = .ok (.ireturn, 1) := dk_172 (dk_at dksX4_sizeRelation_2 12 rfl rfl)
abbrev cX4_relation : ByteArray := prog_10_method_54_code
def yX4_relation : MethodName := ⟨RX4, "relation", "(III)I"⟩
def dkwX4_relation_5 : List UInt8 := [5, 172, 132, 8, 1, 167, 255, 195, 3, 172]
abbrev dktX4_relation_5 : List UInt8 := dkwX4_relation_5 ++ []
def dkwX4_relation_4 : List UInt8 := [180, 0, 16, 21, 5, 21, 6, 184, 0, 134, 153, 0, 16, 21, 8, 21, 4, 160, 0, 7, 4, 167, 0, 4]
abbrev dktX4_relation_4 : List UInt8 := dkwX4_relation_4 ++ dktX4_relation_5
def dkwX4_relation_3 : List UInt8 := [42, 180, 0, 16, 21, 8, 182, 0, 117, 21, 8, 100, 21, 6, 160, 0, 36, 42, 180, 0, 16, 21, 8, 42]
abbrev dktX4_relation_3 : List UInt8 := dkwX4_relation_3 ++ dktX4_relation_4
def dkwX4_relation_2 : List UInt8 := [42, 42, 180, 0, 16, 21, 4, 182, 0, 117, 54, 7, 21, 4, 54, 8, 21, 8, 21, 7, 162, 0, 60, 42]
abbrev dktX4_relation_2 : List UInt8 := dkwX4_relation_2 ++ dktX4_relation_3
def dkwX4_relation_1 : List UInt8 := [182, 0, 182, 29, 182, 0, 201, 54, 5, 42, 42, 180, 0, 16, 21, 5, 182, 0, 117, 21, 5, 100, 54, 6]
abbrev dktX4_relation_1 : List UInt8 := dkwX4_relation_1 ++ dktX4_relation_2
def dkwX4_relation_0 : List UInt8 := [42, 42, 180, 0, 16, 42, 27, 182, 0, 179, 28, 182, 0, 201, 54, 4, 42, 42, 180, 0, 16, 42, 27]
abbrev dktX4_relation_0 : List UInt8 := dkwX4_relation_0 ++ dktX4_relation_1
theorem dksX4_relation_0 : cX4_relation.data.toList.drop 0 = dktX4_relation_0 := by decide +kernel
theorem dksX4_relation_1 : cX4_relation.data.toList.drop 23 = dktX4_relation_1 := dk_seg dksX4_relation_0 23 rfl rfl
theorem dksX4_relation_2 : cX4_relation.data.toList.drop 47 = dktX4_relation_2 := dk_seg dksX4_relation_1 24 rfl rfl
theorem dksX4_relation_3 : cX4_relation.data.toList.drop 71 = dktX4_relation_3 := dk_seg dksX4_relation_2 24 rfl rfl
theorem dksX4_relation_4 : cX4_relation.data.toList.drop 95 = dktX4_relation_4 := dk_seg dksX4_relation_3 24 rfl rfl
theorem dksX4_relation_5 : cX4_relation.data.toList.drop 119 = dktX4_relation_5 := dk_seg dksX4_relation_4 24 rfl rfl
theorem dX4_relation_0 : decode cX4_relation 0 = .ok (.aload_n 0, 1) := dk_42 (dk_at dksX4_relation_0 0 rfl rfl)
theorem dX4_relation_1 : decode cX4_relation 1 = .ok (.aload_n 0, 1) := dk_42 (dk_at dksX4_relation_0 1 rfl rfl)
theorem dX4_relation_2 : decode cX4_relation 2 = .ok (.getfield 16, 3) := dk_180 0 16 (dk_at dksX4_relation_0 2 rfl rfl)
theorem dX4_relation_5 : decode cX4_relation 5 = .ok (.aload_n 0, 1) := dk_42 (dk_at dksX4_relation_0 5 rfl rfl)
theorem dX4_relation_6 : decode cX4_relation 6 = .ok (.iload_n 1, 1) := dk_27 (dk_at dksX4_relation_0 6 rfl rfl)
theorem dX4_relation_7 : decode cX4_relation 7 = .ok (.invokevirtual 179, 3) := dk_182 0 179 (dk_at dksX4_relation_0 7 rfl rfl)
theorem dX4_relation_10 : decode cX4_relation 10 = .ok (.iload_n 2, 1) := dk_28 (dk_at dksX4_relation_0 10 rfl rfl)
theorem dX4_relation_11 : decode cX4_relation 11 = .ok (.invokevirtual 201, 3) := dk_182 0 201 (dk_at dksX4_relation_0 11 rfl rfl)
theorem dX4_relation_14 : decode cX4_relation 14 = .ok (.istore 4, 2) := dk_54 4 (dk_at dksX4_relation_0 14 rfl rfl)
theorem dX4_relation_16 : decode cX4_relation 16 = .ok (.aload_n 0, 1) := dk_42 (dk_at dksX4_relation_0 16 rfl rfl)
theorem dX4_relation_17 : decode cX4_relation 17 = .ok (.aload_n 0, 1) := dk_42 (dk_at dksX4_relation_0 17 rfl rfl)
theorem dX4_relation_18 : decode cX4_relation 18 = .ok (.getfield 16, 3) := dk_180 0 16 (dk_at dksX4_relation_0 18 rfl rfl)
theorem dX4_relation_21 : decode cX4_relation 21 = .ok (.aload_n 0, 1) := dk_42 (dk_at dksX4_relation_0 21 rfl rfl)
theorem dX4_relation_22 : decode cX4_relation 22 = .ok (.iload_n 1, 1) := dk_27 (dk_at dksX4_relation_0 22 rfl rfl)
theorem dX4_relation_23 : decode cX4_relation 23 = .ok (.invokevirtual 182, 3) := dk_182 0 182 (dk_at dksX4_relation_1 0 rfl rfl)
theorem dX4_relation_26 : decode cX4_relation 26 = .ok (.iload_n 3, 1) := dk_29 (dk_at dksX4_relation_1 3 rfl rfl)
theorem dX4_relation_27 : decode cX4_relation 27 = .ok (.invokevirtual 201, 3) := dk_182 0 201 (dk_at dksX4_relation_1 4 rfl rfl)
theorem dX4_relation_30 : decode cX4_relation 30 = .ok (.istore 5, 2) := dk_54 5 (dk_at dksX4_relation_1 7 rfl rfl)
theorem dX4_relation_32 : decode cX4_relation 32 = .ok (.aload_n 0, 1) := dk_42 (dk_at dksX4_relation_1 9 rfl rfl)
theorem dX4_relation_33 : decode cX4_relation 33 = .ok (.aload_n 0, 1) := dk_42 (dk_at dksX4_relation_1 10 rfl rfl)
theorem dX4_relation_34 : decode cX4_relation 34 = .ok (.getfield 16, 3) := dk_180 0 16 (dk_at dksX4_relation_1 11 rfl rfl)
theorem dX4_relation_37 : decode cX4_relation 37 = .ok (.iload 5, 2) := dk_21 5 (dk_at dksX4_relation_1 14 rfl rfl)
theorem dX4_relation_39 : decode cX4_relation 39 = .ok (.invokevirtual 117, 3) := dk_182 0 117 (dk_at dksX4_relation_1 16 rfl rfl)
theorem dX4_relation_42 : decode cX4_relation 42 = .ok (.iload 5, 2) := dk_21 5 (dk_at dksX4_relation_1 19 rfl rfl)
theorem dX4_relation_44 : decode cX4_relation 44 = .ok (.isub, 1) := dk_100 (dk_at dksX4_relation_1 21 rfl rfl)
theorem dX4_relation_45 : decode cX4_relation 45 = .ok (.istore 6, 2) := dk_54 6 (dk_at dksX4_relation_1 22 rfl rfl)
theorem dX4_relation_47 : decode cX4_relation 47 = .ok (.aload_n 0, 1) := dk_42 (dk_at dksX4_relation_2 0 rfl rfl)
theorem dX4_relation_48 : decode cX4_relation 48 = .ok (.aload_n 0, 1) := dk_42 (dk_at dksX4_relation_2 1 rfl rfl)
theorem dX4_relation_49 : decode cX4_relation 49 = .ok (.getfield 16, 3) := dk_180 0 16 (dk_at dksX4_relation_2 2 rfl rfl)
theorem dX4_relation_52 : decode cX4_relation 52 = .ok (.iload 4, 2) := dk_21 4 (dk_at dksX4_relation_2 5 rfl rfl)
theorem dX4_relation_54 : decode cX4_relation 54 = .ok (.invokevirtual 117, 3) := dk_182 0 117 (dk_at dksX4_relation_2 7 rfl rfl)
theorem dX4_relation_57 : decode cX4_relation 57 = .ok (.istore 7, 2) := dk_54 7 (dk_at dksX4_relation_2 10 rfl rfl)
theorem dX4_relation_59 : decode cX4_relation 59 = .ok (.iload 4, 2) := dk_21 4 (dk_at dksX4_relation_2 12 rfl rfl)
theorem dX4_relation_61 : decode cX4_relation 61 = .ok (.istore 8, 2) := dk_54 8 (dk_at dksX4_relation_2 14 rfl rfl)
theorem dX4_relation_63 : decode cX4_relation 63 = .ok (.iload 8, 2) := dk_21 8 (dk_at dksX4_relation_2 16 rfl rfl)
theorem dX4_relation_65 : decode cX4_relation 65 = .ok (.iload 7, 2) := dk_21 7 (dk_at dksX4_relation_2 18 rfl rfl)
theorem dX4_relation_67 : decode cX4_relation 67 = .ok (.if_icmp .ge 60, 3) := dk_162 0 60 (dk_at dksX4_relation_2 20 rfl rfl)
theorem dX4_relation_70 : decode cX4_relation 70 = .ok (.aload_n 0, 1) := dk_42 (dk_at dksX4_relation_2 23 rfl rfl)
theorem dX4_relation_71 : decode cX4_relation 71 = .ok (.aload_n 0, 1) := dk_42 (dk_at dksX4_relation_3 0 rfl rfl)
theorem dX4_relation_72 : decode cX4_relation 72 = .ok (.getfield 16, 3) := dk_180 0 16 (dk_at dksX4_relation_3 1 rfl rfl)
theorem dX4_relation_75 : decode cX4_relation 75 = .ok (.iload 8, 2) := dk_21 8 (dk_at dksX4_relation_3 4 rfl rfl)
theorem dX4_relation_77 : decode cX4_relation 77 = .ok (.invokevirtual 117, 3) := dk_182 0 117 (dk_at dksX4_relation_3 6 rfl rfl)
theorem dX4_relation_80 : decode cX4_relation 80 = .ok (.iload 8, 2) := dk_21 8 (dk_at dksX4_relation_3 9 rfl rfl)
theorem dX4_relation_82 : decode cX4_relation 82 = .ok (.isub, 1) := dk_100 (dk_at dksX4_relation_3 11 rfl rfl)
theorem dX4_relation_83 : decode cX4_relation 83 = .ok (.iload 6, 2) := dk_21 6 (dk_at dksX4_relation_3 12 rfl rfl)
theorem dX4_relation_85 : decode cX4_relation 85 = .ok (.if_icmp .ne 36, 3) := dk_160 0 36 (dk_at dksX4_relation_3 14 rfl rfl)
theorem dX4_relation_88 : decode cX4_relation 88 = .ok (.aload_n 0, 1) := dk_42 (dk_at dksX4_relation_3 17 rfl rfl)
theorem dX4_relation_89 : decode cX4_relation 89 = .ok (.getfield 16, 3) := dk_180 0 16 (dk_at dksX4_relation_3 18 rfl rfl)
theorem dX4_relation_92 : decode cX4_relation 92 = .ok (.iload 8, 2) := dk_21 8 (dk_at dksX4_relation_3 21 rfl rfl)
theorem dX4_relation_94 : decode cX4_relation 94 = .ok (.aload_n 0, 1) := dk_42 (dk_at dksX4_relation_3 23 rfl rfl)
theorem dX4_relation_95 : decode cX4_relation 95 = .ok (.getfield 16, 3) := dk_180 0 16 (dk_at dksX4_relation_4 0 rfl rfl)
theorem dX4_relation_98 : decode cX4_relation 98 = .ok (.iload 5, 2) := dk_21 5 (dk_at dksX4_relation_4 3 rfl rfl)
theorem dX4_relation_100 : decode cX4_relation 100 = .ok (.iload 6, 2) := dk_21 6 (dk_at dksX4_relation_4 5 rfl rfl)
theorem dX4_relation_102 : decode cX4_relation 102 = .ok (.invokestatic 134, 3) := dk_184 0 134 (dk_at dksX4_relation_4 7 rfl rfl)
theorem dX4_relation_105 : decode cX4_relation 105 = .ok (.ifCond .eq 16, 3) := dk_153 0 16 (dk_at dksX4_relation_4 10 rfl rfl)
theorem dX4_relation_108 : decode cX4_relation 108 = .ok (.iload 8, 2) := dk_21 8 (dk_at dksX4_relation_4 13 rfl rfl)
theorem dX4_relation_110 : decode cX4_relation 110 = .ok (.iload 4, 2) := dk_21 4 (dk_at dksX4_relation_4 15 rfl rfl)
theorem dX4_relation_112 : decode cX4_relation 112 = .ok (.if_icmp .ne 7, 3) := dk_160 0 7 (dk_at dksX4_relation_4 17 rfl rfl)
theorem dX4_relation_115 : decode cX4_relation 115 = .ok (.iconst 1, 1) := dk_4 (dk_at dksX4_relation_4 20 rfl rfl)
theorem dX4_relation_116 : decode cX4_relation 116 = .ok (.goto 4, 3) := dk_167 0 4 (dk_at dksX4_relation_4 21 rfl rfl)
theorem dX4_relation_119 : decode cX4_relation 119 = .ok (.iconst 2, 1) := dk_5 (dk_at dksX4_relation_5 0 rfl rfl)
theorem dX4_relation_120 : decode cX4_relation 120 = .ok (.ireturn, 1) := dk_172 (dk_at dksX4_relation_5 1 rfl rfl)
theorem dX4_relation_121 : decode cX4_relation 121 = .ok (.iinc 8 1, 3) := dk_132 8 1 (dk_at dksX4_relation_5 2 rfl rfl)
theorem dX4_relation_124 : decode cX4_relation 124 = .ok (.goto (-61), 3) := dk_167 255 195 (dk_at dksX4_relation_5 5 rfl rfl)
theorem dX4_relation_127 : decode cX4_relation 127 = .ok (.iconst 0, 1) := dk_3 (dk_at dksX4_relation_5 8 rfl rfl)
theorem dX4_relation_128 : decode cX4_relation 128 = .ok (.ireturn, 1) := dk_172 (dk_at dksX4_relation_5 9 rfl rfl)
abbrev cX4_areEqual : ByteArray := prog_10_method_10_code
def yX4_areEqual : MethodName := ⟨RX4, "areEqual", "([II[III)Z"⟩
def dkwX4_areEqual_2 : List UInt8 := [172]
abbrev dktX4_areEqual_2 : List UInt8 := dkwX4_areEqual_2 ++ []
def dkwX4_areEqual_1 : List UInt8 := [44, 29, 21, 6, 96, 46, 160, 0, 7, 4, 167, 0, 4, 3, 54, 5, 132, 6, 1, 167, 255, 219, 21, 5]
abbrev dktX4_areEqual_1 : List UInt8 := dkwX4_areEqual_1 ++ dktX4_areEqual_2
def dkwX4_areEqual_0 : List UInt8 := [4, 54, 5, 3, 54, 6, 21, 6, 21, 4, 162, 0, 36, 21, 5, 153, 0, 31, 42, 27, 21, 6, 96, 46]
abbrev dktX4_areEqual_0 : List UInt8 := dkwX4_areEqual_0 ++ dktX4_areEqual_1
theorem dksX4_areEqual_0 : cX4_areEqual.data.toList.drop 0 = dktX4_areEqual_0 := by decide +kernel
theorem dksX4_areEqual_1 : cX4_areEqual.data.toList.drop 24 = dktX4_areEqual_1 := dk_seg dksX4_areEqual_0 24 rfl rfl
theorem dksX4_areEqual_2 : cX4_areEqual.data.toList.drop 48 = dktX4_areEqual_2 := dk_seg dksX4_areEqual_1 24 rfl rfl
theorem dX4_areEqual_0 : decode cX4_areEqual 0 = .ok (.iconst 1, 1) := dk_4 (dk_at dksX4_areEqual_0 0 rfl rfl)
theorem dX4_areEqual_1 : decode cX4_areEqual 1 = .ok (.istore 5, 2) := dk_54 5 (dk_at dksX4_areEqual_0 1 rfl rfl)
theorem dX4_areEqual_3 : decode cX4_areEqual 3 = .ok (.iconst 0, 1) := dk_3 (dk_at dksX4_areEqual_0 3 rfl rfl)
theorem dX4_areEqual_4 : decode cX4_areEqual 4 = .ok (.istore 6, 2) := dk_54 6 (dk_at dksX4_areEqual_0 4 rfl rfl)
theorem dX4_areEqual_6 : decode cX4_areEqual 6 = .ok (.iload 6, 2) := dk_21 6 (dk_at dksX4_areEqual_0 6 rfl rfl)
theorem dX4_areEqual_8 : decode cX4_areEqual 8 = .ok (.iload 4, 2) := dk_21 4 (dk_at dksX4_areEqual_0 8 rfl rfl)
theorem dX4_areEqual_10 : decode cX4_areEqual 10 = .ok (.if_icmp .ge 36, 3) := dk_162 0 36 (dk_at dksX4_areEqual_0 10 rfl rfl)
theorem dX4_areEqual_13 : decode cX4_areEqual 13 = .ok (.iload 5, 2) := dk_21 5 (dk_at dksX4_areEqual_0 13 rfl rfl)
theorem dX4_areEqual_15 : decode cX4_areEqual 15 = .ok (.ifCond .eq 31, 3) := dk_153 0 31 (dk_at dksX4_areEqual_0 15 rfl rfl)
theorem dX4_areEqual_18 : decode cX4_areEqual 18 = .ok (.aload_n 0, 1) := dk_42 (dk_at dksX4_areEqual_0 18 rfl rfl)
theorem dX4_areEqual_19 : decode cX4_areEqual 19 = .ok (.iload_n 1, 1) := dk_27 (dk_at dksX4_areEqual_0 19 rfl rfl)
theorem dX4_areEqual_20 : decode cX4_areEqual 20 = .ok (.iload 6, 2) := dk_21 6 (dk_at dksX4_areEqual_0 20 rfl rfl)
theorem dX4_areEqual_22 : decode cX4_areEqual 22 = .ok (.iadd, 1) := dk_96 (dk_at dksX4_areEqual_0 22 rfl rfl)
theorem dX4_areEqual_23 : decode cX4_areEqual 23 = .ok (.iaload, 1) := dk_46 (dk_at dksX4_areEqual_0 23 rfl rfl)
theorem dX4_areEqual_24 : decode cX4_areEqual 24 = .ok (.aload_n 2, 1) := dk_44 (dk_at dksX4_areEqual_1 0 rfl rfl)
theorem dX4_areEqual_25 : decode cX4_areEqual 25 = .ok (.iload_n 3, 1) := dk_29 (dk_at dksX4_areEqual_1 1 rfl rfl)
theorem dX4_areEqual_26 : decode cX4_areEqual 26 = .ok (.iload 6, 2) := dk_21 6 (dk_at dksX4_areEqual_1 2 rfl rfl)
theorem dX4_areEqual_28 : decode cX4_areEqual 28 = .ok (.iadd, 1) := dk_96 (dk_at dksX4_areEqual_1 4 rfl rfl)
theorem dX4_areEqual_29 : decode cX4_areEqual 29 = .ok (.iaload, 1) := dk_46 (dk_at dksX4_areEqual_1 5 rfl rfl)
theorem dX4_areEqual_30 : decode cX4_areEqual 30 = .ok (.if_icmp .ne 7, 3) := dk_160 0 7 (dk_at dksX4_areEqual_1 6 rfl rfl)
theorem dX4_areEqual_33 : decode cX4_areEqual 33 = .ok (.iconst 1, 1) := dk_4 (dk_at dksX4_areEqual_1 9 rfl rfl)
theorem dX4_areEqual_34 : decode cX4_areEqual 34 = .ok (.goto 4, 3) := dk_167 0 4 (dk_at dksX4_areEqual_1 10 rfl rfl)
theorem dX4_areEqual_37 : decode cX4_areEqual 37 = .ok (.iconst 0, 1) := dk_3 (dk_at dksX4_areEqual_1 13 rfl rfl)
theorem dX4_areEqual_38 : decode cX4_areEqual 38 = .ok (.istore 5, 2) := dk_54 5 (dk_at dksX4_areEqual_1 14 rfl rfl)
theorem dX4_areEqual_40 : decode cX4_areEqual 40 = .ok (.iinc 6 1, 3) := dk_132 6 1 (dk_at dksX4_areEqual_1 16 rfl rfl)
theorem dX4_areEqual_43 : decode cX4_areEqual 43 = .ok (.goto (-37), 3) := dk_167 255 219 (dk_at dksX4_areEqual_1 19 rfl rfl)
theorem dX4_areEqual_46 : decode cX4_areEqual 46 = .ok (.iload 5, 2) := dk_21 5 (dk_at dksX4_areEqual_1 22 rfl rfl)
theorem dX4_areEqual_48 : decode cX4_areEqual 48 = .ok (.ireturn, 1) := dk_172 (dk_at dksX4_areEqual_2 0 rfl rfl)
abbrev cX4_closureSize : ByteArray := prog_10_method_62_code
def yX4_closureSize : MethodName := ⟨RX4, "closureSize", "()I"⟩
def dkwX4_closureSize_0 : List UInt8 := [42, 182, 1, 3, 153, 0, 10, 42, 180, 0, 250, 167, 0, 5, 16, 248, 172]
abbrev dktX4_closureSize_0 : List UInt8 := dkwX4_closureSize_0 ++ []
theorem dksX4_closureSize_0 : cX4_closureSize.data.toList.drop 0 = dktX4_closureSize_0 := by decide +kernel
theorem dX4_closureSize_0 : decode cX4_closureSize 0 = .ok (.aload_n 0, 1) := dk_42 (dk_at dksX4_closureSize_0 0 rfl rfl)
theorem dX4_closureSize_1 : decode cX4_closureSize 1 = .ok (.invokevirtual 259, 3) := dk_182 1 3 (dk_at dksX4_closureSize_0 1 rfl rfl)
theorem dX4_closureSize_4 : decode cX4_closureSize 4 = .ok (.ifCond .eq 10, 3) := dk_153 0 10 (dk_at dksX4_closureSize_0 4 rfl rfl)
theorem dX4_closureSize_7 : decode cX4_closureSize 7 = .ok (.aload_n 0, 1) := dk_42 (dk_at dksX4_closureSize_0 7 rfl rfl)
theorem dX4_closureSize_8 : decode cX4_closureSize 8 = .ok (.getfield 250, 3) := dk_180 0 250 (dk_at dksX4_closureSize_0 8 rfl rfl)
theorem dX4_closureSize_11 : decode cX4_closureSize 11 = .ok (.goto 5, 3) := dk_167 0 5 (dk_at dksX4_closureSize_0 11 rfl rfl)
theorem dX4_closureSize_14 : decode cX4_closureSize 14 = .ok (.bipush (-8), 2) := dk_16 248 (dk_at dksX4_closureSize_0 14 rfl rfl)
theorem dX4_closureSize_16 : decode cX4_closureSize 16 = .ok (.ireturn, 1) := dk_172 (dk_at dksX4_closureSize_0 16 rfl rfl)
abbrev cX4_findClosure : ByteArray := prog_10_method_61_code
def yX4_findClosure : MethodName := ⟨RX4, "findClosure", "()Z"⟩
def dkwX4_findClosure_10 : List UInt8 := [42, 180, 0, 250, 17, 1, 144, 163, 0, 7, 4, 167, 0, 4, 3, 172]
abbrev dktX4_findClosure_10 : List UInt8 := dkwX4_findClosure_10 ++ []
def dkwX4_findClosure_9 : List UInt8 := [180, 0, 250, 162, 0, 21, 42, 180, 0, 76, 42, 180, 0, 66, 28, 46, 3, 84, 132, 2, 1, 167, 255, 233]
abbrev dktX4_findClosure_9 : List UInt8 := dkwX4_findClosure_9 ++ dktX4_findClosure_10
def dkwX4_findClosure_8 : List UInt8 := [46, 182, 1, 0, 182, 0, 253, 132, 3, 1, 167, 255, 208, 132, 2, 1, 167, 255, 182, 3, 61, 28, 42]
abbrev dktX4_findClosure_8 : List UInt8 := dkwX4_findClosure_8 ++ dktX4_findClosure_9
def dkwX4_findClosure_7 : List UInt8 := [180, 0, 66, 29, 46, 182, 1, 0, 182, 0, 253, 42, 42, 42, 180, 0, 66, 29, 46, 42, 180, 0, 66, 28]
abbrev dktX4_findClosure_7 : List UInt8 := dkwX4_findClosure_7 ++ dktX4_findClosure_8
def dkwX4_findClosure_6 : List UInt8 := [17, 1, 144, 163, 0, 62, 3, 62, 29, 28, 163, 0, 49, 42, 42, 42, 180, 0, 66, 28, 46, 42]
abbrev dktX4_findClosure_6 : List UInt8 := dkwX4_findClosure_6 ++ dktX4_findClosure_7
def dkwX4_findClosure_5 : List UInt8 := [182, 0, 253, 132, 2, 1, 167, 255, 145, 3, 61, 28, 42, 180, 0, 250, 162, 0, 72, 42, 180, 0, 250]
abbrev dktX4_findClosure_5 : List UInt8 := dkwX4_findClosure_5 ++ dktX4_findClosure_6
def dkwX4_findClosure_4 : List UInt8 := [167, 255, 182, 42, 6, 42, 28, 182, 0, 191, 104, 42, 28, 182, 0, 194, 96, 42, 180, 0, 79, 184, 0, 246]
abbrev dktX4_findClosure_4 : List UInt8 := dkwX4_findClosure_4 ++ dktX4_findClosure_5
def dkwX4_findClosure_3 : List UInt8 := [21, 4, 153, 0, 17, 42, 28, 29, 6, 108, 29, 6, 112, 182, 0, 229, 167, 0, 4, 3, 79, 132, 3, 1]
abbrev dktX4_findClosure_3 : List UInt8 := dkwX4_findClosure_3 ++ dktX4_findClosure_4
def dkwX4_findClosure_2 : List UInt8 := [180, 0, 9, 42, 28, 182, 0, 194, 46, 162, 0, 7, 4, 167, 0, 4, 3, 54, 4, 42, 180, 0, 79, 29]
abbrev dktX4_findClosure_2 : List UInt8 := dkwX4_findClosure_2 ++ dktX4_findClosure_3
def dkwX4_findClosure_1 : List UInt8 := [162, 0, 74, 29, 6, 108, 42, 180, 0, 9, 42, 28, 182, 0, 191, 46, 162, 0, 23, 29, 6, 112, 42]
abbrev dktX4_findClosure_1 : List UInt8 := dkwX4_findClosure_1 ++ dktX4_findClosure_2
def dkwX4_findClosure_0 : List UInt8 := [42, 182, 0, 185, 60, 42, 3, 181, 0, 250, 3, 61, 28, 27, 162, 0, 112, 3, 62, 29, 16, 9]
abbrev dktX4_findClosure_0 : List UInt8 := dkwX4_findClosure_0 ++ dktX4_findClosure_1
theorem dksX4_findClosure_0 : cX4_findClosure.data.toList.drop 0 = dktX4_findClosure_0 := by decide +kernel
theorem dksX4_findClosure_1 : cX4_findClosure.data.toList.drop 22 = dktX4_findClosure_1 := dk_seg dksX4_findClosure_0 22 rfl rfl
theorem dksX4_findClosure_2 : cX4_findClosure.data.toList.drop 45 = dktX4_findClosure_2 := dk_seg dksX4_findClosure_1 23 rfl rfl
theorem dksX4_findClosure_3 : cX4_findClosure.data.toList.drop 69 = dktX4_findClosure_3 := dk_seg dksX4_findClosure_2 24 rfl rfl
theorem dksX4_findClosure_4 : cX4_findClosure.data.toList.drop 93 = dktX4_findClosure_4 := dk_seg dksX4_findClosure_3 24 rfl rfl
theorem dksX4_findClosure_5 : cX4_findClosure.data.toList.drop 117 = dktX4_findClosure_5 := dk_seg dksX4_findClosure_4 24 rfl rfl
theorem dksX4_findClosure_6 : cX4_findClosure.data.toList.drop 140 = dktX4_findClosure_6 := dk_seg dksX4_findClosure_5 23 rfl rfl
theorem dksX4_findClosure_7 : cX4_findClosure.data.toList.drop 162 = dktX4_findClosure_7 := dk_seg dksX4_findClosure_6 22 rfl rfl
theorem dksX4_findClosure_8 : cX4_findClosure.data.toList.drop 186 = dktX4_findClosure_8 := dk_seg dksX4_findClosure_7 24 rfl rfl
theorem dksX4_findClosure_9 : cX4_findClosure.data.toList.drop 209 = dktX4_findClosure_9 := dk_seg dksX4_findClosure_8 23 rfl rfl
theorem dksX4_findClosure_10 : cX4_findClosure.data.toList.drop 233 = dktX4_findClosure_10 := dk_seg dksX4_findClosure_9 24 rfl rfl
theorem dX4_findClosure_0 : decode cX4_findClosure 0 = .ok (.aload_n 0, 1) := dk_42 (dk_at dksX4_findClosure_0 0 rfl rfl)
theorem dX4_findClosure_1 : decode cX4_findClosure 1 = .ok (.invokevirtual 185, 3) := dk_182 0 185 (dk_at dksX4_findClosure_0 1 rfl rfl)
theorem dX4_findClosure_4 : decode cX4_findClosure 4 = .ok (.istore_n 1, 1) := dk_60 (dk_at dksX4_findClosure_0 4 rfl rfl)
theorem dX4_findClosure_5 : decode cX4_findClosure 5 = .ok (.aload_n 0, 1) := dk_42 (dk_at dksX4_findClosure_0 5 rfl rfl)
theorem dX4_findClosure_6 : decode cX4_findClosure 6 = .ok (.iconst 0, 1) := dk_3 (dk_at dksX4_findClosure_0 6 rfl rfl)
theorem dX4_findClosure_7 : decode cX4_findClosure 7 = .ok (.putfield 250, 3) := dk_181 0 250 (dk_at dksX4_findClosure_0 7 rfl rfl)
theorem dX4_findClosure_10 : decode cX4_findClosure 10 = .ok (.iconst 0, 1) := dk_3 (dk_at dksX4_findClosure_0 10 rfl rfl)
theorem dX4_findClosure_11 : decode cX4_findClosure 11 = .ok (.istore_n 2, 1) := dk_61 (dk_at dksX4_findClosure_0 11 rfl rfl)
theorem dX4_findClosure_12 : decode cX4_findClosure 12 = .ok (.iload_n 2, 1) := dk_28 (dk_at dksX4_findClosure_0 12 rfl rfl)
theorem dX4_findClosure_13 : decode cX4_findClosure 13 = .ok (.iload_n 1, 1) := dk_27 (dk_at dksX4_findClosure_0 13 rfl rfl)
theorem dX4_findClosure_14 : decode cX4_findClosure 14 = .ok (.if_icmp .ge 112, 3) := dk_162 0 112 (dk_at dksX4_findClosure_0 14 rfl rfl)
theorem dX4_findClosure_17 : decode cX4_findClosure 17 = .ok (.iconst 0, 1) := dk_3 (dk_at dksX4_findClosure_0 17 rfl rfl)
theorem dX4_findClosure_18 : decode cX4_findClosure 18 = .ok (.istore_n 3, 1) := dk_62 (dk_at dksX4_findClosure_0 18 rfl rfl)
theorem dX4_findClosure_19 : decode cX4_findClosure 19 = .ok (.iload_n 3, 1) := dk_29 (dk_at dksX4_findClosure_0 19 rfl rfl)
theorem dX4_findClosure_20 : decode cX4_findClosure 20 = .ok (.bipush 9, 2) := dk_16 9 (dk_at dksX4_findClosure_0 20 rfl rfl)
theorem dX4_findClosure_22 : decode cX4_findClosure 22 = .ok (.if_icmp .ge 74, 3) := dk_162 0 74 (dk_at dksX4_findClosure_1 0 rfl rfl)
theorem dX4_findClosure_25 : decode cX4_findClosure 25 = .ok (.iload_n 3, 1) := dk_29 (dk_at dksX4_findClosure_1 3 rfl rfl)
theorem dX4_findClosure_26 : decode cX4_findClosure 26 = .ok (.iconst 3, 1) := dk_6 (dk_at dksX4_findClosure_1 4 rfl rfl)
theorem dX4_findClosure_27 : decode cX4_findClosure 27 = .ok (.idiv, 1) := dk_108 (dk_at dksX4_findClosure_1 5 rfl rfl)
theorem dX4_findClosure_28 : decode cX4_findClosure 28 = .ok (.aload_n 0, 1) := dk_42 (dk_at dksX4_findClosure_1 6 rfl rfl)
theorem dX4_findClosure_29 : decode cX4_findClosure 29 = .ok (.getfield 9, 3) := dk_180 0 9 (dk_at dksX4_findClosure_1 7 rfl rfl)
theorem dX4_findClosure_32 : decode cX4_findClosure 32 = .ok (.aload_n 0, 1) := dk_42 (dk_at dksX4_findClosure_1 10 rfl rfl)
theorem dX4_findClosure_33 : decode cX4_findClosure 33 = .ok (.iload_n 2, 1) := dk_28 (dk_at dksX4_findClosure_1 11 rfl rfl)
theorem dX4_findClosure_34 : decode cX4_findClosure 34 = .ok (.invokevirtual 191, 3) := dk_182 0 191 (dk_at dksX4_findClosure_1 12 rfl rfl)
theorem dX4_findClosure_37 : decode cX4_findClosure 37 = .ok (.iaload, 1) := dk_46 (dk_at dksX4_findClosure_1 15 rfl rfl)
theorem dX4_findClosure_38 : decode cX4_findClosure 38 = .ok (.if_icmp .ge 23, 3) := dk_162 0 23 (dk_at dksX4_findClosure_1 16 rfl rfl)
theorem dX4_findClosure_41 : decode cX4_findClosure 41 = .ok (.iload_n 3, 1) := dk_29 (dk_at dksX4_findClosure_1 19 rfl rfl)
theorem dX4_findClosure_42 : decode cX4_findClosure 42 = .ok (.iconst 3, 1) := dk_6 (dk_at dksX4_findClosure_1 20 rfl rfl)
theorem dX4_findClosure_43 : decode cX4_findClosure 43 = .ok (.irem, 1) := dk_112 (dk_at dksX4_findClosure_1 21 rfl rfl)
theorem dX4_findClosure_44 : decode cX4_findClosure 44 = .ok (.aload_n 0, 1) := dk_42 (dk_at dksX4_findClosure_1 22 rfl rfl)
theorem dX4_findClosure_45 : decode cX4_findClosure 45 = .ok (.getfield 9, 3) := dk_180 0 9 (dk_at dksX4_findClosure_2 0 rfl rfl)
theorem dX4_findClosure_48 : decode cX4_findClosure 48 = .ok (.aload_n 0, 1) := dk_42 (dk_at dksX4_findClosure_2 3 rfl rfl)
theorem dX4_findClosure_49 : decode cX4_findClosure 49 = .ok (.iload_n 2, 1) := dk_28 (dk_at dksX4_findClosure_2 4 rfl rfl)
theorem dX4_findClosure_50 : decode cX4_findClosure 50 = .ok (.invokevirtual 194, 3) := dk_182 0 194 (dk_at dksX4_findClosure_2 5 rfl rfl)
theorem dX4_findClosure_53 : decode cX4_findClosure 53 = .ok (.iaload, 1) := dk_46 (dk_at dksX4_findClosure_2 8 rfl rfl)
theorem dX4_findClosure_54 : decode cX4_findClosure 54 = .ok (.if_icmp .ge 7, 3) := dk_162 0 7 (dk_at dksX4_findClosure_2 9 rfl rfl)
theorem dX4_findClosure_57 : decode cX4_findClosure 57 = .ok (.iconst 1, 1) := dk_4 (dk_at dksX4_findClosure_2 12 rfl rfl)
theorem dX4_findClosure_58 : decode cX4_findClosure 58 = .ok (.goto 4, 3) := dk_167 0 4 (dk_at dksX4_findClosure_2 13 rfl rfl)
theorem dX4_findClosure_61 : decode cX4_findClosure 61 = .ok (.iconst 0, 1) := dk_3 (dk_at dksX4_findClosure_2 16 rfl rfl)
theorem dX4_findClosure_62 : decode cX4_findClosure 62 = .ok (.istore 4, 2) := dk_54 4 (dk_at dksX4_findClosure_2 17 rfl rfl)
theorem dX4_findClosure_64 : decode cX4_findClosure 64 = .ok (.aload_n 0, 1) := dk_42 (dk_at dksX4_findClosure_2 19 rfl rfl)
theorem dX4_findClosure_65 : decode cX4_findClosure 65 = .ok (.getfield 79, 3) := dk_180 0 79 (dk_at dksX4_findClosure_2 20 rfl rfl)
theorem dX4_findClosure_68 : decode cX4_findClosure 68 = .ok (.iload_n 3, 1) := dk_29 (dk_at dksX4_findClosure_2 23 rfl rfl)
theorem dX4_findClosure_69 : decode cX4_findClosure 69 = .ok (.iload 4, 2) := dk_21 4 (dk_at dksX4_findClosure_3 0 rfl rfl)
theorem dX4_findClosure_71 : decode cX4_findClosure 71 = .ok (.ifCond .eq 17, 3) := dk_153 0 17 (dk_at dksX4_findClosure_3 2 rfl rfl)
theorem dX4_findClosure_74 : decode cX4_findClosure 74 = .ok (.aload_n 0, 1) := dk_42 (dk_at dksX4_findClosure_3 5 rfl rfl)
theorem dX4_findClosure_75 : decode cX4_findClosure 75 = .ok (.iload_n 2, 1) := dk_28 (dk_at dksX4_findClosure_3 6 rfl rfl)
theorem dX4_findClosure_76 : decode cX4_findClosure 76 = .ok (.iload_n 3, 1) := dk_29 (dk_at dksX4_findClosure_3 7 rfl rfl)
theorem dX4_findClosure_77 : decode cX4_findClosure 77 = .ok (.iconst 3, 1) := dk_6 (dk_at dksX4_findClosure_3 8 rfl rfl)
theorem dX4_findClosure_78 : decode cX4_findClosure 78 = .ok (.idiv, 1) := dk_108 (dk_at dksX4_findClosure_3 9 rfl rfl)
theorem dX4_findClosure_79 : decode cX4_findClosure 79 = .ok (.iload_n 3, 1) := dk_29 (dk_at dksX4_findClosure_3 10 rfl rfl)
theorem dX4_findClosure_80 : decode cX4_findClosure 80 = .ok (.iconst 3, 1) := dk_6 (dk_at dksX4_findClosure_3 11 rfl rfl)
theorem dX4_findClosure_81 : decode cX4_findClosure 81 = .ok (.irem, 1) := dk_112 (dk_at dksX4_findClosure_3 12 rfl rfl)
theorem dX4_findClosure_82 : decode cX4_findClosure 82 = .ok (.invokevirtual 229, 3) := dk_182 0 229 (dk_at dksX4_findClosure_3 13 rfl rfl)
theorem dX4_findClosure_85 : decode cX4_findClosure 85 = .ok (.goto 4, 3) := dk_167 0 4 (dk_at dksX4_findClosure_3 16 rfl rfl)
theorem dX4_findClosure_88 : decode cX4_findClosure 88 = .ok (.iconst 0, 1) := dk_3 (dk_at dksX4_findClosure_3 19 rfl rfl)
theorem dX4_findClosure_89 : decode cX4_findClosure 89 = .ok (.iastore, 1) := dk_79 (dk_at dksX4_findClosure_3 20 rfl rfl)
theorem dX4_findClosure_90 : decode cX4_findClosure 90 = .ok (.iinc 3 1, 3) := dk_132 3 1 (dk_at dksX4_findClosure_3 21 rfl rfl)
theorem dX4_findClosure_93 : decode cX4_findClosure 93 = .ok (.goto (-74), 3) := dk_167 255 182 (dk_at dksX4_findClosure_4 0 rfl rfl)
theorem dX4_findClosure_96 : decode cX4_findClosure 96 = .ok (.aload_n 0, 1) := dk_42 (dk_at dksX4_findClosure_4 3 rfl rfl)
theorem dX4_findClosure_97 : decode cX4_findClosure 97 = .ok (.iconst 3, 1) := dk_6 (dk_at dksX4_findClosure_4 4 rfl rfl)
theorem dX4_findClosure_98 : decode cX4_findClosure 98 = .ok (.aload_n 0, 1) := dk_42 (dk_at dksX4_findClosure_4 5 rfl rfl)
theorem dX4_findClosure_99 : decode cX4_findClosure 99 = .ok (.iload_n 2, 1) := dk_28 (dk_at dksX4_findClosure_4 6 rfl rfl)
theorem dX4_findClosure_100 : decode cX4_findClosure 100 = .ok (.invokevirtual 191, 3) := dk_182 0 191 (dk_at dksX4_findClosure_4 7 rfl rfl)
theorem dX4_findClosure_103 : decode cX4_findClosure 103 = .ok (.imul, 1) := dk_104 (dk_at dksX4_findClosure_4 10 rfl rfl)
theorem dX4_findClosure_104 : decode cX4_findClosure 104 = .ok (.aload_n 0, 1) := dk_42 (dk_at dksX4_findClosure_4 11 rfl rfl)
theorem dX4_findClosure_105 : decode cX4_findClosure 105 = .ok (.iload_n 2, 1) := dk_28 (dk_at dksX4_findClosure_4 12 rfl rfl)
theorem dX4_findClosure_106 : decode cX4_findClosure 106 = .ok (.invokevirtual 194, 3) := dk_182 0 194 (dk_at dksX4_findClosure_4 13 rfl rfl)
theorem dX4_findClosure_109 : decode cX4_findClosure 109 = .ok (.iadd, 1) := dk_96 (dk_at dksX4_findClosure_4 16 rfl rfl)
theorem dX4_findClosure_110 : decode cX4_findClosure 110 = .ok (.aload_n 0, 1) := dk_42 (dk_at dksX4_findClosure_4 17 rfl rfl)
theorem dX4_findClosure_111 : decode cX4_findClosure 111 = .ok (.getfield 79, 3) := dk_180 0 79 (dk_at dksX4_findClosure_4 18 rfl rfl)
theorem dX4_findClosure_114 : decode cX4_findClosure 114 = .ok (.invokestatic 246, 3) := dk_184 0 246 (dk_at dksX4_findClosure_4 21 rfl rfl)
theorem dX4_findClosure_117 : decode cX4_findClosure 117 = .ok (.invokevirtual 253, 3) := dk_182 0 253 (dk_at dksX4_findClosure_5 0 rfl rfl)
theorem dX4_findClosure_120 : decode cX4_findClosure 120 = .ok (.iinc 2 1, 3) := dk_132 2 1 (dk_at dksX4_findClosure_5 3 rfl rfl)
theorem dX4_findClosure_123 : decode cX4_findClosure 123 = .ok (.goto (-111), 3) := dk_167 255 145 (dk_at dksX4_findClosure_5 6 rfl rfl)
theorem dX4_findClosure_126 : decode cX4_findClosure 126 = .ok (.iconst 0, 1) := dk_3 (dk_at dksX4_findClosure_5 9 rfl rfl)
theorem dX4_findClosure_127 : decode cX4_findClosure 127 = .ok (.istore_n 2, 1) := dk_61 (dk_at dksX4_findClosure_5 10 rfl rfl)
theorem dX4_findClosure_128 : decode cX4_findClosure 128 = .ok (.iload_n 2, 1) := dk_28 (dk_at dksX4_findClosure_5 11 rfl rfl)
theorem dX4_findClosure_129 : decode cX4_findClosure 129 = .ok (.aload_n 0, 1) := dk_42 (dk_at dksX4_findClosure_5 12 rfl rfl)
theorem dX4_findClosure_130 : decode cX4_findClosure 130 = .ok (.getfield 250, 3) := dk_180 0 250 (dk_at dksX4_findClosure_5 13 rfl rfl)
theorem dX4_findClosure_133 : decode cX4_findClosure 133 = .ok (.if_icmp .ge 72, 3) := dk_162 0 72 (dk_at dksX4_findClosure_5 16 rfl rfl)
theorem dX4_findClosure_136 : decode cX4_findClosure 136 = .ok (.aload_n 0, 1) := dk_42 (dk_at dksX4_findClosure_5 19 rfl rfl)
theorem dX4_findClosure_137 : decode cX4_findClosure 137 = .ok (.getfield 250, 3) := dk_180 0 250 (dk_at dksX4_findClosure_5 20 rfl rfl)
theorem dX4_findClosure_140 : decode cX4_findClosure 140 = .ok (.sipush 400, 3) := dk_17 1 144 (dk_at dksX4_findClosure_6 0 rfl rfl)
theorem dX4_findClosure_143 : decode cX4_findClosure 143 = .ok (.if_icmp .gt 62, 3) := dk_163 0 62 (dk_at dksX4_findClosure_6 3 rfl rfl)
theorem dX4_findClosure_146 : decode cX4_findClosure 146 = .ok (.iconst 0, 1) := dk_3 (dk_at dksX4_findClosure_6 6 rfl rfl)
theorem dX4_findClosure_147 : decode cX4_findClosure 147 = .ok (.istore_n 3, 1) := dk_62 (dk_at dksX4_findClosure_6 7 rfl rfl)
theorem dX4_findClosure_148 : decode cX4_findClosure 148 = .ok (.iload_n 3, 1) := dk_29 (dk_at dksX4_findClosure_6 8 rfl rfl)
theorem dX4_findClosure_149 : decode cX4_findClosure 149 = .ok (.iload_n 2, 1) := dk_28 (dk_at dksX4_findClosure_6 9 rfl rfl)
theorem dX4_findClosure_150 : decode cX4_findClosure 150 = .ok (.if_icmp .gt 49, 3) := dk_163 0 49 (dk_at dksX4_findClosure_6 10 rfl rfl)
theorem dX4_findClosure_153 : decode cX4_findClosure 153 = .ok (.aload_n 0, 1) := dk_42 (dk_at dksX4_findClosure_6 13 rfl rfl)
theorem dX4_findClosure_154 : decode cX4_findClosure 154 = .ok (.aload_n 0, 1) := dk_42 (dk_at dksX4_findClosure_6 14 rfl rfl)
theorem dX4_findClosure_155 : decode cX4_findClosure 155 = .ok (.aload_n 0, 1) := dk_42 (dk_at dksX4_findClosure_6 15 rfl rfl)
theorem dX4_findClosure_156 : decode cX4_findClosure 156 = .ok (.getfield 66, 3) := dk_180 0 66 (dk_at dksX4_findClosure_6 16 rfl rfl)
theorem dX4_findClosure_159 : decode cX4_findClosure 159 = .ok (.iload_n 2, 1) := dk_28 (dk_at dksX4_findClosure_6 19 rfl rfl)
theorem dX4_findClosure_160 : decode cX4_findClosure 160 = .ok (.iaload, 1) := dk_46 (dk_at dksX4_findClosure_6 20 rfl rfl)
theorem dX4_findClosure_161 : decode cX4_findClosure 161 = .ok (.aload_n 0, 1) := dk_42 (dk_at dksX4_findClosure_6 21 rfl rfl)
theorem dX4_findClosure_162 : decode cX4_findClosure 162 = .ok (.getfield 66, 3) := dk_180 0 66 (dk_at dksX4_findClosure_7 0 rfl rfl)
theorem dX4_findClosure_165 : decode cX4_findClosure 165 = .ok (.iload_n 3, 1) := dk_29 (dk_at dksX4_findClosure_7 3 rfl rfl)
theorem dX4_findClosure_166 : decode cX4_findClosure 166 = .ok (.iaload, 1) := dk_46 (dk_at dksX4_findClosure_7 4 rfl rfl)
theorem dX4_findClosure_167 : decode cX4_findClosure 167 = .ok (.invokevirtual 256, 3) := dk_182 1 0 (dk_at dksX4_findClosure_7 5 rfl rfl)
theorem dX4_findClosure_170 : decode cX4_findClosure 170 = .ok (.invokevirtual 253, 3) := dk_182 0 253 (dk_at dksX4_findClosure_7 8 rfl rfl)
theorem dX4_findClosure_173 : decode cX4_findClosure 173 = .ok (.aload_n 0, 1) := dk_42 (dk_at dksX4_findClosure_7 11 rfl rfl)
theorem dX4_findClosure_174 : decode cX4_findClosure 174 = .ok (.aload_n 0, 1) := dk_42 (dk_at dksX4_findClosure_7 12 rfl rfl)
theorem dX4_findClosure_175 : decode cX4_findClosure 175 = .ok (.aload_n 0, 1) := dk_42 (dk_at dksX4_findClosure_7 13 rfl rfl)
theorem dX4_findClosure_176 : decode cX4_findClosure 176 = .ok (.getfield 66, 3) := dk_180 0 66 (dk_at dksX4_findClosure_7 14 rfl rfl)
theorem dX4_findClosure_179 : decode cX4_findClosure 179 = .ok (.iload_n 3, 1) := dk_29 (dk_at dksX4_findClosure_7 17 rfl rfl)
theorem dX4_findClosure_180 : decode cX4_findClosure 180 = .ok (.iaload, 1) := dk_46 (dk_at dksX4_findClosure_7 18 rfl rfl)
theorem dX4_findClosure_181 : decode cX4_findClosure 181 = .ok (.aload_n 0, 1) := dk_42 (dk_at dksX4_findClosure_7 19 rfl rfl)
theorem dX4_findClosure_182 : decode cX4_findClosure 182 = .ok (.getfield 66, 3) := dk_180 0 66 (dk_at dksX4_findClosure_7 20 rfl rfl)
theorem dX4_findClosure_185 : decode cX4_findClosure 185 = .ok (.iload_n 2, 1) := dk_28 (dk_at dksX4_findClosure_7 23 rfl rfl)
theorem dX4_findClosure_186 : decode cX4_findClosure 186 = .ok (.iaload, 1) := dk_46 (dk_at dksX4_findClosure_8 0 rfl rfl)
theorem dX4_findClosure_187 : decode cX4_findClosure 187 = .ok (.invokevirtual 256, 3) := dk_182 1 0 (dk_at dksX4_findClosure_8 1 rfl rfl)
theorem dX4_findClosure_190 : decode cX4_findClosure 190 = .ok (.invokevirtual 253, 3) := dk_182 0 253 (dk_at dksX4_findClosure_8 4 rfl rfl)
theorem dX4_findClosure_193 : decode cX4_findClosure 193 = .ok (.iinc 3 1, 3) := dk_132 3 1 (dk_at dksX4_findClosure_8 7 rfl rfl)
theorem dX4_findClosure_196 : decode cX4_findClosure 196 = .ok (.goto (-48), 3) := dk_167 255 208 (dk_at dksX4_findClosure_8 10 rfl rfl)
theorem dX4_findClosure_199 : decode cX4_findClosure 199 = .ok (.iinc 2 1, 3) := dk_132 2 1 (dk_at dksX4_findClosure_8 13 rfl rfl)
theorem dX4_findClosure_202 : decode cX4_findClosure 202 = .ok (.goto (-74), 3) := dk_167 255 182 (dk_at dksX4_findClosure_8 16 rfl rfl)
theorem dX4_findClosure_205 : decode cX4_findClosure 205 = .ok (.iconst 0, 1) := dk_3 (dk_at dksX4_findClosure_8 19 rfl rfl)
theorem dX4_findClosure_206 : decode cX4_findClosure 206 = .ok (.istore_n 2, 1) := dk_61 (dk_at dksX4_findClosure_8 20 rfl rfl)
theorem dX4_findClosure_207 : decode cX4_findClosure 207 = .ok (.iload_n 2, 1) := dk_28 (dk_at dksX4_findClosure_8 21 rfl rfl)
theorem dX4_findClosure_208 : decode cX4_findClosure 208 = .ok (.aload_n 0, 1) := dk_42 (dk_at dksX4_findClosure_8 22 rfl rfl)
theorem dX4_findClosure_209 : decode cX4_findClosure 209 = .ok (.getfield 250, 3) := dk_180 0 250 (dk_at dksX4_findClosure_9 0 rfl rfl)
theorem dX4_findClosure_212 : decode cX4_findClosure 212 = .ok (.if_icmp .ge 21, 3) := dk_162 0 21 (dk_at dksX4_findClosure_9 3 rfl rfl)
theorem dX4_findClosure_215 : decode cX4_findClosure 215 = .ok (.aload_n 0, 1) := dk_42 (dk_at dksX4_findClosure_9 6 rfl rfl)
theorem dX4_findClosure_216 : decode cX4_findClosure 216 = .ok (.getfield 76, 3) := dk_180 0 76 (dk_at dksX4_findClosure_9 7 rfl rfl)
theorem dX4_findClosure_219 : decode cX4_findClosure 219 = .ok (.aload_n 0, 1) := dk_42 (dk_at dksX4_findClosure_9 10 rfl rfl)
theorem dX4_findClosure_220 : decode cX4_findClosure 220 = .ok (.getfield 66, 3) := dk_180 0 66 (dk_at dksX4_findClosure_9 11 rfl rfl)
theorem dX4_findClosure_223 : decode cX4_findClosure 223 = .ok (.iload_n 2, 1) := dk_28 (dk_at dksX4_findClosure_9 14 rfl rfl)
theorem dX4_findClosure_224 : decode cX4_findClosure 224 = .ok (.iaload, 1) := dk_46 (dk_at dksX4_findClosure_9 15 rfl rfl)
theorem dX4_findClosure_225 : decode cX4_findClosure 225 = .ok (.iconst 0, 1) := dk_3 (dk_at dksX4_findClosure_9 16 rfl rfl)
theorem dX4_findClosure_226 : decode cX4_findClosure 226 = .ok (.bastore, 1) := dk_84 (dk_at dksX4_findClosure_9 17 rfl rfl)
theorem dX4_findClosure_227 : decode cX4_findClosure 227 = .ok (.iinc 2 1, 3) := dk_132 2 1 (dk_at dksX4_findClosure_9 18 rfl rfl)
theorem dX4_findClosure_230 : decode cX4_findClosure 230 = .ok (.goto (-23), 3) := dk_167 255 233 (dk_at dksX4_findClosure_9 21 rfl rfl)
theorem dX4_findClosure_233 : decode cX4_findClosure 233 = .ok (.aload_n 0, 1) := dk_42 (dk_at dksX4_findClosure_10 0 rfl rfl)
theorem dX4_findClosure_234 : decode cX4_findClosure 234 = .ok (.getfield 250, 3) := dk_180 0 250 (dk_at dksX4_findClosure_10 1 rfl rfl)
theorem dX4_findClosure_237 : decode cX4_findClosure 237 = .ok (.sipush 400, 3) := dk_17 1 144 (dk_at dksX4_findClosure_10 4 rfl rfl)
theorem dX4_findClosure_240 : decode cX4_findClosure 240 = .ok (.if_icmp .gt 7, 3) := dk_163 0 7 (dk_at dksX4_findClosure_10 7 rfl rfl)
theorem dX4_findClosure_243 : decode cX4_findClosure 243 = .ok (.iconst 1, 1) := dk_4 (dk_at dksX4_findClosure_10 10 rfl rfl)
theorem dX4_findClosure_244 : decode cX4_findClosure 244 = .ok (.goto 4, 3) := dk_167 0 4 (dk_at dksX4_findClosure_10 11 rfl rfl)
theorem dX4_findClosure_247 : decode cX4_findClosure 247 = .ok (.iconst 0, 1) := dk_3 (dk_at dksX4_findClosure_10 14 rfl rfl)
theorem dX4_findClosure_248 : decode cX4_findClosure 248 = .ok (.ireturn, 1) := dk_172 (dk_at dksX4_findClosure_10 15 rfl rfl)
abbrev cX4_encode : ByteArray := prog_10_method_58_code
def yX4_encode : MethodName := ⟨RX4, "encode", "(I[I)I"⟩
def dkwX4_encode_1 : List UInt8 := [172]
abbrev dktX4_encode_1 : List UInt8 := dkwX4_encode_1 ++ []
def dkwX4_encode_0 : List UInt8 := [26, 61, 16, 8, 62, 29, 155, 0, 17, 6, 28, 104, 43, 29, 46, 96, 61, 132, 3, 255, 167, 255, 241, 28]
abbrev dktX4_encode_0 : List UInt8 := dkwX4_encode_0 ++ dktX4_encode_1
theorem dksX4_encode_0 : cX4_encode.data.toList.drop 0 = dktX4_encode_0 := by decide +kernel
theorem dksX4_encode_1 : cX4_encode.data.toList.drop 24 = dktX4_encode_1 := dk_seg dksX4_encode_0 24 rfl rfl
theorem dX4_encode_0 : decode cX4_encode 0 = .ok (.iload_n 0, 1) := dk_26 (dk_at dksX4_encode_0 0 rfl rfl)
theorem dX4_encode_1 : decode cX4_encode 1 = .ok (.istore_n 2, 1) := dk_61 (dk_at dksX4_encode_0 1 rfl rfl)
theorem dX4_encode_2 : decode cX4_encode 2 = .ok (.bipush 8, 2) := dk_16 8 (dk_at dksX4_encode_0 2 rfl rfl)
theorem dX4_encode_4 : decode cX4_encode 4 = .ok (.istore_n 3, 1) := dk_62 (dk_at dksX4_encode_0 4 rfl rfl)
theorem dX4_encode_5 : decode cX4_encode 5 = .ok (.iload_n 3, 1) := dk_29 (dk_at dksX4_encode_0 5 rfl rfl)
theorem dX4_encode_6 : decode cX4_encode 6 = .ok (.ifCond .lt 17, 3) := dk_155 0 17 (dk_at dksX4_encode_0 6 rfl rfl)
theorem dX4_encode_9 : decode cX4_encode 9 = .ok (.iconst 3, 1) := dk_6 (dk_at dksX4_encode_0 9 rfl rfl)
theorem dX4_encode_10 : decode cX4_encode 10 = .ok (.iload_n 2, 1) := dk_28 (dk_at dksX4_encode_0 10 rfl rfl)
theorem dX4_encode_11 : decode cX4_encode 11 = .ok (.imul, 1) := dk_104 (dk_at dksX4_encode_0 11 rfl rfl)
theorem dX4_encode_12 : decode cX4_encode 12 = .ok (.aload_n 1, 1) := dk_43 (dk_at dksX4_encode_0 12 rfl rfl)
theorem dX4_encode_13 : decode cX4_encode 13 = .ok (.iload_n 3, 1) := dk_29 (dk_at dksX4_encode_0 13 rfl rfl)
theorem dX4_encode_14 : decode cX4_encode 14 = .ok (.iaload, 1) := dk_46 (dk_at dksX4_encode_0 14 rfl rfl)
theorem dX4_encode_15 : decode cX4_encode 15 = .ok (.iadd, 1) := dk_96 (dk_at dksX4_encode_0 15 rfl rfl)
theorem dX4_encode_16 : decode cX4_encode 16 = .ok (.istore_n 2, 1) := dk_61 (dk_at dksX4_encode_0 16 rfl rfl)
theorem dX4_encode_17 : decode cX4_encode 17 = .ok (.iinc 3 (-1), 3) := dk_132 3 255 (dk_at dksX4_encode_0 17 rfl rfl)
theorem dX4_encode_20 : decode cX4_encode 20 = .ok (.goto (-15), 3) := dk_167 255 241 (dk_at dksX4_encode_0 20 rfl rfl)
theorem dX4_encode_23 : decode cX4_encode 23 = .ok (.iload_n 2, 1) := dk_28 (dk_at dksX4_encode_0 23 rfl rfl)
theorem dX4_encode_24 : decode cX4_encode 24 = .ok (.ireturn, 1) := dk_172 (dk_at dksX4_encode_1 0 rfl rfl)
abbrev cX4_addGraph : ByteArray := prog_10_method_60_code
def yX4_addGraph : MethodName := ⟨RX4, "addGraph", "(I)V"⟩
def dkwX4_addGraph_2 : List UInt8 := [181, 0, 250, 177]
abbrev dktX4_addGraph_2 : List UInt8 := dkwX4_addGraph_2 ++ []
def dkwX4_addGraph_1 : List UInt8 := [180, 0, 76, 27, 4, 84, 42, 180, 0, 66, 42, 180, 0, 250, 27, 79, 42, 89, 180, 0, 250, 4, 96]
abbrev dktX4_addGraph_1 : List UInt8 := dkwX4_addGraph_1 ++ dktX4_addGraph_2
def dkwX4_addGraph_0 : List UInt8 := [27, 155, 0, 49, 42, 180, 0, 250, 17, 1, 144, 163, 0, 39, 42, 180, 0, 76, 27, 51, 154, 0, 30, 42]
abbrev dktX4_addGraph_0 : List UInt8 := dkwX4_addGraph_0 ++ dktX4_addGraph_1
theorem dksX4_addGraph_0 : cX4_addGraph.data.toList.drop 0 = dktX4_addGraph_0 := by decide +kernel
theorem dksX4_addGraph_1 : cX4_addGraph.data.toList.drop 24 = dktX4_addGraph_1 := dk_seg dksX4_addGraph_0 24 rfl rfl
theorem dksX4_addGraph_2 : cX4_addGraph.data.toList.drop 47 = dktX4_addGraph_2 := dk_seg dksX4_addGraph_1 23 rfl rfl
theorem dX4_addGraph_0 : decode cX4_addGraph 0 = .ok (.iload_n 1, 1) := dk_27 (dk_at dksX4_addGraph_0 0 rfl rfl)
theorem dX4_addGraph_1 : decode cX4_addGraph 1 = .ok (.ifCond .lt 49, 3) := dk_155 0 49 (dk_at dksX4_addGraph_0 1 rfl rfl)
theorem dX4_addGraph_4 : decode cX4_addGraph 4 = .ok (.aload_n 0, 1) := dk_42 (dk_at dksX4_addGraph_0 4 rfl rfl)
theorem dX4_addGraph_5 : decode cX4_addGraph 5 = .ok (.getfield 250, 3) := dk_180 0 250 (dk_at dksX4_addGraph_0 5 rfl rfl)
theorem dX4_addGraph_8 : decode cX4_addGraph 8 = .ok (.sipush 400, 3) := dk_17 1 144 (dk_at dksX4_addGraph_0 8 rfl rfl)
theorem dX4_addGraph_11 : decode cX4_addGraph 11 = .ok (.if_icmp .gt 39, 3) := dk_163 0 39 (dk_at dksX4_addGraph_0 11 rfl rfl)
theorem dX4_addGraph_14 : decode cX4_addGraph 14 = .ok (.aload_n 0, 1) := dk_42 (dk_at dksX4_addGraph_0 14 rfl rfl)
theorem dX4_addGraph_15 : decode cX4_addGraph 15 = .ok (.getfield 76, 3) := dk_180 0 76 (dk_at dksX4_addGraph_0 15 rfl rfl)
theorem dX4_addGraph_18 : decode cX4_addGraph 18 = .ok (.iload_n 1, 1) := dk_27 (dk_at dksX4_addGraph_0 18 rfl rfl)
theorem dX4_addGraph_19 : decode cX4_addGraph 19 = .ok (.baload, 1) := dk_51 (dk_at dksX4_addGraph_0 19 rfl rfl)
theorem dX4_addGraph_20 : decode cX4_addGraph 20 = .ok (.ifCond .ne 30, 3) := dk_154 0 30 (dk_at dksX4_addGraph_0 20 rfl rfl)
theorem dX4_addGraph_23 : decode cX4_addGraph 23 = .ok (.aload_n 0, 1) := dk_42 (dk_at dksX4_addGraph_0 23 rfl rfl)
theorem dX4_addGraph_24 : decode cX4_addGraph 24 = .ok (.getfield 76, 3) := dk_180 0 76 (dk_at dksX4_addGraph_1 0 rfl rfl)
theorem dX4_addGraph_27 : decode cX4_addGraph 27 = .ok (.iload_n 1, 1) := dk_27 (dk_at dksX4_addGraph_1 3 rfl rfl)
theorem dX4_addGraph_28 : decode cX4_addGraph 28 = .ok (.iconst 1, 1) := dk_4 (dk_at dksX4_addGraph_1 4 rfl rfl)
theorem dX4_addGraph_29 : decode cX4_addGraph 29 = .ok (.bastore, 1) := dk_84 (dk_at dksX4_addGraph_1 5 rfl rfl)
theorem dX4_addGraph_30 : decode cX4_addGraph 30 = .ok (.aload_n 0, 1) := dk_42 (dk_at dksX4_addGraph_1 6 rfl rfl)
theorem dX4_addGraph_31 : decode cX4_addGraph 31 = .ok (.getfield 66, 3) := dk_180 0 66 (dk_at dksX4_addGraph_1 7 rfl rfl)
theorem dX4_addGraph_34 : decode cX4_addGraph 34 = .ok (.aload_n 0, 1) := dk_42 (dk_at dksX4_addGraph_1 10 rfl rfl)
theorem dX4_addGraph_35 : decode cX4_addGraph 35 = .ok (.getfield 250, 3) := dk_180 0 250 (dk_at dksX4_addGraph_1 11 rfl rfl)
theorem dX4_addGraph_38 : decode cX4_addGraph 38 = .ok (.iload_n 1, 1) := dk_27 (dk_at dksX4_addGraph_1 14 rfl rfl)
theorem dX4_addGraph_39 : decode cX4_addGraph 39 = .ok (.iastore, 1) := dk_79 (dk_at dksX4_addGraph_1 15 rfl rfl)
theorem dX4_addGraph_40 : decode cX4_addGraph 40 = .ok (.aload_n 0, 1) := dk_42 (dk_at dksX4_addGraph_1 16 rfl rfl)
theorem dX4_addGraph_41 : decode cX4_addGraph 41 = .ok (.dup, 1) := dk_89 (dk_at dksX4_addGraph_1 17 rfl rfl)
theorem dX4_addGraph_42 : decode cX4_addGraph 42 = .ok (.getfield 250, 3) := dk_180 0 250 (dk_at dksX4_addGraph_1 18 rfl rfl)
theorem dX4_addGraph_45 : decode cX4_addGraph 45 = .ok (.iconst 1, 1) := dk_4 (dk_at dksX4_addGraph_1 21 rfl rfl)
theorem dX4_addGraph_46 : decode cX4_addGraph 46 = .ok (.iadd, 1) := dk_96 (dk_at dksX4_addGraph_1 22 rfl rfl)
theorem dX4_addGraph_47 : decode cX4_addGraph 47 = .ok (.putfield 250, 3) := dk_181 0 250 (dk_at dksX4_addGraph_2 0 rfl rfl)
theorem dX4_addGraph_50 : decode cX4_addGraph 50 = .ok (.return_, 1) := dk_177 (dk_at dksX4_addGraph_2 3 rfl rfl)
abbrev cX4_compose : ByteArray := prog_10_method_59_code
def yX4_compose : MethodName := ⟨RX4, "compose", "(II)I"⟩
def dkwX4_compose_7 : List UInt8 := [42, 180, 0, 79, 184, 0, 246, 172]
abbrev dktX4_compose_7 : List UInt8 := dkwX4_compose_7 ++ []
def dkwX4_compose_6 : List UInt8 := [167, 255, 161, 132, 3, 1, 167, 255, 147, 27, 184, 0, 233, 6, 108, 6, 104, 28, 184, 0, 233, 6, 112, 96]
abbrev dktX4_compose_6 : List UInt8 := dkwX4_compose_6 ++ dktX4_compose_7
def dkwX4_compose_5 : List UInt8 := [132, 6, 1, 167, 255, 192, 42, 180, 0, 79, 6, 29, 104, 21, 4, 96, 21, 5, 79, 132, 4, 1]
abbrev dktX4_compose_5 : List UInt8 := dkwX4_compose_5 ++ dktX4_compose_6
def dkwX4_compose_4 : List UInt8 := [153, 0, 8, 21, 8, 154, 0, 7, 3, 167, 0, 10, 21, 7, 21, 8, 184, 0, 240, 184, 0, 240, 54, 5]
abbrev dktX4_compose_4 : List UInt8 := dkwX4_compose_4 ++ dktX4_compose_5
def dkwX4_compose_3 : List UInt8 := [96, 46, 54, 7, 42, 180, 0, 72, 6, 21, 6, 104, 21, 4, 96, 46, 54, 8, 21, 5, 21, 7]
abbrev dktX4_compose_3 : List UInt8 := dkwX4_compose_3 ++ dktX4_compose_4
def dkwX4_compose_2 : List UInt8 := [162, 0, 95, 3, 54, 5, 3, 54, 6, 21, 6, 6, 162, 0, 64, 42, 180, 0, 69, 6, 29, 104, 21, 6]
abbrev dktX4_compose_2 : List UInt8 := dkwX4_compose_2 ++ dktX4_compose_3
def dkwX4_compose_1 : List UInt8 := [184, 0, 236, 28, 42, 180, 0, 72, 184, 0, 236, 3, 62, 29, 6, 162, 0, 110, 3, 54, 4, 21, 4, 6]
abbrev dktX4_compose_1 : List UInt8 := dkwX4_compose_1 ++ dktX4_compose_2
def dkwX4_compose_0 : List UInt8 := [27, 184, 0, 233, 6, 112, 28, 184, 0, 233, 6, 108, 159, 0, 6, 16, 251, 172, 27, 42, 180, 0, 69]
abbrev dktX4_compose_0 : List UInt8 := dkwX4_compose_0 ++ dktX4_compose_1
theorem dksX4_compose_0 : cX4_compose.data.toList.drop 0 = dktX4_compose_0 := by decide +kernel
theorem dksX4_compose_1 : cX4_compose.data.toList.drop 23 = dktX4_compose_1 := dk_seg dksX4_compose_0 23 rfl rfl
theorem dksX4_compose_2 : cX4_compose.data.toList.drop 47 = dktX4_compose_2 := dk_seg dksX4_compose_1 24 rfl rfl
theorem dksX4_compose_3 : cX4_compose.data.toList.drop 71 = dktX4_compose_3 := dk_seg dksX4_compose_2 24 rfl rfl
theorem dksX4_compose_4 : cX4_compose.data.toList.drop 93 = dktX4_compose_4 := dk_seg dksX4_compose_3 22 rfl rfl
theorem dksX4_compose_5 : cX4_compose.data.toList.drop 117 = dktX4_compose_5 := dk_seg dksX4_compose_4 24 rfl rfl
theorem dksX4_compose_6 : cX4_compose.data.toList.drop 139 = dktX4_compose_6 := dk_seg dksX4_compose_5 22 rfl rfl
theorem dksX4_compose_7 : cX4_compose.data.toList.drop 163 = dktX4_compose_7 := dk_seg dksX4_compose_6 24 rfl rfl
theorem dX4_compose_0 : decode cX4_compose 0 = .ok (.iload_n 1, 1) := dk_27 (dk_at dksX4_compose_0 0 rfl rfl)
theorem dX4_compose_1 : decode cX4_compose 1 = .ok (.invokestatic 233, 3) := dk_184 0 233 (dk_at dksX4_compose_0 1 rfl rfl)
theorem dX4_compose_4 : decode cX4_compose 4 = .ok (.iconst 3, 1) := dk_6 (dk_at dksX4_compose_0 4 rfl rfl)
theorem dX4_compose_5 : decode cX4_compose 5 = .ok (.irem, 1) := dk_112 (dk_at dksX4_compose_0 5 rfl rfl)
theorem dX4_compose_6 : decode cX4_compose 6 = .ok (.iload_n 2, 1) := dk_28 (dk_at dksX4_compose_0 6 rfl rfl)
theorem dX4_compose_7 : decode cX4_compose 7 = .ok (.invokestatic 233, 3) := dk_184 0 233 (dk_at dksX4_compose_0 7 rfl rfl)
theorem dX4_compose_10 : decode cX4_compose 10 = .ok (.iconst 3, 1) := dk_6 (dk_at dksX4_compose_0 10 rfl rfl)
theorem dX4_compose_11 : decode cX4_compose 11 = .ok (.idiv, 1) := dk_108 (dk_at dksX4_compose_0 11 rfl rfl)
theorem dX4_compose_12 : decode cX4_compose 12 = .ok (.if_icmp .eq 6, 3) := dk_159 0 6 (dk_at dksX4_compose_0 12 rfl rfl)
theorem dX4_compose_15 : decode cX4_compose 15 = .ok (.bipush (-5), 2) := dk_16 251 (dk_at dksX4_compose_0 15 rfl rfl)
theorem dX4_compose_17 : decode cX4_compose 17 = .ok (.ireturn, 1) := dk_172 (dk_at dksX4_compose_0 17 rfl rfl)
theorem dX4_compose_18 : decode cX4_compose 18 = .ok (.iload_n 1, 1) := dk_27 (dk_at dksX4_compose_0 18 rfl rfl)
theorem dX4_compose_19 : decode cX4_compose 19 = .ok (.aload_n 0, 1) := dk_42 (dk_at dksX4_compose_0 19 rfl rfl)
theorem dX4_compose_20 : decode cX4_compose 20 = .ok (.getfield 69, 3) := dk_180 0 69 (dk_at dksX4_compose_0 20 rfl rfl)
theorem dX4_compose_23 : decode cX4_compose 23 = .ok (.invokestatic 236, 3) := dk_184 0 236 (dk_at dksX4_compose_1 0 rfl rfl)
theorem dX4_compose_26 : decode cX4_compose 26 = .ok (.iload_n 2, 1) := dk_28 (dk_at dksX4_compose_1 3 rfl rfl)
theorem dX4_compose_27 : decode cX4_compose 27 = .ok (.aload_n 0, 1) := dk_42 (dk_at dksX4_compose_1 4 rfl rfl)
theorem dX4_compose_28 : decode cX4_compose 28 = .ok (.getfield 72, 3) := dk_180 0 72 (dk_at dksX4_compose_1 5 rfl rfl)
theorem dX4_compose_31 : decode cX4_compose 31 = .ok (.invokestatic 236, 3) := dk_184 0 236 (dk_at dksX4_compose_1 8 rfl rfl)
theorem dX4_compose_34 : decode cX4_compose 34 = .ok (.iconst 0, 1) := dk_3 (dk_at dksX4_compose_1 11 rfl rfl)
theorem dX4_compose_35 : decode cX4_compose 35 = .ok (.istore_n 3, 1) := dk_62 (dk_at dksX4_compose_1 12 rfl rfl)
theorem dX4_compose_36 : decode cX4_compose 36 = .ok (.iload_n 3, 1) := dk_29 (dk_at dksX4_compose_1 13 rfl rfl)
theorem dX4_compose_37 : decode cX4_compose 37 = .ok (.iconst 3, 1) := dk_6 (dk_at dksX4_compose_1 14 rfl rfl)
theorem dX4_compose_38 : decode cX4_compose 38 = .ok (.if_icmp .ge 110, 3) := dk_162 0 110 (dk_at dksX4_compose_1 15 rfl rfl)
theorem dX4_compose_41 : decode cX4_compose 41 = .ok (.iconst 0, 1) := dk_3 (dk_at dksX4_compose_1 18 rfl rfl)
theorem dX4_compose_42 : decode cX4_compose 42 = .ok (.istore 4, 2) := dk_54 4 (dk_at dksX4_compose_1 19 rfl rfl)
theorem dX4_compose_44 : decode cX4_compose 44 = .ok (.iload 4, 2) := dk_21 4 (dk_at dksX4_compose_1 21 rfl rfl)
theorem dX4_compose_46 : decode cX4_compose 46 = .ok (.iconst 3, 1) := dk_6 (dk_at dksX4_compose_1 23 rfl rfl)
theorem dX4_compose_47 : decode cX4_compose 47 = .ok (.if_icmp .ge 95, 3) := dk_162 0 95 (dk_at dksX4_compose_2 0 rfl rfl)
theorem dX4_compose_50 : decode cX4_compose 50 = .ok (.iconst 0, 1) := dk_3 (dk_at dksX4_compose_2 3 rfl rfl)
theorem dX4_compose_51 : decode cX4_compose 51 = .ok (.istore 5, 2) := dk_54 5 (dk_at dksX4_compose_2 4 rfl rfl)
theorem dX4_compose_53 : decode cX4_compose 53 = .ok (.iconst 0, 1) := dk_3 (dk_at dksX4_compose_2 6 rfl rfl)
theorem dX4_compose_54 : decode cX4_compose 54 = .ok (.istore 6, 2) := dk_54 6 (dk_at dksX4_compose_2 7 rfl rfl)
theorem dX4_compose_56 : decode cX4_compose 56 = .ok (.iload 6, 2) := dk_21 6 (dk_at dksX4_compose_2 9 rfl rfl)
theorem dX4_compose_58 : decode cX4_compose 58 = .ok (.iconst 3, 1) := dk_6 (dk_at dksX4_compose_2 11 rfl rfl)
theorem dX4_compose_59 : decode cX4_compose 59 = .ok (.if_icmp .ge 64, 3) := dk_162 0 64 (dk_at dksX4_compose_2 12 rfl rfl)
theorem dX4_compose_62 : decode cX4_compose 62 = .ok (.aload_n 0, 1) := dk_42 (dk_at dksX4_compose_2 15 rfl rfl)
theorem dX4_compose_63 : decode cX4_compose 63 = .ok (.getfield 69, 3) := dk_180 0 69 (dk_at dksX4_compose_2 16 rfl rfl)
theorem dX4_compose_66 : decode cX4_compose 66 = .ok (.iconst 3, 1) := dk_6 (dk_at dksX4_compose_2 19 rfl rfl)
theorem dX4_compose_67 : decode cX4_compose 67 = .ok (.iload_n 3, 1) := dk_29 (dk_at dksX4_compose_2 20 rfl rfl)
theorem dX4_compose_68 : decode cX4_compose 68 = .ok (.imul, 1) := dk_104 (dk_at dksX4_compose_2 21 rfl rfl)
theorem dX4_compose_69 : decode cX4_compose 69 = .ok (.iload 6, 2) := dk_21 6 (dk_at dksX4_compose_2 22 rfl rfl)
theorem dX4_compose_71 : decode cX4_compose 71 = .ok (.iadd, 1) := dk_96 (dk_at dksX4_compose_3 0 rfl rfl)
theorem dX4_compose_72 : decode cX4_compose 72 = .ok (.iaload, 1) := dk_46 (dk_at dksX4_compose_3 1 rfl rfl)
theorem dX4_compose_73 : decode cX4_compose 73 = .ok (.istore 7, 2) := dk_54 7 (dk_at dksX4_compose_3 2 rfl rfl)
theorem dX4_compose_75 : decode cX4_compose 75 = .ok (.aload_n 0, 1) := dk_42 (dk_at dksX4_compose_3 4 rfl rfl)
theorem dX4_compose_76 : decode cX4_compose 76 = .ok (.getfield 72, 3) := dk_180 0 72 (dk_at dksX4_compose_3 5 rfl rfl)
theorem dX4_compose_79 : decode cX4_compose 79 = .ok (.iconst 3, 1) := dk_6 (dk_at dksX4_compose_3 8 rfl rfl)
theorem dX4_compose_80 : decode cX4_compose 80 = .ok (.iload 6, 2) := dk_21 6 (dk_at dksX4_compose_3 9 rfl rfl)
theorem dX4_compose_82 : decode cX4_compose 82 = .ok (.imul, 1) := dk_104 (dk_at dksX4_compose_3 11 rfl rfl)
theorem dX4_compose_83 : decode cX4_compose 83 = .ok (.iload 4, 2) := dk_21 4 (dk_at dksX4_compose_3 12 rfl rfl)
theorem dX4_compose_85 : decode cX4_compose 85 = .ok (.iadd, 1) := dk_96 (dk_at dksX4_compose_3 14 rfl rfl)
theorem dX4_compose_86 : decode cX4_compose 86 = .ok (.iaload, 1) := dk_46 (dk_at dksX4_compose_3 15 rfl rfl)
theorem dX4_compose_87 : decode cX4_compose 87 = .ok (.istore 8, 2) := dk_54 8 (dk_at dksX4_compose_3 16 rfl rfl)
theorem dX4_compose_89 : decode cX4_compose 89 = .ok (.iload 5, 2) := dk_21 5 (dk_at dksX4_compose_3 18 rfl rfl)
theorem dX4_compose_91 : decode cX4_compose 91 = .ok (.iload 7, 2) := dk_21 7 (dk_at dksX4_compose_3 20 rfl rfl)
theorem dX4_compose_93 : decode cX4_compose 93 = .ok (.ifCond .eq 8, 3) := dk_153 0 8 (dk_at dksX4_compose_4 0 rfl rfl)
theorem dX4_compose_96 : decode cX4_compose 96 = .ok (.iload 8, 2) := dk_21 8 (dk_at dksX4_compose_4 3 rfl rfl)
theorem dX4_compose_98 : decode cX4_compose 98 = .ok (.ifCond .ne 7, 3) := dk_154 0 7 (dk_at dksX4_compose_4 5 rfl rfl)
theorem dX4_compose_101 : decode cX4_compose 101 = .ok (.iconst 0, 1) := dk_3 (dk_at dksX4_compose_4 8 rfl rfl)
theorem dX4_compose_102 : decode cX4_compose 102 = .ok (.goto 10, 3) := dk_167 0 10 (dk_at dksX4_compose_4 9 rfl rfl)
theorem dX4_compose_105 : decode cX4_compose 105 = .ok (.iload 7, 2) := dk_21 7 (dk_at dksX4_compose_4 12 rfl rfl)
theorem dX4_compose_107 : decode cX4_compose 107 = .ok (.iload 8, 2) := dk_21 8 (dk_at dksX4_compose_4 14 rfl rfl)
theorem dX4_compose_109 : decode cX4_compose 109 = .ok (.invokestatic 240, 3) := dk_184 0 240 (dk_at dksX4_compose_4 16 rfl rfl)
theorem dX4_compose_112 : decode cX4_compose 112 = .ok (.invokestatic 240, 3) := dk_184 0 240 (dk_at dksX4_compose_4 19 rfl rfl)
theorem dX4_compose_115 : decode cX4_compose 115 = .ok (.istore 5, 2) := dk_54 5 (dk_at dksX4_compose_4 22 rfl rfl)
theorem dX4_compose_117 : decode cX4_compose 117 = .ok (.iinc 6 1, 3) := dk_132 6 1 (dk_at dksX4_compose_5 0 rfl rfl)
theorem dX4_compose_120 : decode cX4_compose 120 = .ok (.goto (-64), 3) := dk_167 255 192 (dk_at dksX4_compose_5 3 rfl rfl)
theorem dX4_compose_123 : decode cX4_compose 123 = .ok (.aload_n 0, 1) := dk_42 (dk_at dksX4_compose_5 6 rfl rfl)
theorem dX4_compose_124 : decode cX4_compose 124 = .ok (.getfield 79, 3) := dk_180 0 79 (dk_at dksX4_compose_5 7 rfl rfl)
theorem dX4_compose_127 : decode cX4_compose 127 = .ok (.iconst 3, 1) := dk_6 (dk_at dksX4_compose_5 10 rfl rfl)
theorem dX4_compose_128 : decode cX4_compose 128 = .ok (.iload_n 3, 1) := dk_29 (dk_at dksX4_compose_5 11 rfl rfl)
theorem dX4_compose_129 : decode cX4_compose 129 = .ok (.imul, 1) := dk_104 (dk_at dksX4_compose_5 12 rfl rfl)
theorem dX4_compose_130 : decode cX4_compose 130 = .ok (.iload 4, 2) := dk_21 4 (dk_at dksX4_compose_5 13 rfl rfl)
theorem dX4_compose_132 : decode cX4_compose 132 = .ok (.iadd, 1) := dk_96 (dk_at dksX4_compose_5 15 rfl rfl)
theorem dX4_compose_133 : decode cX4_compose 133 = .ok (.iload 5, 2) := dk_21 5 (dk_at dksX4_compose_5 16 rfl rfl)
theorem dX4_compose_135 : decode cX4_compose 135 = .ok (.iastore, 1) := dk_79 (dk_at dksX4_compose_5 18 rfl rfl)
theorem dX4_compose_136 : decode cX4_compose 136 = .ok (.iinc 4 1, 3) := dk_132 4 1 (dk_at dksX4_compose_5 19 rfl rfl)
theorem dX4_compose_139 : decode cX4_compose 139 = .ok (.goto (-95), 3) := dk_167 255 161 (dk_at dksX4_compose_6 0 rfl rfl)
theorem dX4_compose_142 : decode cX4_compose 142 = .ok (.iinc 3 1, 3) := dk_132 3 1 (dk_at dksX4_compose_6 3 rfl rfl)
theorem dX4_compose_145 : decode cX4_compose 145 = .ok (.goto (-109), 3) := dk_167 255 147 (dk_at dksX4_compose_6 6 rfl rfl)
theorem dX4_compose_148 : decode cX4_compose 148 = .ok (.iload_n 1, 1) := dk_27 (dk_at dksX4_compose_6 9 rfl rfl)
theorem dX4_compose_149 : decode cX4_compose 149 = .ok (.invokestatic 233, 3) := dk_184 0 233 (dk_at dksX4_compose_6 10 rfl rfl)
theorem dX4_compose_152 : decode cX4_compose 152 = .ok (.iconst 3, 1) := dk_6 (dk_at dksX4_compose_6 13 rfl rfl)
theorem dX4_compose_153 : decode cX4_compose 153 = .ok (.idiv, 1) := dk_108 (dk_at dksX4_compose_6 14 rfl rfl)
theorem dX4_compose_154 : decode cX4_compose 154 = .ok (.iconst 3, 1) := dk_6 (dk_at dksX4_compose_6 15 rfl rfl)
theorem dX4_compose_155 : decode cX4_compose 155 = .ok (.imul, 1) := dk_104 (dk_at dksX4_compose_6 16 rfl rfl)
theorem dX4_compose_156 : decode cX4_compose 156 = .ok (.iload_n 2, 1) := dk_28 (dk_at dksX4_compose_6 17 rfl rfl)
theorem dX4_compose_157 : decode cX4_compose 157 = .ok (.invokestatic 233, 3) := dk_184 0 233 (dk_at dksX4_compose_6 18 rfl rfl)
theorem dX4_compose_160 : decode cX4_compose 160 = .ok (.iconst 3, 1) := dk_6 (dk_at dksX4_compose_6 21 rfl rfl)
theorem dX4_compose_161 : decode cX4_compose 161 = .ok (.irem, 1) := dk_112 (dk_at dksX4_compose_6 22 rfl rfl)
theorem dX4_compose_162 : decode cX4_compose 162 = .ok (.iadd, 1) := dk_96 (dk_at dksX4_compose_6 23 rfl rfl)
theorem dX4_compose_163 : decode cX4_compose 163 = .ok (.aload_n 0, 1) := dk_42 (dk_at dksX4_compose_7 0 rfl rfl)
theorem dX4_compose_164 : decode cX4_compose 164 = .ok (.getfield 79, 3) := dk_180 0 79 (dk_at dksX4_compose_7 1 rfl rfl)
theorem dX4_compose_167 : decode cX4_compose 167 = .ok (.invokestatic 246, 3) := dk_184 0 246 (dk_at dksX4_compose_7 4 rfl rfl)
theorem dX4_compose_170 : decode cX4_compose 170 = .ok (.ireturn, 1) := dk_172 (dk_at dksX4_compose_7 7 rfl rfl)
abbrev cX4_functions : ByteArray := prog_10_method_57_code
def yX4_functions : MethodName := ⟨RX4, "functions", "(I)I"⟩
def dkwX4_functions_0 : List UInt8 := [26, 17, 76, 227, 108, 172]
abbrev dktX4_functions_0 : List UInt8 := dkwX4_functions_0 ++ []
theorem dksX4_functions_0 : cX4_functions.data.toList.drop 0 = dktX4_functions_0 := by decide +kernel
theorem dX4_functions_0 : decode cX4_functions 0 = .ok (.iload_n 0, 1) := dk_26 (dk_at dksX4_functions_0 0 rfl rfl)
theorem dX4_functions_1 : decode cX4_functions 1 = .ok (.sipush 19683, 3) := dk_17 76 227 (dk_at dksX4_functions_0 1 rfl rfl)
theorem dX4_functions_4 : decode cX4_functions 4 = .ok (.idiv, 1) := dk_108 (dk_at dksX4_functions_0 4 rfl rfl)
theorem dX4_functions_5 : decode cX4_functions 5 = .ok (.ireturn, 1) := dk_172 (dk_at dksX4_functions_0 5 rfl rfl)
abbrev cX4_decode : ByteArray := prog_10_method_56_code
def yX4_decode : MethodName := ⟨RX4, "decode", "(I[I)V"⟩
def dkwX4_decode_1 : List UInt8 := [167, 255, 237, 177]
abbrev dktX4_decode_1 : List UInt8 := dkwX4_decode_1 ++ []
def dkwX4_decode_0 : List UInt8 := [26, 61, 3, 62, 29, 16, 9, 162, 0, 19, 43, 29, 28, 6, 112, 79, 28, 6, 108, 61, 132, 3, 1]
abbrev dktX4_decode_0 : List UInt8 := dkwX4_decode_0 ++ dktX4_decode_1
theorem dksX4_decode_0 : cX4_decode.data.toList.drop 0 = dktX4_decode_0 := by decide +kernel
theorem dksX4_decode_1 : cX4_decode.data.toList.drop 23 = dktX4_decode_1 := dk_seg dksX4_decode_0 23 rfl rfl
theorem dX4_decode_0 : decode cX4_decode 0 = .ok (.iload_n 0, 1) := dk_26 (dk_at dksX4_decode_0 0 rfl rfl)
theorem dX4_decode_1 : decode cX4_decode 1 = .ok (.istore_n 2, 1) := dk_61 (dk_at dksX4_decode_0 1 rfl rfl)
theorem dX4_decode_2 : decode cX4_decode 2 = .ok (.iconst 0, 1) := dk_3 (dk_at dksX4_decode_0 2 rfl rfl)
theorem dX4_decode_3 : decode cX4_decode 3 = .ok (.istore_n 3, 1) := dk_62 (dk_at dksX4_decode_0 3 rfl rfl)
theorem dX4_decode_4 : decode cX4_decode 4 = .ok (.iload_n 3, 1) := dk_29 (dk_at dksX4_decode_0 4 rfl rfl)
theorem dX4_decode_5 : decode cX4_decode 5 = .ok (.bipush 9, 2) := dk_16 9 (dk_at dksX4_decode_0 5 rfl rfl)
theorem dX4_decode_7 : decode cX4_decode 7 = .ok (.if_icmp .ge 19, 3) := dk_162 0 19 (dk_at dksX4_decode_0 7 rfl rfl)
theorem dX4_decode_10 : decode cX4_decode 10 = .ok (.aload_n 1, 1) := dk_43 (dk_at dksX4_decode_0 10 rfl rfl)
theorem dX4_decode_11 : decode cX4_decode 11 = .ok (.iload_n 3, 1) := dk_29 (dk_at dksX4_decode_0 11 rfl rfl)
theorem dX4_decode_12 : decode cX4_decode 12 = .ok (.iload_n 2, 1) := dk_28 (dk_at dksX4_decode_0 12 rfl rfl)
theorem dX4_decode_13 : decode cX4_decode 13 = .ok (.iconst 3, 1) := dk_6 (dk_at dksX4_decode_0 13 rfl rfl)
theorem dX4_decode_14 : decode cX4_decode 14 = .ok (.irem, 1) := dk_112 (dk_at dksX4_decode_0 14 rfl rfl)
theorem dX4_decode_15 : decode cX4_decode 15 = .ok (.iastore, 1) := dk_79 (dk_at dksX4_decode_0 15 rfl rfl)
theorem dX4_decode_16 : decode cX4_decode 16 = .ok (.iload_n 2, 1) := dk_28 (dk_at dksX4_decode_0 16 rfl rfl)
theorem dX4_decode_17 : decode cX4_decode 17 = .ok (.iconst 3, 1) := dk_6 (dk_at dksX4_decode_0 17 rfl rfl)
theorem dX4_decode_18 : decode cX4_decode 18 = .ok (.idiv, 1) := dk_108 (dk_at dksX4_decode_0 18 rfl rfl)
theorem dX4_decode_19 : decode cX4_decode 19 = .ok (.istore_n 2, 1) := dk_61 (dk_at dksX4_decode_0 19 rfl rfl)
theorem dX4_decode_20 : decode cX4_decode 20 = .ok (.iinc 3 1, 3) := dk_132 3 1 (dk_at dksX4_decode_0 20 rfl rfl)
theorem dX4_decode_23 : decode cX4_decode 23 = .ok (.goto (-19), 3) := dk_167 255 237 (dk_at dksX4_decode_1 0 rfl rfl)
theorem dX4_decode_26 : decode cX4_decode 26 = .ok (.return_, 1) := dk_177 (dk_at dksX4_decode_1 3 rfl rfl)
abbrev cX4_idempotentCount : ByteArray := prog_10_method_63_code
def yX4_idempotentCount : MethodName := ⟨RX4, "idempotentCount", "()I"⟩
def dkwX4_idempotentCount_3 : List UInt8 := [167, 255, 198, 27, 172]
abbrev dktX4_idempotentCount_3 : List UInt8 := dkwX4_idempotentCount_3 ++ []
def dkwX4_idempotentCount_2 : List UInt8 := [28, 46, 182, 1, 0, 42, 180, 0, 66, 28, 46, 160, 0, 7, 4, 167, 0, 4, 3, 96, 60, 132, 2, 1]
abbrev dktX4_idempotentCount_2 : List UInt8 := dkwX4_idempotentCount_2 ++ dktX4_idempotentCount_3
def dkwX4_idempotentCount_1 : List UInt8 := [180, 0, 66, 28, 46, 184, 0, 233, 7, 112, 154, 0, 32, 42, 42, 180, 0, 66, 28, 46, 42, 180, 0, 66]
abbrev dktX4_idempotentCount_1 : List UInt8 := dkwX4_idempotentCount_1 ++ dktX4_idempotentCount_2
def dkwX4_idempotentCount_0 : List UInt8 := [42, 182, 1, 3, 154, 0, 6, 16, 248, 172, 3, 60, 3, 61, 28, 42, 180, 0, 250, 162, 0, 56, 27, 42]
abbrev dktX4_idempotentCount_0 : List UInt8 := dkwX4_idempotentCount_0 ++ dktX4_idempotentCount_1
theorem dksX4_idempotentCount_0 : cX4_idempotentCount.data.toList.drop 0 = dktX4_idempotentCount_0 := by decide +kernel
theorem dksX4_idempotentCount_1 : cX4_idempotentCount.data.toList.drop 24 = dktX4_idempotentCount_1 := dk_seg dksX4_idempotentCount_0 24 rfl rfl
theorem dksX4_idempotentCount_2 : cX4_idempotentCount.data.toList.drop 48 = dktX4_idempotentCount_2 := dk_seg dksX4_idempotentCount_1 24 rfl rfl
theorem dksX4_idempotentCount_3 : cX4_idempotentCount.data.toList.drop 72 = dktX4_idempotentCount_3 := dk_seg dksX4_idempotentCount_2 24 rfl rfl
theorem dX4_idempotentCount_0 : decode cX4_idempotentCount 0 = .ok (.aload_n 0, 1) := dk_42 (dk_at dksX4_idempotentCount_0 0 rfl rfl)
theorem dX4_idempotentCount_1 : decode cX4_idempotentCount 1 = .ok (.invokevirtual 259, 3) := dk_182 1 3 (dk_at dksX4_idempotentCount_0 1 rfl rfl)
theorem dX4_idempotentCount_4 : decode cX4_idempotentCount 4 = .ok (.ifCond .ne 6, 3) := dk_154 0 6 (dk_at dksX4_idempotentCount_0 4 rfl rfl)
theorem dX4_idempotentCount_7 : decode cX4_idempotentCount 7 = .ok (.bipush (-8), 2) := dk_16 248 (dk_at dksX4_idempotentCount_0 7 rfl rfl)
theorem dX4_idempotentCount_9 : decode cX4_idempotentCount 9 = .ok (.ireturn, 1) := dk_172 (dk_at dksX4_idempotentCount_0 9 rfl rfl)
theorem dX4_idempotentCount_10 : decode cX4_idempotentCount 10 = .ok (.iconst 0, 1) := dk_3 (dk_at dksX4_idempotentCount_0 10 rfl rfl)
theorem dX4_idempotentCount_11 : decode cX4_idempotentCount 11 = .ok (.istore_n 1, 1) := dk_60 (dk_at dksX4_idempotentCount_0 11 rfl rfl)
theorem dX4_idempotentCount_12 : decode cX4_idempotentCount 12 = .ok (.iconst 0, 1) := dk_3 (dk_at dksX4_idempotentCount_0 12 rfl rfl)
theorem dX4_idempotentCount_13 : decode cX4_idempotentCount 13 = .ok (.istore_n 2, 1) := dk_61 (dk_at dksX4_idempotentCount_0 13 rfl rfl)
theorem dX4_idempotentCount_14 : decode cX4_idempotentCount 14 = .ok (.iload_n 2, 1) := dk_28 (dk_at dksX4_idempotentCount_0 14 rfl rfl)
theorem dX4_idempotentCount_15 : decode cX4_idempotentCount 15 = .ok (.aload_n 0, 1) := dk_42 (dk_at dksX4_idempotentCount_0 15 rfl rfl)
theorem dX4_idempotentCount_16 : decode cX4_idempotentCount 16 = .ok (.getfield 250, 3) := dk_180 0 250 (dk_at dksX4_idempotentCount_0 16 rfl rfl)
theorem dX4_idempotentCount_19 : decode cX4_idempotentCount 19 = .ok (.if_icmp .ge 56, 3) := dk_162 0 56 (dk_at dksX4_idempotentCount_0 19 rfl rfl)
theorem dX4_idempotentCount_22 : decode cX4_idempotentCount 22 = .ok (.iload_n 1, 1) := dk_27 (dk_at dksX4_idempotentCount_0 22 rfl rfl)
theorem dX4_idempotentCount_23 : decode cX4_idempotentCount 23 = .ok (.aload_n 0, 1) := dk_42 (dk_at dksX4_idempotentCount_0 23 rfl rfl)
theorem dX4_idempotentCount_24 : decode cX4_idempotentCount 24 = .ok (.getfield 66, 3) := dk_180 0 66 (dk_at dksX4_idempotentCount_1 0 rfl rfl)
theorem dX4_idempotentCount_27 : decode cX4_idempotentCount 27 = .ok (.iload_n 2, 1) := dk_28 (dk_at dksX4_idempotentCount_1 3 rfl rfl)
theorem dX4_idempotentCount_28 : decode cX4_idempotentCount 28 = .ok (.iaload, 1) := dk_46 (dk_at dksX4_idempotentCount_1 4 rfl rfl)
theorem dX4_idempotentCount_29 : decode cX4_idempotentCount 29 = .ok (.invokestatic 233, 3) := dk_184 0 233 (dk_at dksX4_idempotentCount_1 5 rfl rfl)
theorem dX4_idempotentCount_32 : decode cX4_idempotentCount 32 = .ok (.iconst 4, 1) := dk_7 (dk_at dksX4_idempotentCount_1 8 rfl rfl)
theorem dX4_idempotentCount_33 : decode cX4_idempotentCount 33 = .ok (.irem, 1) := dk_112 (dk_at dksX4_idempotentCount_1 9 rfl rfl)
theorem dX4_idempotentCount_34 : decode cX4_idempotentCount 34 = .ok (.ifCond .ne 32, 3) := dk_154 0 32 (dk_at dksX4_idempotentCount_1 10 rfl rfl)
theorem dX4_idempotentCount_37 : decode cX4_idempotentCount 37 = .ok (.aload_n 0, 1) := dk_42 (dk_at dksX4_idempotentCount_1 13 rfl rfl)
theorem dX4_idempotentCount_38 : decode cX4_idempotentCount 38 = .ok (.aload_n 0, 1) := dk_42 (dk_at dksX4_idempotentCount_1 14 rfl rfl)
theorem dX4_idempotentCount_39 : decode cX4_idempotentCount 39 = .ok (.getfield 66, 3) := dk_180 0 66 (dk_at dksX4_idempotentCount_1 15 rfl rfl)
theorem dX4_idempotentCount_42 : decode cX4_idempotentCount 42 = .ok (.iload_n 2, 1) := dk_28 (dk_at dksX4_idempotentCount_1 18 rfl rfl)
theorem dX4_idempotentCount_43 : decode cX4_idempotentCount 43 = .ok (.iaload, 1) := dk_46 (dk_at dksX4_idempotentCount_1 19 rfl rfl)
theorem dX4_idempotentCount_44 : decode cX4_idempotentCount 44 = .ok (.aload_n 0, 1) := dk_42 (dk_at dksX4_idempotentCount_1 20 rfl rfl)
theorem dX4_idempotentCount_45 : decode cX4_idempotentCount 45 = .ok (.getfield 66, 3) := dk_180 0 66 (dk_at dksX4_idempotentCount_1 21 rfl rfl)
theorem dX4_idempotentCount_48 : decode cX4_idempotentCount 48 = .ok (.iload_n 2, 1) := dk_28 (dk_at dksX4_idempotentCount_2 0 rfl rfl)
theorem dX4_idempotentCount_49 : decode cX4_idempotentCount 49 = .ok (.iaload, 1) := dk_46 (dk_at dksX4_idempotentCount_2 1 rfl rfl)
theorem dX4_idempotentCount_50 : decode cX4_idempotentCount 50 = .ok (.invokevirtual 256, 3) := dk_182 1 0 (dk_at dksX4_idempotentCount_2 2 rfl rfl)
theorem dX4_idempotentCount_53 : decode cX4_idempotentCount 53 = .ok (.aload_n 0, 1) := dk_42 (dk_at dksX4_idempotentCount_2 5 rfl rfl)
theorem dX4_idempotentCount_54 : decode cX4_idempotentCount 54 = .ok (.getfield 66, 3) := dk_180 0 66 (dk_at dksX4_idempotentCount_2 6 rfl rfl)
theorem dX4_idempotentCount_57 : decode cX4_idempotentCount 57 = .ok (.iload_n 2, 1) := dk_28 (dk_at dksX4_idempotentCount_2 9 rfl rfl)
theorem dX4_idempotentCount_58 : decode cX4_idempotentCount 58 = .ok (.iaload, 1) := dk_46 (dk_at dksX4_idempotentCount_2 10 rfl rfl)
theorem dX4_idempotentCount_59 : decode cX4_idempotentCount 59 = .ok (.if_icmp .ne 7, 3) := dk_160 0 7 (dk_at dksX4_idempotentCount_2 11 rfl rfl)
theorem dX4_idempotentCount_62 : decode cX4_idempotentCount 62 = .ok (.iconst 1, 1) := dk_4 (dk_at dksX4_idempotentCount_2 14 rfl rfl)
theorem dX4_idempotentCount_63 : decode cX4_idempotentCount 63 = .ok (.goto 4, 3) := dk_167 0 4 (dk_at dksX4_idempotentCount_2 15 rfl rfl)
theorem dX4_idempotentCount_66 : decode cX4_idempotentCount 66 = .ok (.iconst 0, 1) := dk_3 (dk_at dksX4_idempotentCount_2 18 rfl rfl)
theorem dX4_idempotentCount_67 : decode cX4_idempotentCount 67 = .ok (.iadd, 1) := dk_96 (dk_at dksX4_idempotentCount_2 19 rfl rfl)
theorem dX4_idempotentCount_68 : decode cX4_idempotentCount 68 = .ok (.istore_n 1, 1) := dk_60 (dk_at dksX4_idempotentCount_2 20 rfl rfl)
theorem dX4_idempotentCount_69 : decode cX4_idempotentCount 69 = .ok (.iinc 2 1, 3) := dk_132 2 1 (dk_at dksX4_idempotentCount_2 21 rfl rfl)
theorem dX4_idempotentCount_72 : decode cX4_idempotentCount 72 = .ok (.goto (-58), 3) := dk_167 255 198 (dk_at dksX4_idempotentCount_3 0 rfl rfl)
theorem dX4_idempotentCount_75 : decode cX4_idempotentCount 75 = .ok (.iload_n 1, 1) := dk_27 (dk_at dksX4_idempotentCount_3 3 rfl rfl)
theorem dX4_idempotentCount_76 : decode cX4_idempotentCount 76 = .ok (.ireturn, 1) := dk_172 (dk_at dksX4_idempotentCount_3 4 rfl rfl)
abbrev cX4_terminatesBySizeChange : ByteArray := prog_10_method_64_code
def yX4_terminatesBySizeChange : MethodName := ⟨RX4, "terminatesBySizeChange", "()I"⟩
def dkwX4_terminatesBySizeChange_5 : List UInt8 := [27, 153, 0, 7, 4, 167, 0, 4, 3, 172]
abbrev dktX4_terminatesBySizeChange_5 : List UInt8 := dkwX4_terminatesBySizeChange_5 ++ []
def dkwX4_terminatesBySizeChange_4 : List UInt8 := [42, 180, 0, 69, 16, 8, 46, 5, 160, 0, 7, 4, 167, 0, 4, 3, 126, 60, 132, 2, 1, 167, 255, 154]
abbrev dktX4_terminatesBySizeChange_4 : List UInt8 := dkwX4_terminatesBySizeChange_4 ++ dktX4_terminatesBySizeChange_5
def dkwX4_terminatesBySizeChange_3 : List UInt8 := [184, 0, 236, 27, 42, 180, 0, 69, 3, 46, 5, 159, 0, 24, 42, 180, 0, 69, 7, 46, 5, 159, 0, 14]
abbrev dktX4_terminatesBySizeChange_3 : List UInt8 := dkwX4_terminatesBySizeChange_3 ++ dktX4_terminatesBySizeChange_4
def dkwX4_terminatesBySizeChange_2 : List UInt8 := [28, 46, 182, 1, 0, 42, 180, 0, 66, 28, 46, 160, 0, 55, 42, 180, 0, 66, 28, 46, 42, 180, 0, 69]
abbrev dktX4_terminatesBySizeChange_2 : List UInt8 := dkwX4_terminatesBySizeChange_2 ++ dktX4_terminatesBySizeChange_3
def dkwX4_terminatesBySizeChange_1 : List UInt8 := [180, 0, 66, 28, 46, 184, 0, 233, 7, 112, 154, 0, 80, 42, 42, 180, 0, 66, 28, 46, 42, 180, 0, 66]
abbrev dktX4_terminatesBySizeChange_1 : List UInt8 := dkwX4_terminatesBySizeChange_1 ++ dktX4_terminatesBySizeChange_2
def dkwX4_terminatesBySizeChange_0 : List UInt8 := [42, 182, 1, 3, 154, 0, 6, 16, 248, 172, 4, 60, 3, 61, 28, 42, 180, 0, 250, 162, 0, 100, 42]
abbrev dktX4_terminatesBySizeChange_0 : List UInt8 := dkwX4_terminatesBySizeChange_0 ++ dktX4_terminatesBySizeChange_1
theorem dksX4_terminatesBySizeChange_0 : cX4_terminatesBySizeChange.data.toList.drop 0 = dktX4_terminatesBySizeChange_0 := by decide +kernel
theorem dksX4_terminatesBySizeChange_1 : cX4_terminatesBySizeChange.data.toList.drop 23 = dktX4_terminatesBySizeChange_1 := dk_seg dksX4_terminatesBySizeChange_0 23 rfl rfl
theorem dksX4_terminatesBySizeChange_2 : cX4_terminatesBySizeChange.data.toList.drop 47 = dktX4_terminatesBySizeChange_2 := dk_seg dksX4_terminatesBySizeChange_1 24 rfl rfl
theorem dksX4_terminatesBySizeChange_3 : cX4_terminatesBySizeChange.data.toList.drop 71 = dktX4_terminatesBySizeChange_3 := dk_seg dksX4_terminatesBySizeChange_2 24 rfl rfl
theorem dksX4_terminatesBySizeChange_4 : cX4_terminatesBySizeChange.data.toList.drop 95 = dktX4_terminatesBySizeChange_4 := dk_seg dksX4_terminatesBySizeChange_3 24 rfl rfl
theorem dksX4_terminatesBySizeChange_5 : cX4_terminatesBySizeChange.data.toList.drop 119 = dktX4_terminatesBySizeChange_5 := dk_seg dksX4_terminatesBySizeChange_4 24 rfl rfl
theorem dX4_terminatesBySizeChange_0 : decode cX4_terminatesBySizeChange 0 = .ok (.aload_n 0, 1) := dk_42 (dk_at dksX4_terminatesBySizeChange_0 0 rfl rfl)
theorem dX4_terminatesBySizeChange_1 : decode cX4_terminatesBySizeChange 1 = .ok (.invokevirtual 259, 3) := dk_182 1 3 (dk_at dksX4_terminatesBySizeChange_0 1 rfl rfl)
theorem dX4_terminatesBySizeChange_4 : decode cX4_terminatesBySizeChange 4 = .ok (.ifCond .ne 6, 3) := dk_154 0 6 (dk_at dksX4_terminatesBySizeChange_0 4 rfl rfl)
theorem dX4_terminatesBySizeChange_7 : decode cX4_terminatesBySizeChange 7 = .ok (.bipush (-8), 2) := dk_16 248 (dk_at dksX4_terminatesBySizeChange_0 7 rfl rfl)
theorem dX4_terminatesBySizeChange_9 : decode cX4_terminatesBySizeChange 9 = .ok (.ireturn, 1) := dk_172 (dk_at dksX4_terminatesBySizeChange_0 9 rfl rfl)
theorem dX4_terminatesBySizeChange_10 : decode cX4_terminatesBySizeChange 10 = .ok (.iconst 1, 1) := dk_4 (dk_at dksX4_terminatesBySizeChange_0 10 rfl rfl)
theorem dX4_terminatesBySizeChange_11 : decode cX4_terminatesBySizeChange 11 = .ok (.istore_n 1, 1) := dk_60 (dk_at dksX4_terminatesBySizeChange_0 11 rfl rfl)
theorem dX4_terminatesBySizeChange_12 : decode cX4_terminatesBySizeChange 12 = .ok (.iconst 0, 1) := dk_3 (dk_at dksX4_terminatesBySizeChange_0 12 rfl rfl)
theorem dX4_terminatesBySizeChange_13 : decode cX4_terminatesBySizeChange 13 = .ok (.istore_n 2, 1) := dk_61 (dk_at dksX4_terminatesBySizeChange_0 13 rfl rfl)
theorem dX4_terminatesBySizeChange_14 : decode cX4_terminatesBySizeChange 14 = .ok (.iload_n 2, 1) := dk_28 (dk_at dksX4_terminatesBySizeChange_0 14 rfl rfl)
theorem dX4_terminatesBySizeChange_15 : decode cX4_terminatesBySizeChange 15 = .ok (.aload_n 0, 1) := dk_42 (dk_at dksX4_terminatesBySizeChange_0 15 rfl rfl)
theorem dX4_terminatesBySizeChange_16 : decode cX4_terminatesBySizeChange 16 = .ok (.getfield 250, 3) := dk_180 0 250 (dk_at dksX4_terminatesBySizeChange_0 16 rfl rfl)
theorem dX4_terminatesBySizeChange_19 : decode cX4_terminatesBySizeChange 19 = .ok (.if_icmp .ge 100, 3) := dk_162 0 100 (dk_at dksX4_terminatesBySizeChange_0 19 rfl rfl)
theorem dX4_terminatesBySizeChange_22 : decode cX4_terminatesBySizeChange 22 = .ok (.aload_n 0, 1) := dk_42 (dk_at dksX4_terminatesBySizeChange_0 22 rfl rfl)
theorem dX4_terminatesBySizeChange_23 : decode cX4_terminatesBySizeChange 23 = .ok (.getfield 66, 3) := dk_180 0 66 (dk_at dksX4_terminatesBySizeChange_1 0 rfl rfl)
theorem dX4_terminatesBySizeChange_26 : decode cX4_terminatesBySizeChange 26 = .ok (.iload_n 2, 1) := dk_28 (dk_at dksX4_terminatesBySizeChange_1 3 rfl rfl)
theorem dX4_terminatesBySizeChange_27 : decode cX4_terminatesBySizeChange 27 = .ok (.iaload, 1) := dk_46 (dk_at dksX4_terminatesBySizeChange_1 4 rfl rfl)
theorem dX4_terminatesBySizeChange_28 : decode cX4_terminatesBySizeChange 28 = .ok (.invokestatic 233, 3) := dk_184 0 233 (dk_at dksX4_terminatesBySizeChange_1 5 rfl rfl)
theorem dX4_terminatesBySizeChange_31 : decode cX4_terminatesBySizeChange 31 = .ok (.iconst 4, 1) := dk_7 (dk_at dksX4_terminatesBySizeChange_1 8 rfl rfl)
theorem dX4_terminatesBySizeChange_32 : decode cX4_terminatesBySizeChange 32 = .ok (.irem, 1) := dk_112 (dk_at dksX4_terminatesBySizeChange_1 9 rfl rfl)
theorem dX4_terminatesBySizeChange_33 : decode cX4_terminatesBySizeChange 33 = .ok (.ifCond .ne 80, 3) := dk_154 0 80 (dk_at dksX4_terminatesBySizeChange_1 10 rfl rfl)
theorem dX4_terminatesBySizeChange_36 : decode cX4_terminatesBySizeChange 36 = .ok (.aload_n 0, 1) := dk_42 (dk_at dksX4_terminatesBySizeChange_1 13 rfl rfl)
theorem dX4_terminatesBySizeChange_37 : decode cX4_terminatesBySizeChange 37 = .ok (.aload_n 0, 1) := dk_42 (dk_at dksX4_terminatesBySizeChange_1 14 rfl rfl)
theorem dX4_terminatesBySizeChange_38 : decode cX4_terminatesBySizeChange 38 = .ok (.getfield 66, 3) := dk_180 0 66 (dk_at dksX4_terminatesBySizeChange_1 15 rfl rfl)
theorem dX4_terminatesBySizeChange_41 : decode cX4_terminatesBySizeChange 41 = .ok (.iload_n 2, 1) := dk_28 (dk_at dksX4_terminatesBySizeChange_1 18 rfl rfl)
theorem dX4_terminatesBySizeChange_42 : decode cX4_terminatesBySizeChange 42 = .ok (.iaload, 1) := dk_46 (dk_at dksX4_terminatesBySizeChange_1 19 rfl rfl)
theorem dX4_terminatesBySizeChange_43 : decode cX4_terminatesBySizeChange 43 = .ok (.aload_n 0, 1) := dk_42 (dk_at dksX4_terminatesBySizeChange_1 20 rfl rfl)
theorem dX4_terminatesBySizeChange_44 : decode cX4_terminatesBySizeChange 44 = .ok (.getfield 66, 3) := dk_180 0 66 (dk_at dksX4_terminatesBySizeChange_1 21 rfl rfl)
theorem dX4_terminatesBySizeChange_47 : decode cX4_terminatesBySizeChange 47 = .ok (.iload_n 2, 1) := dk_28 (dk_at dksX4_terminatesBySizeChange_2 0 rfl rfl)
theorem dX4_terminatesBySizeChange_48 : decode cX4_terminatesBySizeChange 48 = .ok (.iaload, 1) := dk_46 (dk_at dksX4_terminatesBySizeChange_2 1 rfl rfl)
theorem dX4_terminatesBySizeChange_49 : decode cX4_terminatesBySizeChange 49 = .ok (.invokevirtual 256, 3) := dk_182 1 0 (dk_at dksX4_terminatesBySizeChange_2 2 rfl rfl)
theorem dX4_terminatesBySizeChange_52 : decode cX4_terminatesBySizeChange 52 = .ok (.aload_n 0, 1) := dk_42 (dk_at dksX4_terminatesBySizeChange_2 5 rfl rfl)
theorem dX4_terminatesBySizeChange_53 : decode cX4_terminatesBySizeChange 53 = .ok (.getfield 66, 3) := dk_180 0 66 (dk_at dksX4_terminatesBySizeChange_2 6 rfl rfl)
theorem dX4_terminatesBySizeChange_56 : decode cX4_terminatesBySizeChange 56 = .ok (.iload_n 2, 1) := dk_28 (dk_at dksX4_terminatesBySizeChange_2 9 rfl rfl)
theorem dX4_terminatesBySizeChange_57 : decode cX4_terminatesBySizeChange 57 = .ok (.iaload, 1) := dk_46 (dk_at dksX4_terminatesBySizeChange_2 10 rfl rfl)
theorem dX4_terminatesBySizeChange_58 : decode cX4_terminatesBySizeChange 58 = .ok (.if_icmp .ne 55, 3) := dk_160 0 55 (dk_at dksX4_terminatesBySizeChange_2 11 rfl rfl)
theorem dX4_terminatesBySizeChange_61 : decode cX4_terminatesBySizeChange 61 = .ok (.aload_n 0, 1) := dk_42 (dk_at dksX4_terminatesBySizeChange_2 14 rfl rfl)
theorem dX4_terminatesBySizeChange_62 : decode cX4_terminatesBySizeChange 62 = .ok (.getfield 66, 3) := dk_180 0 66 (dk_at dksX4_terminatesBySizeChange_2 15 rfl rfl)
theorem dX4_terminatesBySizeChange_65 : decode cX4_terminatesBySizeChange 65 = .ok (.iload_n 2, 1) := dk_28 (dk_at dksX4_terminatesBySizeChange_2 18 rfl rfl)
theorem dX4_terminatesBySizeChange_66 : decode cX4_terminatesBySizeChange 66 = .ok (.iaload, 1) := dk_46 (dk_at dksX4_terminatesBySizeChange_2 19 rfl rfl)
theorem dX4_terminatesBySizeChange_67 : decode cX4_terminatesBySizeChange 67 = .ok (.aload_n 0, 1) := dk_42 (dk_at dksX4_terminatesBySizeChange_2 20 rfl rfl)
theorem dX4_terminatesBySizeChange_68 : decode cX4_terminatesBySizeChange 68 = .ok (.getfield 69, 3) := dk_180 0 69 (dk_at dksX4_terminatesBySizeChange_2 21 rfl rfl)
theorem dX4_terminatesBySizeChange_71 : decode cX4_terminatesBySizeChange 71 = .ok (.invokestatic 236, 3) := dk_184 0 236 (dk_at dksX4_terminatesBySizeChange_3 0 rfl rfl)
theorem dX4_terminatesBySizeChange_74 : decode cX4_terminatesBySizeChange 74 = .ok (.iload_n 1, 1) := dk_27 (dk_at dksX4_terminatesBySizeChange_3 3 rfl rfl)
theorem dX4_terminatesBySizeChange_75 : decode cX4_terminatesBySizeChange 75 = .ok (.aload_n 0, 1) := dk_42 (dk_at dksX4_terminatesBySizeChange_3 4 rfl rfl)
theorem dX4_terminatesBySizeChange_76 : decode cX4_terminatesBySizeChange 76 = .ok (.getfield 69, 3) := dk_180 0 69 (dk_at dksX4_terminatesBySizeChange_3 5 rfl rfl)
theorem dX4_terminatesBySizeChange_79 : decode cX4_terminatesBySizeChange 79 = .ok (.iconst 0, 1) := dk_3 (dk_at dksX4_terminatesBySizeChange_3 8 rfl rfl)
theorem dX4_terminatesBySizeChange_80 : decode cX4_terminatesBySizeChange 80 = .ok (.iaload, 1) := dk_46 (dk_at dksX4_terminatesBySizeChange_3 9 rfl rfl)
theorem dX4_terminatesBySizeChange_81 : decode cX4_terminatesBySizeChange 81 = .ok (.iconst 2, 1) := dk_5 (dk_at dksX4_terminatesBySizeChange_3 10 rfl rfl)
theorem dX4_terminatesBySizeChange_82 : decode cX4_terminatesBySizeChange 82 = .ok (.if_icmp .eq 24, 3) := dk_159 0 24 (dk_at dksX4_terminatesBySizeChange_3 11 rfl rfl)
theorem dX4_terminatesBySizeChange_85 : decode cX4_terminatesBySizeChange 85 = .ok (.aload_n 0, 1) := dk_42 (dk_at dksX4_terminatesBySizeChange_3 14 rfl rfl)
theorem dX4_terminatesBySizeChange_86 : decode cX4_terminatesBySizeChange 86 = .ok (.getfield 69, 3) := dk_180 0 69 (dk_at dksX4_terminatesBySizeChange_3 15 rfl rfl)
theorem dX4_terminatesBySizeChange_89 : decode cX4_terminatesBySizeChange 89 = .ok (.iconst 4, 1) := dk_7 (dk_at dksX4_terminatesBySizeChange_3 18 rfl rfl)
theorem dX4_terminatesBySizeChange_90 : decode cX4_terminatesBySizeChange 90 = .ok (.iaload, 1) := dk_46 (dk_at dksX4_terminatesBySizeChange_3 19 rfl rfl)
theorem dX4_terminatesBySizeChange_91 : decode cX4_terminatesBySizeChange 91 = .ok (.iconst 2, 1) := dk_5 (dk_at dksX4_terminatesBySizeChange_3 20 rfl rfl)
theorem dX4_terminatesBySizeChange_92 : decode cX4_terminatesBySizeChange 92 = .ok (.if_icmp .eq 14, 3) := dk_159 0 14 (dk_at dksX4_terminatesBySizeChange_3 21 rfl rfl)
theorem dX4_terminatesBySizeChange_95 : decode cX4_terminatesBySizeChange 95 = .ok (.aload_n 0, 1) := dk_42 (dk_at dksX4_terminatesBySizeChange_4 0 rfl rfl)
theorem dX4_terminatesBySizeChange_96 : decode cX4_terminatesBySizeChange 96 = .ok (.getfield 69, 3) := dk_180 0 69 (dk_at dksX4_terminatesBySizeChange_4 1 rfl rfl)
theorem dX4_terminatesBySizeChange_99 : decode cX4_terminatesBySizeChange 99 = .ok (.bipush 8, 2) := dk_16 8 (dk_at dksX4_terminatesBySizeChange_4 4 rfl rfl)
theorem dX4_terminatesBySizeChange_101 : decode cX4_terminatesBySizeChange 101 = .ok (.iaload, 1) := dk_46 (dk_at dksX4_terminatesBySizeChange_4 6 rfl rfl)
theorem dX4_terminatesBySizeChange_102 : decode cX4_terminatesBySizeChange 102 = .ok (.iconst 2, 1) := dk_5 (dk_at dksX4_terminatesBySizeChange_4 7 rfl rfl)
theorem dX4_terminatesBySizeChange_103 : decode cX4_terminatesBySizeChange 103 = .ok (.if_icmp .ne 7, 3) := dk_160 0 7 (dk_at dksX4_terminatesBySizeChange_4 8 rfl rfl)
theorem dX4_terminatesBySizeChange_106 : decode cX4_terminatesBySizeChange 106 = .ok (.iconst 1, 1) := dk_4 (dk_at dksX4_terminatesBySizeChange_4 11 rfl rfl)
theorem dX4_terminatesBySizeChange_107 : decode cX4_terminatesBySizeChange 107 = .ok (.goto 4, 3) := dk_167 0 4 (dk_at dksX4_terminatesBySizeChange_4 12 rfl rfl)
theorem dX4_terminatesBySizeChange_110 : decode cX4_terminatesBySizeChange 110 = .ok (.iconst 0, 1) := dk_3 (dk_at dksX4_terminatesBySizeChange_4 15 rfl rfl)
theorem dX4_terminatesBySizeChange_111 : decode cX4_terminatesBySizeChange 111 = .ok (.iand, 1) := dk_126 (dk_at dksX4_terminatesBySizeChange_4 16 rfl rfl)
theorem dX4_terminatesBySizeChange_112 : decode cX4_terminatesBySizeChange 112 = .ok (.istore_n 1, 1) := dk_60 (dk_at dksX4_terminatesBySizeChange_4 17 rfl rfl)
theorem dX4_terminatesBySizeChange_113 : decode cX4_terminatesBySizeChange 113 = .ok (.iinc 2 1, 3) := dk_132 2 1 (dk_at dksX4_terminatesBySizeChange_4 18 rfl rfl)
theorem dX4_terminatesBySizeChange_116 : decode cX4_terminatesBySizeChange 116 = .ok (.goto (-102), 3) := dk_167 255 154 (dk_at dksX4_terminatesBySizeChange_4 21 rfl rfl)
theorem dX4_terminatesBySizeChange_119 : decode cX4_terminatesBySizeChange 119 = .ok (.iload_n 1, 1) := dk_27 (dk_at dksX4_terminatesBySizeChange_5 0 rfl rfl)
theorem dX4_terminatesBySizeChange_120 : decode cX4_terminatesBySizeChange 120 = .ok (.ifCond .eq 7, 3) := dk_153 0 7 (dk_at dksX4_terminatesBySizeChange_5 1 rfl rfl)
theorem dX4_terminatesBySizeChange_123 : decode cX4_terminatesBySizeChange 123 = .ok (.iconst 1, 1) := dk_4 (dk_at dksX4_terminatesBySizeChange_5 4 rfl rfl)
theorem dX4_terminatesBySizeChange_124 : decode cX4_terminatesBySizeChange 124 = .ok (.goto 4, 3) := dk_167 0 4 (dk_at dksX4_terminatesBySizeChange_5 5 rfl rfl)
theorem dX4_terminatesBySizeChange_127 : decode cX4_terminatesBySizeChange 127 = .ok (.iconst 0, 1) := dk_3 (dk_at dksX4_terminatesBySizeChange_5 8 rfl rfl)
theorem dX4_terminatesBySizeChange_128 : decode cX4_terminatesBySizeChange 128 = .ok (.ireturn, 1) := dk_172 (dk_at dksX4_terminatesBySizeChange_5 9 rfl rfl)
abbrev cX4_projection : ByteArray := prog_10_method_67_code
def yX4_projection : MethodName := ⟨RX4, "projection", "(I)I"⟩
def dkwX4_projection_1 : List UInt8 := [182, 1, 9, 167, 0, 4, 2, 172]
abbrev dktX4_projection_1 : List UInt8 := dkwX4_projection_1 ++ []
def dkwX4_projection_0 : List UInt8 := [42, 182, 0, 223, 42, 182, 0, 226, 27, 3, 42, 180, 0, 220, 4, 100, 184, 0, 105, 153, 0, 11, 42, 27]
abbrev dktX4_projection_0 : List UInt8 := dkwX4_projection_0 ++ dktX4_projection_1
theorem dksX4_projection_0 : cX4_projection.data.toList.drop 0 = dktX4_projection_0 := by decide +kernel
theorem dksX4_projection_1 : cX4_projection.data.toList.drop 24 = dktX4_projection_1 := dk_seg dksX4_projection_0 24 rfl rfl
theorem dX4_projection_0 : decode cX4_projection 0 = .ok (.aload_n 0, 1) := dk_42 (dk_at dksX4_projection_0 0 rfl rfl)
theorem dX4_projection_1 : decode cX4_projection 1 = .ok (.invokevirtual 223, 3) := dk_182 0 223 (dk_at dksX4_projection_0 1 rfl rfl)
theorem dX4_projection_4 : decode cX4_projection 4 = .ok (.aload_n 0, 1) := dk_42 (dk_at dksX4_projection_0 4 rfl rfl)
theorem dX4_projection_5 : decode cX4_projection 5 = .ok (.invokevirtual 226, 3) := dk_182 0 226 (dk_at dksX4_projection_0 5 rfl rfl)
theorem dX4_projection_8 : decode cX4_projection 8 = .ok (.iload_n 1, 1) := dk_27 (dk_at dksX4_projection_0 8 rfl rfl)
theorem dX4_projection_9 : decode cX4_projection 9 = .ok (.iconst 0, 1) := dk_3 (dk_at dksX4_projection_0 9 rfl rfl)
theorem dX4_projection_10 : decode cX4_projection 10 = .ok (.aload_n 0, 1) := dk_42 (dk_at dksX4_projection_0 10 rfl rfl)
theorem dX4_projection_11 : decode cX4_projection 11 = .ok (.getfield 220, 3) := dk_180 0 220 (dk_at dksX4_projection_0 11 rfl rfl)
theorem dX4_projection_14 : decode cX4_projection 14 = .ok (.iconst 1, 1) := dk_4 (dk_at dksX4_projection_0 14 rfl rfl)
theorem dX4_projection_15 : decode cX4_projection 15 = .ok (.isub, 1) := dk_100 (dk_at dksX4_projection_0 15 rfl rfl)
theorem dX4_projection_16 : decode cX4_projection 16 = .ok (.invokestatic 105, 3) := dk_184 0 105 (dk_at dksX4_projection_0 16 rfl rfl)
theorem dX4_projection_19 : decode cX4_projection 19 = .ok (.ifCond .eq 11, 3) := dk_153 0 11 (dk_at dksX4_projection_0 19 rfl rfl)
theorem dX4_projection_22 : decode cX4_projection 22 = .ok (.aload_n 0, 1) := dk_42 (dk_at dksX4_projection_0 22 rfl rfl)
theorem dX4_projection_23 : decode cX4_projection 23 = .ok (.iload_n 1, 1) := dk_27 (dk_at dksX4_projection_0 23 rfl rfl)
theorem dX4_projection_24 : decode cX4_projection 24 = .ok (.invokevirtual 265, 3) := dk_182 1 9 (dk_at dksX4_projection_1 0 rfl rfl)
theorem dX4_projection_27 : decode cX4_projection 27 = .ok (.goto 4, 3) := dk_167 0 4 (dk_at dksX4_projection_1 3 rfl rfl)
theorem dX4_projection_30 : decode cX4_projection 30 = .ok (.iconst (-1), 1) := dk_2 (dk_at dksX4_projection_1 6 rfl rfl)
theorem dX4_projection_31 : decode cX4_projection 31 = .ok (.ireturn, 1) := dk_172 (dk_at dksX4_projection_1 7 rfl rfl)
abbrev cX4_findProjection : ByteArray := prog_10_method_66_code
def yX4_findProjection : MethodName := ⟨RX4, "findProjection", "(I)I"⟩
def dkwX4_findProjection_4 : List UInt8 := [132, 2, 1, 167, 255, 162, 16, 251, 172]
abbrev dktX4_findProjection_4 : List UInt8 := dkwX4_findProjection_4 ++ []
def dkwX4_findProjection_3 : List UInt8 := [28, 104, 16, 10, 29, 104, 96, 21, 4, 96, 172, 132, 4, 1, 167, 255, 199, 132, 3, 1, 167, 255, 180]
abbrev dktX4_findProjection_3 : List UInt8 := dkwX4_findProjection_3 ++ dktX4_findProjection_4
def dkwX4_findProjection_2 : List UInt8 := [180, 0, 82, 4, 29, 79, 42, 180, 0, 82, 5, 21, 4, 79, 42, 27, 182, 1, 6, 153, 0, 16, 16, 100]
abbrev dktX4_findProjection_2 : List UInt8 := dkwX4_findProjection_2 ++ dktX4_findProjection_3
def dkwX4_findProjection_1 : List UInt8 := [4, 54, 4, 21, 4, 42, 180, 0, 9, 5, 46, 163, 0, 52, 42, 180, 0, 82, 3, 28, 79, 42]
abbrev dktX4_findProjection_1 : List UInt8 := dkwX4_findProjection_1 ++ dktX4_findProjection_2
def dkwX4_findProjection_0 : List UInt8 := [4, 61, 28, 42, 180, 0, 9, 3, 46, 163, 0, 90, 4, 62, 29, 42, 180, 0, 9, 4, 46, 163, 0, 72]
abbrev dktX4_findProjection_0 : List UInt8 := dkwX4_findProjection_0 ++ dktX4_findProjection_1
theorem dksX4_findProjection_0 : cX4_findProjection.data.toList.drop 0 = dktX4_findProjection_0 := by decide +kernel
theorem dksX4_findProjection_1 : cX4_findProjection.data.toList.drop 24 = dktX4_findProjection_1 := dk_seg dksX4_findProjection_0 24 rfl rfl
theorem dksX4_findProjection_2 : cX4_findProjection.data.toList.drop 46 = dktX4_findProjection_2 := dk_seg dksX4_findProjection_1 22 rfl rfl
theorem dksX4_findProjection_3 : cX4_findProjection.data.toList.drop 70 = dktX4_findProjection_3 := dk_seg dksX4_findProjection_2 24 rfl rfl
theorem dksX4_findProjection_4 : cX4_findProjection.data.toList.drop 93 = dktX4_findProjection_4 := dk_seg dksX4_findProjection_3 23 rfl rfl
theorem dX4_findProjection_0 : decode cX4_findProjection 0 = .ok (.iconst 1, 1) := dk_4 (dk_at dksX4_findProjection_0 0 rfl rfl)
theorem dX4_findProjection_1 : decode cX4_findProjection 1 = .ok (.istore_n 2, 1) := dk_61 (dk_at dksX4_findProjection_0 1 rfl rfl)
theorem dX4_findProjection_2 : decode cX4_findProjection 2 = .ok (.iload_n 2, 1) := dk_28 (dk_at dksX4_findProjection_0 2 rfl rfl)
theorem dX4_findProjection_3 : decode cX4_findProjection 3 = .ok (.aload_n 0, 1) := dk_42 (dk_at dksX4_findProjection_0 3 rfl rfl)
theorem dX4_findProjection_4 : decode cX4_findProjection 4 = .ok (.getfield 9, 3) := dk_180 0 9 (dk_at dksX4_findProjection_0 4 rfl rfl)
theorem dX4_findProjection_7 : decode cX4_findProjection 7 = .ok (.iconst 0, 1) := dk_3 (dk_at dksX4_findProjection_0 7 rfl rfl)
theorem dX4_findProjection_8 : decode cX4_findProjection 8 = .ok (.iaload, 1) := dk_46 (dk_at dksX4_findProjection_0 8 rfl rfl)
theorem dX4_findProjection_9 : decode cX4_findProjection 9 = .ok (.if_icmp .gt 90, 3) := dk_163 0 90 (dk_at dksX4_findProjection_0 9 rfl rfl)
theorem dX4_findProjection_12 : decode cX4_findProjection 12 = .ok (.iconst 1, 1) := dk_4 (dk_at dksX4_findProjection_0 12 rfl rfl)
theorem dX4_findProjection_13 : decode cX4_findProjection 13 = .ok (.istore_n 3, 1) := dk_62 (dk_at dksX4_findProjection_0 13 rfl rfl)
theorem dX4_findProjection_14 : decode cX4_findProjection 14 = .ok (.iload_n 3, 1) := dk_29 (dk_at dksX4_findProjection_0 14 rfl rfl)
theorem dX4_findProjection_15 : decode cX4_findProjection 15 = .ok (.aload_n 0, 1) := dk_42 (dk_at dksX4_findProjection_0 15 rfl rfl)
theorem dX4_findProjection_16 : decode cX4_findProjection 16 = .ok (.getfield 9, 3) := dk_180 0 9 (dk_at dksX4_findProjection_0 16 rfl rfl)
theorem dX4_findProjection_19 : decode cX4_findProjection 19 = .ok (.iconst 1, 1) := dk_4 (dk_at dksX4_findProjection_0 19 rfl rfl)
theorem dX4_findProjection_20 : decode cX4_findProjection 20 = .ok (.iaload, 1) := dk_46 (dk_at dksX4_findProjection_0 20 rfl rfl)
theorem dX4_findProjection_21 : decode cX4_findProjection 21 = .ok (.if_icmp .gt 72, 3) := dk_163 0 72 (dk_at dksX4_findProjection_0 21 rfl rfl)
theorem dX4_findProjection_24 : decode cX4_findProjection 24 = .ok (.iconst 1, 1) := dk_4 (dk_at dksX4_findProjection_1 0 rfl rfl)
theorem dX4_findProjection_25 : decode cX4_findProjection 25 = .ok (.istore 4, 2) := dk_54 4 (dk_at dksX4_findProjection_1 1 rfl rfl)
theorem dX4_findProjection_27 : decode cX4_findProjection 27 = .ok (.iload 4, 2) := dk_21 4 (dk_at dksX4_findProjection_1 3 rfl rfl)
theorem dX4_findProjection_29 : decode cX4_findProjection 29 = .ok (.aload_n 0, 1) := dk_42 (dk_at dksX4_findProjection_1 5 rfl rfl)
theorem dX4_findProjection_30 : decode cX4_findProjection 30 = .ok (.getfield 9, 3) := dk_180 0 9 (dk_at dksX4_findProjection_1 6 rfl rfl)
theorem dX4_findProjection_33 : decode cX4_findProjection 33 = .ok (.iconst 2, 1) := dk_5 (dk_at dksX4_findProjection_1 9 rfl rfl)
theorem dX4_findProjection_34 : decode cX4_findProjection 34 = .ok (.iaload, 1) := dk_46 (dk_at dksX4_findProjection_1 10 rfl rfl)
theorem dX4_findProjection_35 : decode cX4_findProjection 35 = .ok (.if_icmp .gt 52, 3) := dk_163 0 52 (dk_at dksX4_findProjection_1 11 rfl rfl)
theorem dX4_findProjection_38 : decode cX4_findProjection 38 = .ok (.aload_n 0, 1) := dk_42 (dk_at dksX4_findProjection_1 14 rfl rfl)
theorem dX4_findProjection_39 : decode cX4_findProjection 39 = .ok (.getfield 82, 3) := dk_180 0 82 (dk_at dksX4_findProjection_1 15 rfl rfl)
theorem dX4_findProjection_42 : decode cX4_findProjection 42 = .ok (.iconst 0, 1) := dk_3 (dk_at dksX4_findProjection_1 18 rfl rfl)
theorem dX4_findProjection_43 : decode cX4_findProjection 43 = .ok (.iload_n 2, 1) := dk_28 (dk_at dksX4_findProjection_1 19 rfl rfl)
theorem dX4_findProjection_44 : decode cX4_findProjection 44 = .ok (.iastore, 1) := dk_79 (dk_at dksX4_findProjection_1 20 rfl rfl)
theorem dX4_findProjection_45 : decode cX4_findProjection 45 = .ok (.aload_n 0, 1) := dk_42 (dk_at dksX4_findProjection_1 21 rfl rfl)
theorem dX4_findProjection_46 : decode cX4_findProjection 46 = .ok (.getfield 82, 3) := dk_180 0 82 (dk_at dksX4_findProjection_2 0 rfl rfl)
theorem dX4_findProjection_49 : decode cX4_findProjection 49 = .ok (.iconst 1, 1) := dk_4 (dk_at dksX4_findProjection_2 3 rfl rfl)
theorem dX4_findProjection_50 : decode cX4_findProjection 50 = .ok (.iload_n 3, 1) := dk_29 (dk_at dksX4_findProjection_2 4 rfl rfl)
theorem dX4_findProjection_51 : decode cX4_findProjection 51 = .ok (.iastore, 1) := dk_79 (dk_at dksX4_findProjection_2 5 rfl rfl)
theorem dX4_findProjection_52 : decode cX4_findProjection 52 = .ok (.aload_n 0, 1) := dk_42 (dk_at dksX4_findProjection_2 6 rfl rfl)
theorem dX4_findProjection_53 : decode cX4_findProjection 53 = .ok (.getfield 82, 3) := dk_180 0 82 (dk_at dksX4_findProjection_2 7 rfl rfl)
theorem dX4_findProjection_56 : decode cX4_findProjection 56 = .ok (.iconst 2, 1) := dk_5 (dk_at dksX4_findProjection_2 10 rfl rfl)
theorem dX4_findProjection_57 : decode cX4_findProjection 57 = .ok (.iload 4, 2) := dk_21 4 (dk_at dksX4_findProjection_2 11 rfl rfl)
theorem dX4_findProjection_59 : decode cX4_findProjection 59 = .ok (.iastore, 1) := dk_79 (dk_at dksX4_findProjection_2 13 rfl rfl)
theorem dX4_findProjection_60 : decode cX4_findProjection 60 = .ok (.aload_n 0, 1) := dk_42 (dk_at dksX4_findProjection_2 14 rfl rfl)
theorem dX4_findProjection_61 : decode cX4_findProjection 61 = .ok (.iload_n 1, 1) := dk_27 (dk_at dksX4_findProjection_2 15 rfl rfl)
theorem dX4_findProjection_62 : decode cX4_findProjection 62 = .ok (.invokevirtual 262, 3) := dk_182 1 6 (dk_at dksX4_findProjection_2 16 rfl rfl)
theorem dX4_findProjection_65 : decode cX4_findProjection 65 = .ok (.ifCond .eq 16, 3) := dk_153 0 16 (dk_at dksX4_findProjection_2 19 rfl rfl)
theorem dX4_findProjection_68 : decode cX4_findProjection 68 = .ok (.bipush 100, 2) := dk_16 100 (dk_at dksX4_findProjection_2 22 rfl rfl)
theorem dX4_findProjection_70 : decode cX4_findProjection 70 = .ok (.iload_n 2, 1) := dk_28 (dk_at dksX4_findProjection_3 0 rfl rfl)
theorem dX4_findProjection_71 : decode cX4_findProjection 71 = .ok (.imul, 1) := dk_104 (dk_at dksX4_findProjection_3 1 rfl rfl)
theorem dX4_findProjection_72 : decode cX4_findProjection 72 = .ok (.bipush 10, 2) := dk_16 10 (dk_at dksX4_findProjection_3 2 rfl rfl)
theorem dX4_findProjection_74 : decode cX4_findProjection 74 = .ok (.iload_n 3, 1) := dk_29 (dk_at dksX4_findProjection_3 4 rfl rfl)
theorem dX4_findProjection_75 : decode cX4_findProjection 75 = .ok (.imul, 1) := dk_104 (dk_at dksX4_findProjection_3 5 rfl rfl)
theorem dX4_findProjection_76 : decode cX4_findProjection 76 = .ok (.iadd, 1) := dk_96 (dk_at dksX4_findProjection_3 6 rfl rfl)
theorem dX4_findProjection_77 : decode cX4_findProjection 77 = .ok (.iload 4, 2) := dk_21 4 (dk_at dksX4_findProjection_3 7 rfl rfl)
theorem dX4_findProjection_79 : decode cX4_findProjection 79 = .ok (.iadd, 1) := dk_96 (dk_at dksX4_findProjection_3 9 rfl rfl)
theorem dX4_findProjection_80 : decode cX4_findProjection 80 = .ok (.ireturn, 1) := dk_172 (dk_at dksX4_findProjection_3 10 rfl rfl)
theorem dX4_findProjection_81 : decode cX4_findProjection 81 = .ok (.iinc 4 1, 3) := dk_132 4 1 (dk_at dksX4_findProjection_3 11 rfl rfl)
theorem dX4_findProjection_84 : decode cX4_findProjection 84 = .ok (.goto (-57), 3) := dk_167 255 199 (dk_at dksX4_findProjection_3 14 rfl rfl)
theorem dX4_findProjection_87 : decode cX4_findProjection 87 = .ok (.iinc 3 1, 3) := dk_132 3 1 (dk_at dksX4_findProjection_3 17 rfl rfl)
theorem dX4_findProjection_90 : decode cX4_findProjection 90 = .ok (.goto (-76), 3) := dk_167 255 180 (dk_at dksX4_findProjection_3 20 rfl rfl)
theorem dX4_findProjection_93 : decode cX4_findProjection 93 = .ok (.iinc 2 1, 3) := dk_132 2 1 (dk_at dksX4_findProjection_4 0 rfl rfl)
theorem dX4_findProjection_96 : decode cX4_findProjection 96 = .ok (.goto (-94), 3) := dk_167 255 162 (dk_at dksX4_findProjection_4 3 rfl rfl)
theorem dX4_findProjection_99 : decode cX4_findProjection 99 = .ok (.bipush (-5), 2) := dk_16 251 (dk_at dksX4_findProjection_4 6 rfl rfl)
theorem dX4_findProjection_101 : decode cX4_findProjection 101 = .ok (.ireturn, 1) := dk_172 (dk_at dksX4_findProjection_4 8 rfl rfl)
abbrev cX4_isValid : ByteArray := prog_10_method_65_code
def yX4_isValid : MethodName := ⟨RX4, "isValid", "(I)Z"⟩
def dkwX4_isValid_7 : List UInt8 := [3, 126, 54, 4, 132, 5, 1, 167, 255, 219, 21, 4, 172]
abbrev dktX4_isValid_7 : List UInt8 := dkwX4_isValid_7 ++ []
def dkwX4_isValid_6 : List UInt8 := [21, 4, 45, 21, 5, 51, 154, 0, 14, 42, 180, 0, 82, 21, 5, 46, 4, 160, 0, 7, 4, 167, 0, 4]
abbrev dktX4_isValid_6 : List UInt8 := dkwX4_isValid_6 ++ dktX4_isValid_7
def dkwX4_isValid_5 : List UInt8 := [182, 0, 194, 4, 84, 132, 4, 1, 167, 255, 160, 28, 54, 4, 3, 54, 5, 21, 5, 6, 162, 0, 37]
abbrev dktX4_isValid_5 : List UInt8 := dkwX4_isValid_5 ++ dktX4_isValid_6
def dkwX4_isValid_4 : List UInt8 := [160, 0, 7, 4, 167, 0, 4, 3, 128, 61, 45, 42, 21, 4, 182, 0, 191, 4, 84, 45, 42, 21, 4]
abbrev dktX4_isValid_4 : List UInt8 := dkwX4_isValid_4 ++ dktX4_isValid_5
def dkwX4_isValid_3 : List UInt8 := [21, 4, 182, 0, 194, 46, 4, 100, 182, 0, 229, 54, 5, 21, 5, 154, 0, 5, 3, 172, 28, 21, 5, 5]
abbrev dktX4_isValid_3 : List UInt8 := dkwX4_isValid_3 ++ dktX4_isValid_4
def dkwX4_isValid_2 : List UInt8 := [160, 0, 76, 42, 21, 4, 42, 180, 0, 82, 42, 21, 4, 182, 0, 191, 46, 4, 100, 42, 180, 0, 82, 42]
abbrev dktX4_isValid_2 : List UInt8 := dkwX4_isValid_2 ++ dktX4_isValid_3
def dkwX4_isValid_1 : List UInt8 := [167, 255, 242, 3, 54, 4, 21, 4, 42, 180, 0, 211, 162, 0, 93, 42, 180, 0, 63, 21, 4, 46, 27]
abbrev dktX4_isValid_1 : List UInt8 := dkwX4_isValid_1 ++ dktX4_isValid_2
def dkwX4_isValid_0 : List UInt8 := [3, 61, 42, 180, 0, 85, 78, 3, 54, 4, 21, 4, 6, 162, 0, 14, 45, 21, 4, 3, 84, 132, 4, 1]
abbrev dktX4_isValid_0 : List UInt8 := dkwX4_isValid_0 ++ dktX4_isValid_1
theorem dksX4_isValid_0 : cX4_isValid.data.toList.drop 0 = dktX4_isValid_0 := by decide +kernel
theorem dksX4_isValid_1 : cX4_isValid.data.toList.drop 24 = dktX4_isValid_1 := dk_seg dksX4_isValid_0 24 rfl rfl
theorem dksX4_isValid_2 : cX4_isValid.data.toList.drop 47 = dktX4_isValid_2 := dk_seg dksX4_isValid_1 23 rfl rfl
theorem dksX4_isValid_3 : cX4_isValid.data.toList.drop 71 = dktX4_isValid_3 := dk_seg dksX4_isValid_2 24 rfl rfl
theorem dksX4_isValid_4 : cX4_isValid.data.toList.drop 95 = dktX4_isValid_4 := dk_seg dksX4_isValid_3 24 rfl rfl
theorem dksX4_isValid_5 : cX4_isValid.data.toList.drop 118 = dktX4_isValid_5 := dk_seg dksX4_isValid_4 23 rfl rfl
theorem dksX4_isValid_6 : cX4_isValid.data.toList.drop 141 = dktX4_isValid_6 := dk_seg dksX4_isValid_5 23 rfl rfl
theorem dksX4_isValid_7 : cX4_isValid.data.toList.drop 165 = dktX4_isValid_7 := dk_seg dksX4_isValid_6 24 rfl rfl
theorem dX4_isValid_0 : decode cX4_isValid 0 = .ok (.iconst 0, 1) := dk_3 (dk_at dksX4_isValid_0 0 rfl rfl)
theorem dX4_isValid_1 : decode cX4_isValid 1 = .ok (.istore_n 2, 1) := dk_61 (dk_at dksX4_isValid_0 1 rfl rfl)
theorem dX4_isValid_2 : decode cX4_isValid 2 = .ok (.aload_n 0, 1) := dk_42 (dk_at dksX4_isValid_0 2 rfl rfl)
theorem dX4_isValid_3 : decode cX4_isValid 3 = .ok (.getfield 85, 3) := dk_180 0 85 (dk_at dksX4_isValid_0 3 rfl rfl)
theorem dX4_isValid_6 : decode cX4_isValid 6 = .ok (.astore_n 3, 1) := dk_78 (dk_at dksX4_isValid_0 6 rfl rfl)
theorem dX4_isValid_7 : decode cX4_isValid 7 = .ok (.iconst 0, 1) := dk_3 (dk_at dksX4_isValid_0 7 rfl rfl)
theorem dX4_isValid_8 : decode cX4_isValid 8 = .ok (.istore 4, 2) := dk_54 4 (dk_at dksX4_isValid_0 8 rfl rfl)
theorem dX4_isValid_10 : decode cX4_isValid 10 = .ok (.iload 4, 2) := dk_21 4 (dk_at dksX4_isValid_0 10 rfl rfl)
theorem dX4_isValid_12 : decode cX4_isValid 12 = .ok (.iconst 3, 1) := dk_6 (dk_at dksX4_isValid_0 12 rfl rfl)
theorem dX4_isValid_13 : decode cX4_isValid 13 = .ok (.if_icmp .ge 14, 3) := dk_162 0 14 (dk_at dksX4_isValid_0 13 rfl rfl)
theorem dX4_isValid_16 : decode cX4_isValid 16 = .ok (.aload_n 3, 1) := dk_45 (dk_at dksX4_isValid_0 16 rfl rfl)
theorem dX4_isValid_17 : decode cX4_isValid 17 = .ok (.iload 4, 2) := dk_21 4 (dk_at dksX4_isValid_0 17 rfl rfl)
theorem dX4_isValid_19 : decode cX4_isValid 19 = .ok (.iconst 0, 1) := dk_3 (dk_at dksX4_isValid_0 19 rfl rfl)
theorem dX4_isValid_20 : decode cX4_isValid 20 = .ok (.bastore, 1) := dk_84 (dk_at dksX4_isValid_0 20 rfl rfl)
theorem dX4_isValid_21 : decode cX4_isValid 21 = .ok (.iinc 4 1, 3) := dk_132 4 1 (dk_at dksX4_isValid_0 21 rfl rfl)
theorem dX4_isValid_24 : decode cX4_isValid 24 = .ok (.goto (-14), 3) := dk_167 255 242 (dk_at dksX4_isValid_1 0 rfl rfl)
theorem dX4_isValid_27 : decode cX4_isValid 27 = .ok (.iconst 0, 1) := dk_3 (dk_at dksX4_isValid_1 3 rfl rfl)
theorem dX4_isValid_28 : decode cX4_isValid 28 = .ok (.istore 4, 2) := dk_54 4 (dk_at dksX4_isValid_1 4 rfl rfl)
theorem dX4_isValid_30 : decode cX4_isValid 30 = .ok (.iload 4, 2) := dk_21 4 (dk_at dksX4_isValid_1 6 rfl rfl)
theorem dX4_isValid_32 : decode cX4_isValid 32 = .ok (.aload_n 0, 1) := dk_42 (dk_at dksX4_isValid_1 8 rfl rfl)
theorem dX4_isValid_33 : decode cX4_isValid 33 = .ok (.getfield 211, 3) := dk_180 0 211 (dk_at dksX4_isValid_1 9 rfl rfl)
theorem dX4_isValid_36 : decode cX4_isValid 36 = .ok (.if_icmp .ge 93, 3) := dk_162 0 93 (dk_at dksX4_isValid_1 12 rfl rfl)
theorem dX4_isValid_39 : decode cX4_isValid 39 = .ok (.aload_n 0, 1) := dk_42 (dk_at dksX4_isValid_1 15 rfl rfl)
theorem dX4_isValid_40 : decode cX4_isValid 40 = .ok (.getfield 63, 3) := dk_180 0 63 (dk_at dksX4_isValid_1 16 rfl rfl)
theorem dX4_isValid_43 : decode cX4_isValid 43 = .ok (.iload 4, 2) := dk_21 4 (dk_at dksX4_isValid_1 19 rfl rfl)
theorem dX4_isValid_45 : decode cX4_isValid 45 = .ok (.iaload, 1) := dk_46 (dk_at dksX4_isValid_1 21 rfl rfl)
theorem dX4_isValid_46 : decode cX4_isValid 46 = .ok (.iload_n 1, 1) := dk_27 (dk_at dksX4_isValid_1 22 rfl rfl)
theorem dX4_isValid_47 : decode cX4_isValid 47 = .ok (.if_icmp .ne 76, 3) := dk_160 0 76 (dk_at dksX4_isValid_2 0 rfl rfl)
theorem dX4_isValid_50 : decode cX4_isValid 50 = .ok (.aload_n 0, 1) := dk_42 (dk_at dksX4_isValid_2 3 rfl rfl)
theorem dX4_isValid_51 : decode cX4_isValid 51 = .ok (.iload 4, 2) := dk_21 4 (dk_at dksX4_isValid_2 4 rfl rfl)
theorem dX4_isValid_53 : decode cX4_isValid 53 = .ok (.aload_n 0, 1) := dk_42 (dk_at dksX4_isValid_2 6 rfl rfl)
theorem dX4_isValid_54 : decode cX4_isValid 54 = .ok (.getfield 82, 3) := dk_180 0 82 (dk_at dksX4_isValid_2 7 rfl rfl)
theorem dX4_isValid_57 : decode cX4_isValid 57 = .ok (.aload_n 0, 1) := dk_42 (dk_at dksX4_isValid_2 10 rfl rfl)
theorem dX4_isValid_58 : decode cX4_isValid 58 = .ok (.iload 4, 2) := dk_21 4 (dk_at dksX4_isValid_2 11 rfl rfl)
theorem dX4_isValid_60 : decode cX4_isValid 60 = .ok (.invokevirtual 191, 3) := dk_182 0 191 (dk_at dksX4_isValid_2 13 rfl rfl)
theorem dX4_isValid_63 : decode cX4_isValid 63 = .ok (.iaload, 1) := dk_46 (dk_at dksX4_isValid_2 16 rfl rfl)
theorem dX4_isValid_64 : decode cX4_isValid 64 = .ok (.iconst 1, 1) := dk_4 (dk_at dksX4_isValid_2 17 rfl rfl)
theorem dX4_isValid_65 : decode cX4_isValid 65 = .ok (.isub, 1) := dk_100 (dk_at dksX4_isValid_2 18 rfl rfl)
theorem dX4_isValid_66 : decode cX4_isValid 66 = .ok (.aload_n 0, 1) := dk_42 (dk_at dksX4_isValid_2 19 rfl rfl)
theorem dX4_isValid_67 : decode cX4_isValid 67 = .ok (.getfield 82, 3) := dk_180 0 82 (dk_at dksX4_isValid_2 20 rfl rfl)
theorem dX4_isValid_70 : decode cX4_isValid 70 = .ok (.aload_n 0, 1) := dk_42 (dk_at dksX4_isValid_2 23 rfl rfl)
theorem dX4_isValid_71 : decode cX4_isValid 71 = .ok (.iload 4, 2) := dk_21 4 (dk_at dksX4_isValid_3 0 rfl rfl)
theorem dX4_isValid_73 : decode cX4_isValid 73 = .ok (.invokevirtual 194, 3) := dk_182 0 194 (dk_at dksX4_isValid_3 2 rfl rfl)
theorem dX4_isValid_76 : decode cX4_isValid 76 = .ok (.iaload, 1) := dk_46 (dk_at dksX4_isValid_3 5 rfl rfl)
theorem dX4_isValid_77 : decode cX4_isValid 77 = .ok (.iconst 1, 1) := dk_4 (dk_at dksX4_isValid_3 6 rfl rfl)
theorem dX4_isValid_78 : decode cX4_isValid 78 = .ok (.isub, 1) := dk_100 (dk_at dksX4_isValid_3 7 rfl rfl)
theorem dX4_isValid_79 : decode cX4_isValid 79 = .ok (.invokevirtual 229, 3) := dk_182 0 229 (dk_at dksX4_isValid_3 8 rfl rfl)
theorem dX4_isValid_82 : decode cX4_isValid 82 = .ok (.istore 5, 2) := dk_54 5 (dk_at dksX4_isValid_3 11 rfl rfl)
theorem dX4_isValid_84 : decode cX4_isValid 84 = .ok (.iload 5, 2) := dk_21 5 (dk_at dksX4_isValid_3 13 rfl rfl)
theorem dX4_isValid_86 : decode cX4_isValid 86 = .ok (.ifCond .ne 5, 3) := dk_154 0 5 (dk_at dksX4_isValid_3 15 rfl rfl)
theorem dX4_isValid_89 : decode cX4_isValid 89 = .ok (.iconst 0, 1) := dk_3 (dk_at dksX4_isValid_3 18 rfl rfl)
theorem dX4_isValid_90 : decode cX4_isValid 90 = .ok (.ireturn, 1) := dk_172 (dk_at dksX4_isValid_3 19 rfl rfl)
theorem dX4_isValid_91 : decode cX4_isValid 91 = .ok (.iload_n 2, 1) := dk_28 (dk_at dksX4_isValid_3 20 rfl rfl)
theorem dX4_isValid_92 : decode cX4_isValid 92 = .ok (.iload 5, 2) := dk_21 5 (dk_at dksX4_isValid_3 21 rfl rfl)
theorem dX4_isValid_94 : decode cX4_isValid 94 = .ok (.iconst 2, 1) := dk_5 (dk_at dksX4_isValid_3 23 rfl rfl)
theorem dX4_isValid_95 : decode cX4_isValid 95 = .ok (.if_icmp .ne 7, 3) := dk_160 0 7 (dk_at dksX4_isValid_4 0 rfl rfl)
theorem dX4_isValid_98 : decode cX4_isValid 98 = .ok (.iconst 1, 1) := dk_4 (dk_at dksX4_isValid_4 3 rfl rfl)
theorem dX4_isValid_99 : decode cX4_isValid 99 = .ok (.goto 4, 3) := dk_167 0 4 (dk_at dksX4_isValid_4 4 rfl rfl)
theorem dX4_isValid_102 : decode cX4_isValid 102 = .ok (.iconst 0, 1) := dk_3 (dk_at dksX4_isValid_4 7 rfl rfl)
theorem dX4_isValid_103 : decode cX4_isValid 103 = .ok (.ior, 1) := dk_128 (dk_at dksX4_isValid_4 8 rfl rfl)
theorem dX4_isValid_104 : decode cX4_isValid 104 = .ok (.istore_n 2, 1) := dk_61 (dk_at dksX4_isValid_4 9 rfl rfl)
theorem dX4_isValid_105 : decode cX4_isValid 105 = .ok (.aload_n 3, 1) := dk_45 (dk_at dksX4_isValid_4 10 rfl rfl)
theorem dX4_isValid_106 : decode cX4_isValid 106 = .ok (.aload_n 0, 1) := dk_42 (dk_at dksX4_isValid_4 11 rfl rfl)
theorem dX4_isValid_107 : decode cX4_isValid 107 = .ok (.iload 4, 2) := dk_21 4 (dk_at dksX4_isValid_4 12 rfl rfl)
theorem dX4_isValid_109 : decode cX4_isValid 109 = .ok (.invokevirtual 191, 3) := dk_182 0 191 (dk_at dksX4_isValid_4 14 rfl rfl)
theorem dX4_isValid_112 : decode cX4_isValid 112 = .ok (.iconst 1, 1) := dk_4 (dk_at dksX4_isValid_4 17 rfl rfl)
theorem dX4_isValid_113 : decode cX4_isValid 113 = .ok (.bastore, 1) := dk_84 (dk_at dksX4_isValid_4 18 rfl rfl)
theorem dX4_isValid_114 : decode cX4_isValid 114 = .ok (.aload_n 3, 1) := dk_45 (dk_at dksX4_isValid_4 19 rfl rfl)
theorem dX4_isValid_115 : decode cX4_isValid 115 = .ok (.aload_n 0, 1) := dk_42 (dk_at dksX4_isValid_4 20 rfl rfl)
theorem dX4_isValid_116 : decode cX4_isValid 116 = .ok (.iload 4, 2) := dk_21 4 (dk_at dksX4_isValid_4 21 rfl rfl)
theorem dX4_isValid_118 : decode cX4_isValid 118 = .ok (.invokevirtual 194, 3) := dk_182 0 194 (dk_at dksX4_isValid_5 0 rfl rfl)
theorem dX4_isValid_121 : decode cX4_isValid 121 = .ok (.iconst 1, 1) := dk_4 (dk_at dksX4_isValid_5 3 rfl rfl)
theorem dX4_isValid_122 : decode cX4_isValid 122 = .ok (.bastore, 1) := dk_84 (dk_at dksX4_isValid_5 4 rfl rfl)
theorem dX4_isValid_123 : decode cX4_isValid 123 = .ok (.iinc 4 1, 3) := dk_132 4 1 (dk_at dksX4_isValid_5 5 rfl rfl)
theorem dX4_isValid_126 : decode cX4_isValid 126 = .ok (.goto (-96), 3) := dk_167 255 160 (dk_at dksX4_isValid_5 8 rfl rfl)
theorem dX4_isValid_129 : decode cX4_isValid 129 = .ok (.iload_n 2, 1) := dk_28 (dk_at dksX4_isValid_5 11 rfl rfl)
theorem dX4_isValid_130 : decode cX4_isValid 130 = .ok (.istore 4, 2) := dk_54 4 (dk_at dksX4_isValid_5 12 rfl rfl)
theorem dX4_isValid_132 : decode cX4_isValid 132 = .ok (.iconst 0, 1) := dk_3 (dk_at dksX4_isValid_5 14 rfl rfl)
theorem dX4_isValid_133 : decode cX4_isValid 133 = .ok (.istore 5, 2) := dk_54 5 (dk_at dksX4_isValid_5 15 rfl rfl)
theorem dX4_isValid_135 : decode cX4_isValid 135 = .ok (.iload 5, 2) := dk_21 5 (dk_at dksX4_isValid_5 17 rfl rfl)
theorem dX4_isValid_137 : decode cX4_isValid 137 = .ok (.iconst 3, 1) := dk_6 (dk_at dksX4_isValid_5 19 rfl rfl)
theorem dX4_isValid_138 : decode cX4_isValid 138 = .ok (.if_icmp .ge 37, 3) := dk_162 0 37 (dk_at dksX4_isValid_5 20 rfl rfl)
theorem dX4_isValid_141 : decode cX4_isValid 141 = .ok (.iload 4, 2) := dk_21 4 (dk_at dksX4_isValid_6 0 rfl rfl)
theorem dX4_isValid_143 : decode cX4_isValid 143 = .ok (.aload_n 3, 1) := dk_45 (dk_at dksX4_isValid_6 2 rfl rfl)
theorem dX4_isValid_144 : decode cX4_isValid 144 = .ok (.iload 5, 2) := dk_21 5 (dk_at dksX4_isValid_6 3 rfl rfl)
theorem dX4_isValid_146 : decode cX4_isValid 146 = .ok (.baload, 1) := dk_51 (dk_at dksX4_isValid_6 5 rfl rfl)
theorem dX4_isValid_147 : decode cX4_isValid 147 = .ok (.ifCond .ne 14, 3) := dk_154 0 14 (dk_at dksX4_isValid_6 6 rfl rfl)
theorem dX4_isValid_150 : decode cX4_isValid 150 = .ok (.aload_n 0, 1) := dk_42 (dk_at dksX4_isValid_6 9 rfl rfl)
theorem dX4_isValid_151 : decode cX4_isValid 151 = .ok (.getfield 82, 3) := dk_180 0 82 (dk_at dksX4_isValid_6 10 rfl rfl)
theorem dX4_isValid_154 : decode cX4_isValid 154 = .ok (.iload 5, 2) := dk_21 5 (dk_at dksX4_isValid_6 13 rfl rfl)
theorem dX4_isValid_156 : decode cX4_isValid 156 = .ok (.iaload, 1) := dk_46 (dk_at dksX4_isValid_6 15 rfl rfl)
theorem dX4_isValid_157 : decode cX4_isValid 157 = .ok (.iconst 1, 1) := dk_4 (dk_at dksX4_isValid_6 16 rfl rfl)
theorem dX4_isValid_158 : decode cX4_isValid 158 = .ok (.if_icmp .ne 7, 3) := dk_160 0 7 (dk_at dksX4_isValid_6 17 rfl rfl)
theorem dX4_isValid_161 : decode cX4_isValid 161 = .ok (.iconst 1, 1) := dk_4 (dk_at dksX4_isValid_6 20 rfl rfl)
theorem dX4_isValid_162 : decode cX4_isValid 162 = .ok (.goto 4, 3) := dk_167 0 4 (dk_at dksX4_isValid_6 21 rfl rfl)
theorem dX4_isValid_165 : decode cX4_isValid 165 = .ok (.iconst 0, 1) := dk_3 (dk_at dksX4_isValid_7 0 rfl rfl)
theorem dX4_isValid_166 : decode cX4_isValid 166 = .ok (.iand, 1) := dk_126 (dk_at dksX4_isValid_7 1 rfl rfl)
theorem dX4_isValid_167 : decode cX4_isValid 167 = .ok (.istore 4, 2) := dk_54 4 (dk_at dksX4_isValid_7 2 rfl rfl)
theorem dX4_isValid_169 : decode cX4_isValid 169 = .ok (.iinc 5 1, 3) := dk_132 5 1 (dk_at dksX4_isValid_7 4 rfl rfl)
theorem dX4_isValid_172 : decode cX4_isValid 172 = .ok (.goto (-37), 3) := dk_167 255 219 (dk_at dksX4_isValid_7 7 rfl rfl)
theorem dX4_isValid_175 : decode cX4_isValid 175 = .ok (.iload 4, 2) := dk_21 4 (dk_at dksX4_isValid_7 10 rfl rfl)
theorem dX4_isValid_177 : decode cX4_isValid 177 = .ok (.ireturn, 1) := dk_172 (dk_at dksX4_isValid_7 12 rfl rfl)
abbrev cX4_eliminationRounds : ByteArray := prog_10_method_69_code
def yX4_eliminationRounds : MethodName := ⟨RX4, "eliminationRounds", "()I"⟩
theorem dX4_eliminationRounds_0 : decode cX4_eliminationRounds 0 = .ok (.aload_n 0, 1) := by decide +kernel
theorem dX4_eliminationRounds_1 : decode cX4_eliminationRounds 1 = .ok (.invokevirtual 268, 3) := by decide +kernel
theorem dX4_eliminationRounds_4 : decode cX4_eliminationRounds 4 = .ok (.ireturn, 1) := by decide +kernel
abbrev cX4_eliminate : ByteArray := prog_10_method_68_code
def yX4_eliminate : MethodName := ⟨RX4, "eliminate", "()I"⟩
def dkwX4_eliminate_8 : List UInt8 := [132, 3, 1, 167, 255, 222, 27, 28, 153, 0, 7, 4, 167, 0, 4, 3, 96, 60, 167, 255, 66, 27, 172]
abbrev dktX4_eliminate_8 : List UInt8 := dkwX4_eliminate_8 ++ []
def dkwX4_eliminate_7 : List UInt8 := [180, 0, 59, 29, 92, 51, 42, 180, 0, 88, 29, 51, 154, 0, 7, 4, 167, 0, 4, 3, 126, 84]
abbrev dktX4_eliminate_7 : List UInt8 := dkwX4_eliminate_7 ++ dktX4_eliminate_8
def dkwX4_eliminate_6 : List UInt8 := [132, 4, 1, 167, 255, 182, 132, 3, 1, 167, 255, 155, 3, 62, 29, 42, 180, 0, 211, 162, 0, 32, 42]
abbrev dktX4_eliminate_6 : List UInt8 := dkwX4_eliminate_6 ++ dktX4_eliminate_7
def dkwX4_eliminate_5 : List UInt8 := [21, 4, 182, 0, 194, 46, 4, 100, 182, 0, 229, 5, 160, 0, 7, 4, 167, 0, 4, 3, 128, 84]
abbrev dktX4_eliminate_5 : List UInt8 := dkwX4_eliminate_5 ++ dktX4_eliminate_6
def dkwX4_eliminate_4 : List UInt8 := [160, 0, 43, 42, 21, 4, 42, 180, 0, 82, 42, 21, 4, 182, 0, 191, 46, 4, 100, 42, 180, 0, 82, 42]
abbrev dktX4_eliminate_4 : List UInt8 := dkwX4_eliminate_4 ++ dktX4_eliminate_5
def dkwX4_eliminate_3 : List UInt8 := [180, 0, 211, 162, 0, 71, 42, 180, 0, 88, 21, 4, 92, 51, 42, 180, 0, 63, 21, 4, 46, 29]
abbrev dktX4_eliminate_3 : List UInt8 := dkwX4_eliminate_3 ++ dktX4_eliminate_4
def dkwX4_eliminate_2 : List UInt8 := [180, 0, 220, 162, 0, 99, 42, 29, 182, 1, 9, 155, 0, 85, 4, 61, 3, 54, 4, 21, 4, 42]
abbrev dktX4_eliminate_2 : List UInt8 := dkwX4_eliminate_2 ++ dktX4_eliminate_3
def dkwX4_eliminate_1 : List UInt8 := [180, 0, 211, 162, 0, 16, 42, 180, 0, 88, 29, 3, 84, 132, 3, 1, 167, 255, 238, 3, 62, 29, 42]
abbrev dktX4_eliminate_1 : List UInt8 := dkwX4_eliminate_1 ++ dktX4_eliminate_2
def dkwX4_eliminate_0 : List UInt8 := [42, 182, 0, 223, 3, 60, 4, 61, 28, 153, 0, 192, 42, 182, 0, 226, 3, 61, 3, 62, 29, 42]
abbrev dktX4_eliminate_0 : List UInt8 := dkwX4_eliminate_0 ++ dktX4_eliminate_1
theorem dksX4_eliminate_0 : cX4_eliminate.data.toList.drop 0 = dktX4_eliminate_0 := by decide +kernel
theorem dksX4_eliminate_1 : cX4_eliminate.data.toList.drop 22 = dktX4_eliminate_1 := dk_seg dksX4_eliminate_0 22 rfl rfl
theorem dksX4_eliminate_2 : cX4_eliminate.data.toList.drop 45 = dktX4_eliminate_2 := dk_seg dksX4_eliminate_1 23 rfl rfl
theorem dksX4_eliminate_3 : cX4_eliminate.data.toList.drop 67 = dktX4_eliminate_3 := dk_seg dksX4_eliminate_2 22 rfl rfl
theorem dksX4_eliminate_4 : cX4_eliminate.data.toList.drop 89 = dktX4_eliminate_4 := dk_seg dksX4_eliminate_3 22 rfl rfl
theorem dksX4_eliminate_5 : cX4_eliminate.data.toList.drop 113 = dktX4_eliminate_5 := dk_seg dksX4_eliminate_4 24 rfl rfl
theorem dksX4_eliminate_6 : cX4_eliminate.data.toList.drop 135 = dktX4_eliminate_6 := dk_seg dksX4_eliminate_5 22 rfl rfl
theorem dksX4_eliminate_7 : cX4_eliminate.data.toList.drop 158 = dktX4_eliminate_7 := dk_seg dksX4_eliminate_6 23 rfl rfl
theorem dksX4_eliminate_8 : cX4_eliminate.data.toList.drop 180 = dktX4_eliminate_8 := dk_seg dksX4_eliminate_7 22 rfl rfl
theorem dX4_eliminate_0 : decode cX4_eliminate 0 = .ok (.aload_n 0, 1) := dk_42 (dk_at dksX4_eliminate_0 0 rfl rfl)
theorem dX4_eliminate_1 : decode cX4_eliminate 1 = .ok (.invokevirtual 223, 3) := dk_182 0 223 (dk_at dksX4_eliminate_0 1 rfl rfl)
theorem dX4_eliminate_4 : decode cX4_eliminate 4 = .ok (.iconst 0, 1) := dk_3 (dk_at dksX4_eliminate_0 4 rfl rfl)
theorem dX4_eliminate_5 : decode cX4_eliminate 5 = .ok (.istore_n 1, 1) := dk_60 (dk_at dksX4_eliminate_0 5 rfl rfl)
theorem dX4_eliminate_6 : decode cX4_eliminate 6 = .ok (.iconst 1, 1) := dk_4 (dk_at dksX4_eliminate_0 6 rfl rfl)
theorem dX4_eliminate_7 : decode cX4_eliminate 7 = .ok (.istore_n 2, 1) := dk_61 (dk_at dksX4_eliminate_0 7 rfl rfl)
theorem dX4_eliminate_8 : decode cX4_eliminate 8 = .ok (.iload_n 2, 1) := dk_28 (dk_at dksX4_eliminate_0 8 rfl rfl)
theorem dX4_eliminate_9 : decode cX4_eliminate 9 = .ok (.ifCond .eq 192, 3) := dk_153 0 192 (dk_at dksX4_eliminate_0 9 rfl rfl)
theorem dX4_eliminate_12 : decode cX4_eliminate 12 = .ok (.aload_n 0, 1) := dk_42 (dk_at dksX4_eliminate_0 12 rfl rfl)
theorem dX4_eliminate_13 : decode cX4_eliminate 13 = .ok (.invokevirtual 226, 3) := dk_182 0 226 (dk_at dksX4_eliminate_0 13 rfl rfl)
theorem dX4_eliminate_16 : decode cX4_eliminate 16 = .ok (.iconst 0, 1) := dk_3 (dk_at dksX4_eliminate_0 16 rfl rfl)
theorem dX4_eliminate_17 : decode cX4_eliminate 17 = .ok (.istore_n 2, 1) := dk_61 (dk_at dksX4_eliminate_0 17 rfl rfl)
theorem dX4_eliminate_18 : decode cX4_eliminate 18 = .ok (.iconst 0, 1) := dk_3 (dk_at dksX4_eliminate_0 18 rfl rfl)
theorem dX4_eliminate_19 : decode cX4_eliminate 19 = .ok (.istore_n 3, 1) := dk_62 (dk_at dksX4_eliminate_0 19 rfl rfl)
theorem dX4_eliminate_20 : decode cX4_eliminate 20 = .ok (.iload_n 3, 1) := dk_29 (dk_at dksX4_eliminate_0 20 rfl rfl)
theorem dX4_eliminate_21 : decode cX4_eliminate 21 = .ok (.aload_n 0, 1) := dk_42 (dk_at dksX4_eliminate_0 21 rfl rfl)
theorem dX4_eliminate_22 : decode cX4_eliminate 22 = .ok (.getfield 211, 3) := dk_180 0 211 (dk_at dksX4_eliminate_1 0 rfl rfl)
theorem dX4_eliminate_25 : decode cX4_eliminate 25 = .ok (.if_icmp .ge 16, 3) := dk_162 0 16 (dk_at dksX4_eliminate_1 3 rfl rfl)
theorem dX4_eliminate_28 : decode cX4_eliminate 28 = .ok (.aload_n 0, 1) := dk_42 (dk_at dksX4_eliminate_1 6 rfl rfl)
theorem dX4_eliminate_29 : decode cX4_eliminate 29 = .ok (.getfield 88, 3) := dk_180 0 88 (dk_at dksX4_eliminate_1 7 rfl rfl)
theorem dX4_eliminate_32 : decode cX4_eliminate 32 = .ok (.iload_n 3, 1) := dk_29 (dk_at dksX4_eliminate_1 10 rfl rfl)
theorem dX4_eliminate_33 : decode cX4_eliminate 33 = .ok (.iconst 0, 1) := dk_3 (dk_at dksX4_eliminate_1 11 rfl rfl)
theorem dX4_eliminate_34 : decode cX4_eliminate 34 = .ok (.bastore, 1) := dk_84 (dk_at dksX4_eliminate_1 12 rfl rfl)
theorem dX4_eliminate_35 : decode cX4_eliminate 35 = .ok (.iinc 3 1, 3) := dk_132 3 1 (dk_at dksX4_eliminate_1 13 rfl rfl)
theorem dX4_eliminate_38 : decode cX4_eliminate 38 = .ok (.goto (-18), 3) := dk_167 255 238 (dk_at dksX4_eliminate_1 16 rfl rfl)
theorem dX4_eliminate_41 : decode cX4_eliminate 41 = .ok (.iconst 0, 1) := dk_3 (dk_at dksX4_eliminate_1 19 rfl rfl)
theorem dX4_eliminate_42 : decode cX4_eliminate 42 = .ok (.istore_n 3, 1) := dk_62 (dk_at dksX4_eliminate_1 20 rfl rfl)
theorem dX4_eliminate_43 : decode cX4_eliminate 43 = .ok (.iload_n 3, 1) := dk_29 (dk_at dksX4_eliminate_1 21 rfl rfl)
theorem dX4_eliminate_44 : decode cX4_eliminate 44 = .ok (.aload_n 0, 1) := dk_42 (dk_at dksX4_eliminate_1 22 rfl rfl)
theorem dX4_eliminate_45 : decode cX4_eliminate 45 = .ok (.getfield 220, 3) := dk_180 0 220 (dk_at dksX4_eliminate_2 0 rfl rfl)
theorem dX4_eliminate_48 : decode cX4_eliminate 48 = .ok (.if_icmp .ge 99, 3) := dk_162 0 99 (dk_at dksX4_eliminate_2 3 rfl rfl)
theorem dX4_eliminate_51 : decode cX4_eliminate 51 = .ok (.aload_n 0, 1) := dk_42 (dk_at dksX4_eliminate_2 6 rfl rfl)
theorem dX4_eliminate_52 : decode cX4_eliminate 52 = .ok (.iload_n 3, 1) := dk_29 (dk_at dksX4_eliminate_2 7 rfl rfl)
theorem dX4_eliminate_53 : decode cX4_eliminate 53 = .ok (.invokevirtual 265, 3) := dk_182 1 9 (dk_at dksX4_eliminate_2 8 rfl rfl)
theorem dX4_eliminate_56 : decode cX4_eliminate 56 = .ok (.ifCond .lt 85, 3) := dk_155 0 85 (dk_at dksX4_eliminate_2 11 rfl rfl)
theorem dX4_eliminate_59 : decode cX4_eliminate 59 = .ok (.iconst 1, 1) := dk_4 (dk_at dksX4_eliminate_2 14 rfl rfl)
theorem dX4_eliminate_60 : decode cX4_eliminate 60 = .ok (.istore_n 2, 1) := dk_61 (dk_at dksX4_eliminate_2 15 rfl rfl)
theorem dX4_eliminate_61 : decode cX4_eliminate 61 = .ok (.iconst 0, 1) := dk_3 (dk_at dksX4_eliminate_2 16 rfl rfl)
theorem dX4_eliminate_62 : decode cX4_eliminate 62 = .ok (.istore 4, 2) := dk_54 4 (dk_at dksX4_eliminate_2 17 rfl rfl)
theorem dX4_eliminate_64 : decode cX4_eliminate 64 = .ok (.iload 4, 2) := dk_21 4 (dk_at dksX4_eliminate_2 19 rfl rfl)
theorem dX4_eliminate_66 : decode cX4_eliminate 66 = .ok (.aload_n 0, 1) := dk_42 (dk_at dksX4_eliminate_2 21 rfl rfl)
theorem dX4_eliminate_67 : decode cX4_eliminate 67 = .ok (.getfield 211, 3) := dk_180 0 211 (dk_at dksX4_eliminate_3 0 rfl rfl)
theorem dX4_eliminate_70 : decode cX4_eliminate 70 = .ok (.if_icmp .ge 71, 3) := dk_162 0 71 (dk_at dksX4_eliminate_3 3 rfl rfl)
theorem dX4_eliminate_73 : decode cX4_eliminate 73 = .ok (.aload_n 0, 1) := dk_42 (dk_at dksX4_eliminate_3 6 rfl rfl)
theorem dX4_eliminate_74 : decode cX4_eliminate 74 = .ok (.getfield 88, 3) := dk_180 0 88 (dk_at dksX4_eliminate_3 7 rfl rfl)
theorem dX4_eliminate_77 : decode cX4_eliminate 77 = .ok (.iload 4, 2) := dk_21 4 (dk_at dksX4_eliminate_3 10 rfl rfl)
theorem dX4_eliminate_79 : decode cX4_eliminate 79 = .ok (.dup2, 1) := dk_92 (dk_at dksX4_eliminate_3 12 rfl rfl)
theorem dX4_eliminate_80 : decode cX4_eliminate 80 = .ok (.baload, 1) := dk_51 (dk_at dksX4_eliminate_3 13 rfl rfl)
theorem dX4_eliminate_81 : decode cX4_eliminate 81 = .ok (.aload_n 0, 1) := dk_42 (dk_at dksX4_eliminate_3 14 rfl rfl)
theorem dX4_eliminate_82 : decode cX4_eliminate 82 = .ok (.getfield 63, 3) := dk_180 0 63 (dk_at dksX4_eliminate_3 15 rfl rfl)
theorem dX4_eliminate_85 : decode cX4_eliminate 85 = .ok (.iload 4, 2) := dk_21 4 (dk_at dksX4_eliminate_3 18 rfl rfl)
theorem dX4_eliminate_87 : decode cX4_eliminate 87 = .ok (.iaload, 1) := dk_46 (dk_at dksX4_eliminate_3 20 rfl rfl)
theorem dX4_eliminate_88 : decode cX4_eliminate 88 = .ok (.iload_n 3, 1) := dk_29 (dk_at dksX4_eliminate_3 21 rfl rfl)
theorem dX4_eliminate_89 : decode cX4_eliminate 89 = .ok (.if_icmp .ne 43, 3) := dk_160 0 43 (dk_at dksX4_eliminate_4 0 rfl rfl)
theorem dX4_eliminate_92 : decode cX4_eliminate 92 = .ok (.aload_n 0, 1) := dk_42 (dk_at dksX4_eliminate_4 3 rfl rfl)
theorem dX4_eliminate_93 : decode cX4_eliminate 93 = .ok (.iload 4, 2) := dk_21 4 (dk_at dksX4_eliminate_4 4 rfl rfl)
theorem dX4_eliminate_95 : decode cX4_eliminate 95 = .ok (.aload_n 0, 1) := dk_42 (dk_at dksX4_eliminate_4 6 rfl rfl)
theorem dX4_eliminate_96 : decode cX4_eliminate 96 = .ok (.getfield 82, 3) := dk_180 0 82 (dk_at dksX4_eliminate_4 7 rfl rfl)
theorem dX4_eliminate_99 : decode cX4_eliminate 99 = .ok (.aload_n 0, 1) := dk_42 (dk_at dksX4_eliminate_4 10 rfl rfl)
theorem dX4_eliminate_100 : decode cX4_eliminate 100 = .ok (.iload 4, 2) := dk_21 4 (dk_at dksX4_eliminate_4 11 rfl rfl)
theorem dX4_eliminate_102 : decode cX4_eliminate 102 = .ok (.invokevirtual 191, 3) := dk_182 0 191 (dk_at dksX4_eliminate_4 13 rfl rfl)
theorem dX4_eliminate_105 : decode cX4_eliminate 105 = .ok (.iaload, 1) := dk_46 (dk_at dksX4_eliminate_4 16 rfl rfl)
theorem dX4_eliminate_106 : decode cX4_eliminate 106 = .ok (.iconst 1, 1) := dk_4 (dk_at dksX4_eliminate_4 17 rfl rfl)
theorem dX4_eliminate_107 : decode cX4_eliminate 107 = .ok (.isub, 1) := dk_100 (dk_at dksX4_eliminate_4 18 rfl rfl)
theorem dX4_eliminate_108 : decode cX4_eliminate 108 = .ok (.aload_n 0, 1) := dk_42 (dk_at dksX4_eliminate_4 19 rfl rfl)
theorem dX4_eliminate_109 : decode cX4_eliminate 109 = .ok (.getfield 82, 3) := dk_180 0 82 (dk_at dksX4_eliminate_4 20 rfl rfl)
theorem dX4_eliminate_112 : decode cX4_eliminate 112 = .ok (.aload_n 0, 1) := dk_42 (dk_at dksX4_eliminate_4 23 rfl rfl)
theorem dX4_eliminate_113 : decode cX4_eliminate 113 = .ok (.iload 4, 2) := dk_21 4 (dk_at dksX4_eliminate_5 0 rfl rfl)
theorem dX4_eliminate_115 : decode cX4_eliminate 115 = .ok (.invokevirtual 194, 3) := dk_182 0 194 (dk_at dksX4_eliminate_5 2 rfl rfl)
theorem dX4_eliminate_118 : decode cX4_eliminate 118 = .ok (.iaload, 1) := dk_46 (dk_at dksX4_eliminate_5 5 rfl rfl)
theorem dX4_eliminate_119 : decode cX4_eliminate 119 = .ok (.iconst 1, 1) := dk_4 (dk_at dksX4_eliminate_5 6 rfl rfl)
theorem dX4_eliminate_120 : decode cX4_eliminate 120 = .ok (.isub, 1) := dk_100 (dk_at dksX4_eliminate_5 7 rfl rfl)
theorem dX4_eliminate_121 : decode cX4_eliminate 121 = .ok (.invokevirtual 229, 3) := dk_182 0 229 (dk_at dksX4_eliminate_5 8 rfl rfl)
theorem dX4_eliminate_124 : decode cX4_eliminate 124 = .ok (.iconst 2, 1) := dk_5 (dk_at dksX4_eliminate_5 11 rfl rfl)
theorem dX4_eliminate_125 : decode cX4_eliminate 125 = .ok (.if_icmp .ne 7, 3) := dk_160 0 7 (dk_at dksX4_eliminate_5 12 rfl rfl)
theorem dX4_eliminate_128 : decode cX4_eliminate 128 = .ok (.iconst 1, 1) := dk_4 (dk_at dksX4_eliminate_5 15 rfl rfl)
theorem dX4_eliminate_129 : decode cX4_eliminate 129 = .ok (.goto 4, 3) := dk_167 0 4 (dk_at dksX4_eliminate_5 16 rfl rfl)
theorem dX4_eliminate_132 : decode cX4_eliminate 132 = .ok (.iconst 0, 1) := dk_3 (dk_at dksX4_eliminate_5 19 rfl rfl)
theorem dX4_eliminate_133 : decode cX4_eliminate 133 = .ok (.ior, 1) := dk_128 (dk_at dksX4_eliminate_5 20 rfl rfl)
theorem dX4_eliminate_134 : decode cX4_eliminate 134 = .ok (.bastore, 1) := dk_84 (dk_at dksX4_eliminate_5 21 rfl rfl)
theorem dX4_eliminate_135 : decode cX4_eliminate 135 = .ok (.iinc 4 1, 3) := dk_132 4 1 (dk_at dksX4_eliminate_6 0 rfl rfl)
theorem dX4_eliminate_138 : decode cX4_eliminate 138 = .ok (.goto (-74), 3) := dk_167 255 182 (dk_at dksX4_eliminate_6 3 rfl rfl)
theorem dX4_eliminate_141 : decode cX4_eliminate 141 = .ok (.iinc 3 1, 3) := dk_132 3 1 (dk_at dksX4_eliminate_6 6 rfl rfl)
theorem dX4_eliminate_144 : decode cX4_eliminate 144 = .ok (.goto (-101), 3) := dk_167 255 155 (dk_at dksX4_eliminate_6 9 rfl rfl)
theorem dX4_eliminate_147 : decode cX4_eliminate 147 = .ok (.iconst 0, 1) := dk_3 (dk_at dksX4_eliminate_6 12 rfl rfl)
theorem dX4_eliminate_148 : decode cX4_eliminate 148 = .ok (.istore_n 3, 1) := dk_62 (dk_at dksX4_eliminate_6 13 rfl rfl)
theorem dX4_eliminate_149 : decode cX4_eliminate 149 = .ok (.iload_n 3, 1) := dk_29 (dk_at dksX4_eliminate_6 14 rfl rfl)
theorem dX4_eliminate_150 : decode cX4_eliminate 150 = .ok (.aload_n 0, 1) := dk_42 (dk_at dksX4_eliminate_6 15 rfl rfl)
theorem dX4_eliminate_151 : decode cX4_eliminate 151 = .ok (.getfield 211, 3) := dk_180 0 211 (dk_at dksX4_eliminate_6 16 rfl rfl)
theorem dX4_eliminate_154 : decode cX4_eliminate 154 = .ok (.if_icmp .ge 32, 3) := dk_162 0 32 (dk_at dksX4_eliminate_6 19 rfl rfl)
theorem dX4_eliminate_157 : decode cX4_eliminate 157 = .ok (.aload_n 0, 1) := dk_42 (dk_at dksX4_eliminate_6 22 rfl rfl)
theorem dX4_eliminate_158 : decode cX4_eliminate 158 = .ok (.getfield 59, 3) := dk_180 0 59 (dk_at dksX4_eliminate_7 0 rfl rfl)
theorem dX4_eliminate_161 : decode cX4_eliminate 161 = .ok (.iload_n 3, 1) := dk_29 (dk_at dksX4_eliminate_7 3 rfl rfl)
theorem dX4_eliminate_162 : decode cX4_eliminate 162 = .ok (.dup2, 1) := dk_92 (dk_at dksX4_eliminate_7 4 rfl rfl)
theorem dX4_eliminate_163 : decode cX4_eliminate 163 = .ok (.baload, 1) := dk_51 (dk_at dksX4_eliminate_7 5 rfl rfl)
theorem dX4_eliminate_164 : decode cX4_eliminate 164 = .ok (.aload_n 0, 1) := dk_42 (dk_at dksX4_eliminate_7 6 rfl rfl)
theorem dX4_eliminate_165 : decode cX4_eliminate 165 = .ok (.getfield 88, 3) := dk_180 0 88 (dk_at dksX4_eliminate_7 7 rfl rfl)
theorem dX4_eliminate_168 : decode cX4_eliminate 168 = .ok (.iload_n 3, 1) := dk_29 (dk_at dksX4_eliminate_7 10 rfl rfl)
theorem dX4_eliminate_169 : decode cX4_eliminate 169 = .ok (.baload, 1) := dk_51 (dk_at dksX4_eliminate_7 11 rfl rfl)
theorem dX4_eliminate_170 : decode cX4_eliminate 170 = .ok (.ifCond .ne 7, 3) := dk_154 0 7 (dk_at dksX4_eliminate_7 12 rfl rfl)
theorem dX4_eliminate_173 : decode cX4_eliminate 173 = .ok (.iconst 1, 1) := dk_4 (dk_at dksX4_eliminate_7 15 rfl rfl)
theorem dX4_eliminate_174 : decode cX4_eliminate 174 = .ok (.goto 4, 3) := dk_167 0 4 (dk_at dksX4_eliminate_7 16 rfl rfl)
theorem dX4_eliminate_177 : decode cX4_eliminate 177 = .ok (.iconst 0, 1) := dk_3 (dk_at dksX4_eliminate_7 19 rfl rfl)
theorem dX4_eliminate_178 : decode cX4_eliminate 178 = .ok (.iand, 1) := dk_126 (dk_at dksX4_eliminate_7 20 rfl rfl)
theorem dX4_eliminate_179 : decode cX4_eliminate 179 = .ok (.bastore, 1) := dk_84 (dk_at dksX4_eliminate_7 21 rfl rfl)
theorem dX4_eliminate_180 : decode cX4_eliminate 180 = .ok (.iinc 3 1, 3) := dk_132 3 1 (dk_at dksX4_eliminate_8 0 rfl rfl)
theorem dX4_eliminate_183 : decode cX4_eliminate 183 = .ok (.goto (-34), 3) := dk_167 255 222 (dk_at dksX4_eliminate_8 3 rfl rfl)
theorem dX4_eliminate_186 : decode cX4_eliminate 186 = .ok (.iload_n 1, 1) := dk_27 (dk_at dksX4_eliminate_8 6 rfl rfl)
theorem dX4_eliminate_187 : decode cX4_eliminate 187 = .ok (.iload_n 2, 1) := dk_28 (dk_at dksX4_eliminate_8 7 rfl rfl)
theorem dX4_eliminate_188 : decode cX4_eliminate 188 = .ok (.ifCond .eq 7, 3) := dk_153 0 7 (dk_at dksX4_eliminate_8 8 rfl rfl)
theorem dX4_eliminate_191 : decode cX4_eliminate 191 = .ok (.iconst 1, 1) := dk_4 (dk_at dksX4_eliminate_8 11 rfl rfl)
theorem dX4_eliminate_192 : decode cX4_eliminate 192 = .ok (.goto 4, 3) := dk_167 0 4 (dk_at dksX4_eliminate_8 12 rfl rfl)
theorem dX4_eliminate_195 : decode cX4_eliminate 195 = .ok (.iconst 0, 1) := dk_3 (dk_at dksX4_eliminate_8 15 rfl rfl)
theorem dX4_eliminate_196 : decode cX4_eliminate 196 = .ok (.iadd, 1) := dk_96 (dk_at dksX4_eliminate_8 16 rfl rfl)
theorem dX4_eliminate_197 : decode cX4_eliminate 197 = .ok (.istore_n 1, 1) := dk_60 (dk_at dksX4_eliminate_8 17 rfl rfl)
theorem dX4_eliminate_198 : decode cX4_eliminate 198 = .ok (.goto (-190), 3) := dk_167 255 66 (dk_at dksX4_eliminate_8 18 rfl rfl)
theorem dX4_eliminate_201 : decode cX4_eliminate 201 = .ok (.iload_n 1, 1) := dk_27 (dk_at dksX4_eliminate_8 21 rfl rfl)
theorem dX4_eliminate_202 : decode cX4_eliminate 202 = .ok (.ireturn, 1) := dk_172 (dk_at dksX4_eliminate_8 22 rfl rfl)
abbrev cX4_remainingPairCount : ByteArray := prog_10_method_70_code
def yX4_remainingPairCount : MethodName := ⟨RX4, "remainingPairCount", "()I"⟩
def dkwX4_remainingPairCount_1 : List UInt8 := [155, 0, 7, 4, 167, 0, 4, 3, 96, 61, 132, 3, 1, 167, 255, 228, 28, 172]
abbrev dktX4_remainingPairCount_1 : List UInt8 := dkwX4_remainingPairCount_1 ++ []
def dkwX4_remainingPairCount_0 : List UInt8 := [42, 182, 1, 12, 60, 3, 61, 3, 62, 29, 42, 180, 0, 211, 162, 0, 26, 28, 42, 180, 0, 63, 29, 46]
abbrev dktX4_remainingPairCount_0 : List UInt8 := dkwX4_remainingPairCount_0 ++ dktX4_remainingPairCount_1
theorem dksX4_remainingPairCount_0 : cX4_remainingPairCount.data.toList.drop 0 = dktX4_remainingPairCount_0 := by decide +kernel
theorem dksX4_remainingPairCount_1 : cX4_remainingPairCount.data.toList.drop 24 = dktX4_remainingPairCount_1 := dk_seg dksX4_remainingPairCount_0 24 rfl rfl
theorem dX4_remainingPairCount_0 : decode cX4_remainingPairCount 0 = .ok (.aload_n 0, 1) := dk_42 (dk_at dksX4_remainingPairCount_0 0 rfl rfl)
theorem dX4_remainingPairCount_1 : decode cX4_remainingPairCount 1 = .ok (.invokevirtual 268, 3) := dk_182 1 12 (dk_at dksX4_remainingPairCount_0 1 rfl rfl)
theorem dX4_remainingPairCount_4 : decode cX4_remainingPairCount 4 = .ok (.istore_n 1, 1) := dk_60 (dk_at dksX4_remainingPairCount_0 4 rfl rfl)
theorem dX4_remainingPairCount_5 : decode cX4_remainingPairCount 5 = .ok (.iconst 0, 1) := dk_3 (dk_at dksX4_remainingPairCount_0 5 rfl rfl)
theorem dX4_remainingPairCount_6 : decode cX4_remainingPairCount 6 = .ok (.istore_n 2, 1) := dk_61 (dk_at dksX4_remainingPairCount_0 6 rfl rfl)
theorem dX4_remainingPairCount_7 : decode cX4_remainingPairCount 7 = .ok (.iconst 0, 1) := dk_3 (dk_at dksX4_remainingPairCount_0 7 rfl rfl)
theorem dX4_remainingPairCount_8 : decode cX4_remainingPairCount 8 = .ok (.istore_n 3, 1) := dk_62 (dk_at dksX4_remainingPairCount_0 8 rfl rfl)
theorem dX4_remainingPairCount_9 : decode cX4_remainingPairCount 9 = .ok (.iload_n 3, 1) := dk_29 (dk_at dksX4_remainingPairCount_0 9 rfl rfl)
theorem dX4_remainingPairCount_10 : decode cX4_remainingPairCount 10 = .ok (.aload_n 0, 1) := dk_42 (dk_at dksX4_remainingPairCount_0 10 rfl rfl)
theorem dX4_remainingPairCount_11 : decode cX4_remainingPairCount 11 = .ok (.getfield 211, 3) := dk_180 0 211 (dk_at dksX4_remainingPairCount_0 11 rfl rfl)
theorem dX4_remainingPairCount_14 : decode cX4_remainingPairCount 14 = .ok (.if_icmp .ge 26, 3) := dk_162 0 26 (dk_at dksX4_remainingPairCount_0 14 rfl rfl)
theorem dX4_remainingPairCount_17 : decode cX4_remainingPairCount 17 = .ok (.iload_n 2, 1) := dk_28 (dk_at dksX4_remainingPairCount_0 17 rfl rfl)
theorem dX4_remainingPairCount_18 : decode cX4_remainingPairCount 18 = .ok (.aload_n 0, 1) := dk_42 (dk_at dksX4_remainingPairCount_0 18 rfl rfl)
theorem dX4_remainingPairCount_19 : decode cX4_remainingPairCount 19 = .ok (.getfield 63, 3) := dk_180 0 63 (dk_at dksX4_remainingPairCount_0 19 rfl rfl)
theorem dX4_remainingPairCount_22 : decode cX4_remainingPairCount 22 = .ok (.iload_n 3, 1) := dk_29 (dk_at dksX4_remainingPairCount_0 22 rfl rfl)
theorem dX4_remainingPairCount_23 : decode cX4_remainingPairCount 23 = .ok (.iaload, 1) := dk_46 (dk_at dksX4_remainingPairCount_0 23 rfl rfl)
theorem dX4_remainingPairCount_24 : decode cX4_remainingPairCount 24 = .ok (.ifCond .lt 7, 3) := dk_155 0 7 (dk_at dksX4_remainingPairCount_1 0 rfl rfl)
theorem dX4_remainingPairCount_27 : decode cX4_remainingPairCount 27 = .ok (.iconst 1, 1) := dk_4 (dk_at dksX4_remainingPairCount_1 3 rfl rfl)
theorem dX4_remainingPairCount_28 : decode cX4_remainingPairCount 28 = .ok (.goto 4, 3) := dk_167 0 4 (dk_at dksX4_remainingPairCount_1 4 rfl rfl)
theorem dX4_remainingPairCount_31 : decode cX4_remainingPairCount 31 = .ok (.iconst 0, 1) := dk_3 (dk_at dksX4_remainingPairCount_1 7 rfl rfl)
theorem dX4_remainingPairCount_32 : decode cX4_remainingPairCount 32 = .ok (.iadd, 1) := dk_96 (dk_at dksX4_remainingPairCount_1 8 rfl rfl)
theorem dX4_remainingPairCount_33 : decode cX4_remainingPairCount 33 = .ok (.istore_n 2, 1) := dk_61 (dk_at dksX4_remainingPairCount_1 9 rfl rfl)
theorem dX4_remainingPairCount_34 : decode cX4_remainingPairCount 34 = .ok (.iinc 3 1, 3) := dk_132 3 1 (dk_at dksX4_remainingPairCount_1 10 rfl rfl)
theorem dX4_remainingPairCount_37 : decode cX4_remainingPairCount 37 = .ok (.goto (-28), 3) := dk_167 255 228 (dk_at dksX4_remainingPairCount_1 13 rfl rfl)
theorem dX4_remainingPairCount_40 : decode cX4_remainingPairCount 40 = .ok (.iload_n 2, 1) := dk_28 (dk_at dksX4_remainingPairCount_1 16 rfl rfl)
theorem dX4_remainingPairCount_41 : decode cX4_remainingPairCount 41 = .ok (.ireturn, 1) := dk_172 (dk_at dksX4_remainingPairCount_1 17 rfl rfl)
abbrev cX4_remainingComponentCount : ByteArray := prog_10_method_71_code
def yX4_remainingComponentCount : MethodName := ⟨RX4, "remainingComponentCount", "()I"⟩
def dkwX4_remainingComponentCount_0 : List UInt8 := [42, 182, 1, 12, 60, 42, 180, 0, 220, 172]
abbrev dktX4_remainingComponentCount_0 : List UInt8 := dkwX4_remainingComponentCount_0 ++ []
theorem dksX4_remainingComponentCount_0 : cX4_remainingComponentCount.data.toList.drop 0 = dktX4_remainingComponentCount_0 := by decide +kernel
theorem dX4_remainingComponentCount_0 : decode cX4_remainingComponentCount 0 = .ok (.aload_n 0, 1) := dk_42 (dk_at dksX4_remainingComponentCount_0 0 rfl rfl)
theorem dX4_remainingComponentCount_1 : decode cX4_remainingComponentCount 1 = .ok (.invokevirtual 268, 3) := dk_182 1 12 (dk_at dksX4_remainingComponentCount_0 1 rfl rfl)
theorem dX4_remainingComponentCount_4 : decode cX4_remainingComponentCount 4 = .ok (.istore_n 1, 1) := dk_60 (dk_at dksX4_remainingComponentCount_0 4 rfl rfl)
theorem dX4_remainingComponentCount_5 : decode cX4_remainingComponentCount 5 = .ok (.aload_n 0, 1) := dk_42 (dk_at dksX4_remainingComponentCount_0 5 rfl rfl)
theorem dX4_remainingComponentCount_6 : decode cX4_remainingComponentCount 6 = .ok (.getfield 220, 3) := dk_180 0 220 (dk_at dksX4_remainingComponentCount_0 6 rfl rfl)
theorem dX4_remainingComponentCount_9 : decode cX4_remainingComponentCount 9 = .ok (.ireturn, 1) := dk_172 (dk_at dksX4_remainingComponentCount_0 9 rfl rfl)
abbrev cX4_terminatesBySubtermCriterion : ByteArray := prog_10_method_72_code
def yX4_terminatesBySubtermCriterion : MethodName := ⟨RX4, "terminatesBySubtermCriterion", "()I"⟩
def dkwX4_terminatesBySubtermCriterion_0 : List UInt8 := [42, 182, 1, 15, 154, 0, 7, 4, 167, 0, 4, 3, 172]
abbrev dktX4_terminatesBySubtermCriterion_0 : List UInt8 := dkwX4_terminatesBySubtermCriterion_0 ++ []
theorem dksX4_terminatesBySubtermCriterion_0 : cX4_terminatesBySubtermCriterion.data.toList.drop 0 = dktX4_terminatesBySubtermCriterion_0 := by decide +kernel
theorem dX4_terminatesBySubtermCriterion_0 : decode cX4_terminatesBySubtermCriterion 0 = .ok (.aload_n 0, 1) := dk_42 (dk_at dksX4_terminatesBySubtermCriterion_0 0 rfl rfl)
theorem dX4_terminatesBySubtermCriterion_1 : decode cX4_terminatesBySubtermCriterion 1 = .ok (.invokevirtual 271, 3) := dk_182 1 15 (dk_at dksX4_terminatesBySubtermCriterion_0 1 rfl rfl)
theorem dX4_terminatesBySubtermCriterion_4 : decode cX4_terminatesBySubtermCriterion 4 = .ok (.ifCond .ne 7, 3) := dk_154 0 7 (dk_at dksX4_terminatesBySubtermCriterion_0 4 rfl rfl)
theorem dX4_terminatesBySubtermCriterion_7 : decode cX4_terminatesBySubtermCriterion 7 = .ok (.iconst 1, 1) := dk_4 (dk_at dksX4_terminatesBySubtermCriterion_0 7 rfl rfl)
theorem dX4_terminatesBySubtermCriterion_8 : decode cX4_terminatesBySubtermCriterion 8 = .ok (.goto 4, 3) := dk_167 0 4 (dk_at dksX4_terminatesBySubtermCriterion_0 8 rfl rfl)
theorem dX4_terminatesBySubtermCriterion_11 : decode cX4_terminatesBySubtermCriterion 11 = .ok (.iconst 0, 1) := dk_3 (dk_at dksX4_terminatesBySubtermCriterion_0 11 rfl rfl)
theorem dX4_terminatesBySubtermCriterion_12 : decode cX4_terminatesBySubtermCriterion 12 = .ok (.ireturn, 1) := dk_172 (dk_at dksX4_terminatesBySubtermCriterion_0 12 rfl rfl)
abbrev cX4_parseTerm : ByteArray := prog_10_method_73_code
def yX4_parseTerm : MethodName := ⟨RX4, "parseTerm", "(I)I"⟩
def dkwX4_parseTerm_4 : List UInt8 := [42, 180, 0, 40, 3, 46, 172]
abbrev dktX4_parseTerm_4 : List UInt8 := dkwX4_parseTerm_4 ++ []
def dkwX4_parseTerm_3 : List UInt8 := [164, 0, 6, 16, 250, 172, 42, 180, 0, 40, 3, 42, 180, 0, 22, 16, 96, 27, 104, 16, 96, 184, 0, 169]
abbrev dktX4_parseTerm_3 : List UInt8 := dkwX4_parseTerm_3 ++ dktX4_parseTerm_4
def dkwX4_parseTerm_2 : List UInt8 := [3, 181, 0, 151, 28, 154, 0, 11, 16, 156, 42, 180, 0, 148, 100, 172, 42, 180, 0, 40, 3, 46, 16, 40]
abbrev dktX4_parseTerm_2 : List UInt8 := dkwX4_parseTerm_2 ++ dktX4_parseTerm_3
def dkwX4_parseTerm_1 : List UInt8 := [182, 0, 161, 153, 0, 18, 42, 180, 0, 148, 42, 180, 0, 151, 160, 0, 7, 4, 167, 0, 4, 3, 61, 42]
abbrev dktX4_parseTerm_1 : List UInt8 := dkwX4_parseTerm_1 ++ dktX4_parseTerm_2
def dkwX4_parseTerm_0 : List UInt8 := [27, 184, 1, 18, 154, 0, 5, 2, 172, 42, 3, 181, 0, 148, 42, 180, 0, 40, 3, 3, 79, 42]
abbrev dktX4_parseTerm_0 : List UInt8 := dkwX4_parseTerm_0 ++ dktX4_parseTerm_1
theorem dksX4_parseTerm_0 : cX4_parseTerm.data.toList.drop 0 = dktX4_parseTerm_0 := by decide +kernel
theorem dksX4_parseTerm_1 : cX4_parseTerm.data.toList.drop 22 = dktX4_parseTerm_1 := dk_seg dksX4_parseTerm_0 22 rfl rfl
theorem dksX4_parseTerm_2 : cX4_parseTerm.data.toList.drop 46 = dktX4_parseTerm_2 := dk_seg dksX4_parseTerm_1 24 rfl rfl
theorem dksX4_parseTerm_3 : cX4_parseTerm.data.toList.drop 70 = dktX4_parseTerm_3 := dk_seg dksX4_parseTerm_2 24 rfl rfl
theorem dksX4_parseTerm_4 : cX4_parseTerm.data.toList.drop 94 = dktX4_parseTerm_4 := dk_seg dksX4_parseTerm_3 24 rfl rfl
theorem dX4_parseTerm_0 : decode cX4_parseTerm 0 = .ok (.iload_n 1, 1) := dk_27 (dk_at dksX4_parseTerm_0 0 rfl rfl)
theorem dX4_parseTerm_1 : decode cX4_parseTerm 1 = .ok (.invokestatic 274, 3) := dk_184 1 18 (dk_at dksX4_parseTerm_0 1 rfl rfl)
theorem dX4_parseTerm_4 : decode cX4_parseTerm 4 = .ok (.ifCond .ne 5, 3) := dk_154 0 5 (dk_at dksX4_parseTerm_0 4 rfl rfl)
theorem dX4_parseTerm_7 : decode cX4_parseTerm 7 = .ok (.iconst (-1), 1) := dk_2 (dk_at dksX4_parseTerm_0 7 rfl rfl)
theorem dX4_parseTerm_8 : decode cX4_parseTerm 8 = .ok (.ireturn, 1) := dk_172 (dk_at dksX4_parseTerm_0 8 rfl rfl)
theorem dX4_parseTerm_9 : decode cX4_parseTerm 9 = .ok (.aload_n 0, 1) := dk_42 (dk_at dksX4_parseTerm_0 9 rfl rfl)
theorem dX4_parseTerm_10 : decode cX4_parseTerm 10 = .ok (.iconst 0, 1) := dk_3 (dk_at dksX4_parseTerm_0 10 rfl rfl)
theorem dX4_parseTerm_11 : decode cX4_parseTerm 11 = .ok (.putfield 148, 3) := dk_181 0 148 (dk_at dksX4_parseTerm_0 11 rfl rfl)
theorem dX4_parseTerm_14 : decode cX4_parseTerm 14 = .ok (.aload_n 0, 1) := dk_42 (dk_at dksX4_parseTerm_0 14 rfl rfl)
theorem dX4_parseTerm_15 : decode cX4_parseTerm 15 = .ok (.getfield 40, 3) := dk_180 0 40 (dk_at dksX4_parseTerm_0 15 rfl rfl)
theorem dX4_parseTerm_18 : decode cX4_parseTerm 18 = .ok (.iconst 0, 1) := dk_3 (dk_at dksX4_parseTerm_0 18 rfl rfl)
theorem dX4_parseTerm_19 : decode cX4_parseTerm 19 = .ok (.iconst 0, 1) := dk_3 (dk_at dksX4_parseTerm_0 19 rfl rfl)
theorem dX4_parseTerm_20 : decode cX4_parseTerm 20 = .ok (.iastore, 1) := dk_79 (dk_at dksX4_parseTerm_0 20 rfl rfl)
theorem dX4_parseTerm_21 : decode cX4_parseTerm 21 = .ok (.aload_n 0, 1) := dk_42 (dk_at dksX4_parseTerm_0 21 rfl rfl)
theorem dX4_parseTerm_22 : decode cX4_parseTerm 22 = .ok (.invokevirtual 161, 3) := dk_182 0 161 (dk_at dksX4_parseTerm_1 0 rfl rfl)
theorem dX4_parseTerm_25 : decode cX4_parseTerm 25 = .ok (.ifCond .eq 18, 3) := dk_153 0 18 (dk_at dksX4_parseTerm_1 3 rfl rfl)
theorem dX4_parseTerm_28 : decode cX4_parseTerm 28 = .ok (.aload_n 0, 1) := dk_42 (dk_at dksX4_parseTerm_1 6 rfl rfl)
theorem dX4_parseTerm_29 : decode cX4_parseTerm 29 = .ok (.getfield 148, 3) := dk_180 0 148 (dk_at dksX4_parseTerm_1 7 rfl rfl)
theorem dX4_parseTerm_32 : decode cX4_parseTerm 32 = .ok (.aload_n 0, 1) := dk_42 (dk_at dksX4_parseTerm_1 10 rfl rfl)
theorem dX4_parseTerm_33 : decode cX4_parseTerm 33 = .ok (.getfield 151, 3) := dk_180 0 151 (dk_at dksX4_parseTerm_1 11 rfl rfl)
theorem dX4_parseTerm_36 : decode cX4_parseTerm 36 = .ok (.if_icmp .ne 7, 3) := dk_160 0 7 (dk_at dksX4_parseTerm_1 14 rfl rfl)
theorem dX4_parseTerm_39 : decode cX4_parseTerm 39 = .ok (.iconst 1, 1) := dk_4 (dk_at dksX4_parseTerm_1 17 rfl rfl)
theorem dX4_parseTerm_40 : decode cX4_parseTerm 40 = .ok (.goto 4, 3) := dk_167 0 4 (dk_at dksX4_parseTerm_1 18 rfl rfl)
theorem dX4_parseTerm_43 : decode cX4_parseTerm 43 = .ok (.iconst 0, 1) := dk_3 (dk_at dksX4_parseTerm_1 21 rfl rfl)
theorem dX4_parseTerm_44 : decode cX4_parseTerm 44 = .ok (.istore_n 2, 1) := dk_61 (dk_at dksX4_parseTerm_1 22 rfl rfl)
theorem dX4_parseTerm_45 : decode cX4_parseTerm 45 = .ok (.aload_n 0, 1) := dk_42 (dk_at dksX4_parseTerm_1 23 rfl rfl)
theorem dX4_parseTerm_46 : decode cX4_parseTerm 46 = .ok (.iconst 0, 1) := dk_3 (dk_at dksX4_parseTerm_2 0 rfl rfl)
theorem dX4_parseTerm_47 : decode cX4_parseTerm 47 = .ok (.putfield 151, 3) := dk_181 0 151 (dk_at dksX4_parseTerm_2 1 rfl rfl)
theorem dX4_parseTerm_50 : decode cX4_parseTerm 50 = .ok (.iload_n 2, 1) := dk_28 (dk_at dksX4_parseTerm_2 4 rfl rfl)
theorem dX4_parseTerm_51 : decode cX4_parseTerm 51 = .ok (.ifCond .ne 11, 3) := dk_154 0 11 (dk_at dksX4_parseTerm_2 5 rfl rfl)
theorem dX4_parseTerm_54 : decode cX4_parseTerm 54 = .ok (.bipush (-100), 2) := dk_16 156 (dk_at dksX4_parseTerm_2 8 rfl rfl)
theorem dX4_parseTerm_56 : decode cX4_parseTerm 56 = .ok (.aload_n 0, 1) := dk_42 (dk_at dksX4_parseTerm_2 10 rfl rfl)
theorem dX4_parseTerm_57 : decode cX4_parseTerm 57 = .ok (.getfield 148, 3) := dk_180 0 148 (dk_at dksX4_parseTerm_2 11 rfl rfl)
theorem dX4_parseTerm_60 : decode cX4_parseTerm 60 = .ok (.isub, 1) := dk_100 (dk_at dksX4_parseTerm_2 14 rfl rfl)
theorem dX4_parseTerm_61 : decode cX4_parseTerm 61 = .ok (.ireturn, 1) := dk_172 (dk_at dksX4_parseTerm_2 15 rfl rfl)
theorem dX4_parseTerm_62 : decode cX4_parseTerm 62 = .ok (.aload_n 0, 1) := dk_42 (dk_at dksX4_parseTerm_2 16 rfl rfl)
theorem dX4_parseTerm_63 : decode cX4_parseTerm 63 = .ok (.getfield 40, 3) := dk_180 0 40 (dk_at dksX4_parseTerm_2 17 rfl rfl)
theorem dX4_parseTerm_66 : decode cX4_parseTerm 66 = .ok (.iconst 0, 1) := dk_3 (dk_at dksX4_parseTerm_2 20 rfl rfl)
theorem dX4_parseTerm_67 : decode cX4_parseTerm 67 = .ok (.iaload, 1) := dk_46 (dk_at dksX4_parseTerm_2 21 rfl rfl)
theorem dX4_parseTerm_68 : decode cX4_parseTerm 68 = .ok (.bipush 40, 2) := dk_16 40 (dk_at dksX4_parseTerm_2 22 rfl rfl)
theorem dX4_parseTerm_70 : decode cX4_parseTerm 70 = .ok (.if_icmp .le 6, 3) := dk_164 0 6 (dk_at dksX4_parseTerm_3 0 rfl rfl)
theorem dX4_parseTerm_73 : decode cX4_parseTerm 73 = .ok (.bipush (-6), 2) := dk_16 250 (dk_at dksX4_parseTerm_3 3 rfl rfl)
theorem dX4_parseTerm_75 : decode cX4_parseTerm 75 = .ok (.ireturn, 1) := dk_172 (dk_at dksX4_parseTerm_3 5 rfl rfl)
theorem dX4_parseTerm_76 : decode cX4_parseTerm 76 = .ok (.aload_n 0, 1) := dk_42 (dk_at dksX4_parseTerm_3 6 rfl rfl)
theorem dX4_parseTerm_77 : decode cX4_parseTerm 77 = .ok (.getfield 40, 3) := dk_180 0 40 (dk_at dksX4_parseTerm_3 7 rfl rfl)
theorem dX4_parseTerm_80 : decode cX4_parseTerm 80 = .ok (.iconst 0, 1) := dk_3 (dk_at dksX4_parseTerm_3 10 rfl rfl)
theorem dX4_parseTerm_81 : decode cX4_parseTerm 81 = .ok (.aload_n 0, 1) := dk_42 (dk_at dksX4_parseTerm_3 11 rfl rfl)
theorem dX4_parseTerm_82 : decode cX4_parseTerm 82 = .ok (.getfield 22, 3) := dk_180 0 22 (dk_at dksX4_parseTerm_3 12 rfl rfl)
theorem dX4_parseTerm_85 : decode cX4_parseTerm 85 = .ok (.bipush 96, 2) := dk_16 96 (dk_at dksX4_parseTerm_3 15 rfl rfl)
theorem dX4_parseTerm_87 : decode cX4_parseTerm 87 = .ok (.iload_n 1, 1) := dk_27 (dk_at dksX4_parseTerm_3 17 rfl rfl)
theorem dX4_parseTerm_88 : decode cX4_parseTerm 88 = .ok (.imul, 1) := dk_104 (dk_at dksX4_parseTerm_3 18 rfl rfl)
theorem dX4_parseTerm_89 : decode cX4_parseTerm 89 = .ok (.bipush 96, 2) := dk_16 96 (dk_at dksX4_parseTerm_3 19 rfl rfl)
theorem dX4_parseTerm_91 : decode cX4_parseTerm 91 = .ok (.invokestatic 169, 3) := dk_184 0 169 (dk_at dksX4_parseTerm_3 21 rfl rfl)
theorem dX4_parseTerm_94 : decode cX4_parseTerm 94 = .ok (.aload_n 0, 1) := dk_42 (dk_at dksX4_parseTerm_4 0 rfl rfl)
theorem dX4_parseTerm_95 : decode cX4_parseTerm 95 = .ok (.getfield 40, 3) := dk_180 0 40 (dk_at dksX4_parseTerm_4 1 rfl rfl)
theorem dX4_parseTerm_98 : decode cX4_parseTerm 98 = .ok (.iconst 0, 1) := dk_3 (dk_at dksX4_parseTerm_4 4 rfl rfl)
theorem dX4_parseTerm_99 : decode cX4_parseTerm 99 = .ok (.iaload, 1) := dk_46 (dk_at dksX4_parseTerm_4 5 rfl rfl)
theorem dX4_parseTerm_100 : decode cX4_parseTerm 100 = .ok (.ireturn, 1) := dk_172 (dk_at dksX4_parseTerm_4 6 rfl rfl)
abbrev cX4_isRegister : ByteArray := prog_10_method_15_code
def yX4_isRegister : MethodName := ⟨RX4, "isRegister", "(I)Z"⟩
def dkwX4_isRegister_0 : List UInt8 := [26, 3, 6, 184, 0, 105, 172]
abbrev dktX4_isRegister_0 : List UInt8 := dkwX4_isRegister_0 ++ []
theorem dksX4_isRegister_0 : cX4_isRegister.data.toList.drop 0 = dktX4_isRegister_0 := by decide +kernel
theorem dX4_isRegister_0 : decode cX4_isRegister 0 = .ok (.iload_n 0, 1) := dk_26 (dk_at dksX4_isRegister_0 0 rfl rfl)
theorem dX4_isRegister_1 : decode cX4_isRegister 1 = .ok (.iconst 0, 1) := dk_3 (dk_at dksX4_isRegister_0 1 rfl rfl)
theorem dX4_isRegister_2 : decode cX4_isRegister 2 = .ok (.iconst 3, 1) := dk_6 (dk_at dksX4_isRegister_0 2 rfl rfl)
theorem dX4_isRegister_3 : decode cX4_isRegister 3 = .ok (.invokestatic 105, 3) := dk_184 0 105 (dk_at dksX4_isRegister_0 3 rfl rfl)
theorem dX4_isRegister_6 : decode cX4_isRegister 6 = .ok (.ireturn, 1) := dk_172 (dk_at dksX4_isRegister_0 6 rfl rfl)
abbrev cX4_termSize : ByteArray := prog_10_method_74_code
def yX4_termSize : MethodName := ⟨RX4, "termSize", "(I)I"⟩
def dkwX4_termSize_0 : List UInt8 := [27, 184, 1, 18, 153, 0, 15, 42, 180, 0, 22, 16, 96, 27, 104, 46, 167, 0, 4, 2, 172]
abbrev dktX4_termSize_0 : List UInt8 := dkwX4_termSize_0 ++ []
theorem dksX4_termSize_0 : cX4_termSize.data.toList.drop 0 = dktX4_termSize_0 := by decide +kernel
theorem dX4_termSize_0 : decode cX4_termSize 0 = .ok (.iload_n 1, 1) := dk_27 (dk_at dksX4_termSize_0 0 rfl rfl)
theorem dX4_termSize_1 : decode cX4_termSize 1 = .ok (.invokestatic 274, 3) := dk_184 1 18 (dk_at dksX4_termSize_0 1 rfl rfl)
theorem dX4_termSize_4 : decode cX4_termSize 4 = .ok (.ifCond .eq 15, 3) := dk_153 0 15 (dk_at dksX4_termSize_0 4 rfl rfl)
theorem dX4_termSize_7 : decode cX4_termSize 7 = .ok (.aload_n 0, 1) := dk_42 (dk_at dksX4_termSize_0 7 rfl rfl)
theorem dX4_termSize_8 : decode cX4_termSize 8 = .ok (.getfield 22, 3) := dk_180 0 22 (dk_at dksX4_termSize_0 8 rfl rfl)
theorem dX4_termSize_11 : decode cX4_termSize 11 = .ok (.bipush 96, 2) := dk_16 96 (dk_at dksX4_termSize_0 11 rfl rfl)
theorem dX4_termSize_13 : decode cX4_termSize 13 = .ok (.iload_n 1, 1) := dk_27 (dk_at dksX4_termSize_0 13 rfl rfl)
theorem dX4_termSize_14 : decode cX4_termSize 14 = .ok (.imul, 1) := dk_104 (dk_at dksX4_termSize_0 14 rfl rfl)
theorem dX4_termSize_15 : decode cX4_termSize 15 = .ok (.iaload, 1) := dk_46 (dk_at dksX4_termSize_0 15 rfl rfl)
theorem dX4_termSize_16 : decode cX4_termSize 16 = .ok (.goto 4, 3) := dk_167 0 4 (dk_at dksX4_termSize_0 16 rfl rfl)
theorem dX4_termSize_19 : decode cX4_termSize 19 = .ok (.iconst (-1), 1) := dk_2 (dk_at dksX4_termSize_0 19 rfl rfl)
theorem dX4_termSize_20 : decode cX4_termSize 20 = .ok (.ireturn, 1) := dk_172 (dk_at dksX4_termSize_0 20 rfl rfl)
abbrev cX4_formattedLength : ByteArray := prog_10_method_77_code
def yX4_formattedLength : MethodName := ⟨RX4, "formattedLength", "(I)I"⟩
def dkwX4_formattedLength_1 : List UInt8 := [61, 42, 180, 1, 21, 172]
abbrev dktX4_formattedLength_1 : List UInt8 := dkwX4_formattedLength_1 ++ []
def dkwX4_formattedLength_0 : List UInt8 := [27, 184, 1, 18, 154, 0, 5, 2, 172, 42, 3, 181, 1, 21, 42, 16, 96, 27, 104, 4, 96, 182, 1, 27]
abbrev dktX4_formattedLength_0 : List UInt8 := dkwX4_formattedLength_0 ++ dktX4_formattedLength_1
theorem dksX4_formattedLength_0 : cX4_formattedLength.data.toList.drop 0 = dktX4_formattedLength_0 := by decide +kernel
theorem dksX4_formattedLength_1 : cX4_formattedLength.data.toList.drop 24 = dktX4_formattedLength_1 := dk_seg dksX4_formattedLength_0 24 rfl rfl
theorem dX4_formattedLength_0 : decode cX4_formattedLength 0 = .ok (.iload_n 1, 1) := dk_27 (dk_at dksX4_formattedLength_0 0 rfl rfl)
theorem dX4_formattedLength_1 : decode cX4_formattedLength 1 = .ok (.invokestatic 274, 3) := dk_184 1 18 (dk_at dksX4_formattedLength_0 1 rfl rfl)
theorem dX4_formattedLength_4 : decode cX4_formattedLength 4 = .ok (.ifCond .ne 5, 3) := dk_154 0 5 (dk_at dksX4_formattedLength_0 4 rfl rfl)
theorem dX4_formattedLength_7 : decode cX4_formattedLength 7 = .ok (.iconst (-1), 1) := dk_2 (dk_at dksX4_formattedLength_0 7 rfl rfl)
theorem dX4_formattedLength_8 : decode cX4_formattedLength 8 = .ok (.ireturn, 1) := dk_172 (dk_at dksX4_formattedLength_0 8 rfl rfl)
theorem dX4_formattedLength_9 : decode cX4_formattedLength 9 = .ok (.aload_n 0, 1) := dk_42 (dk_at dksX4_formattedLength_0 9 rfl rfl)
theorem dX4_formattedLength_10 : decode cX4_formattedLength 10 = .ok (.iconst 0, 1) := dk_3 (dk_at dksX4_formattedLength_0 10 rfl rfl)
theorem dX4_formattedLength_11 : decode cX4_formattedLength 11 = .ok (.putfield 277, 3) := dk_181 1 21 (dk_at dksX4_formattedLength_0 11 rfl rfl)
theorem dX4_formattedLength_14 : decode cX4_formattedLength 14 = .ok (.aload_n 0, 1) := dk_42 (dk_at dksX4_formattedLength_0 14 rfl rfl)
theorem dX4_formattedLength_15 : decode cX4_formattedLength 15 = .ok (.bipush 96, 2) := dk_16 96 (dk_at dksX4_formattedLength_0 15 rfl rfl)
theorem dX4_formattedLength_17 : decode cX4_formattedLength 17 = .ok (.iload_n 1, 1) := dk_27 (dk_at dksX4_formattedLength_0 17 rfl rfl)
theorem dX4_formattedLength_18 : decode cX4_formattedLength 18 = .ok (.imul, 1) := dk_104 (dk_at dksX4_formattedLength_0 18 rfl rfl)
theorem dX4_formattedLength_19 : decode cX4_formattedLength 19 = .ok (.iconst 1, 1) := dk_4 (dk_at dksX4_formattedLength_0 19 rfl rfl)
theorem dX4_formattedLength_20 : decode cX4_formattedLength 20 = .ok (.iadd, 1) := dk_96 (dk_at dksX4_formattedLength_0 20 rfl rfl)
theorem dX4_formattedLength_21 : decode cX4_formattedLength 21 = .ok (.invokevirtual 283, 3) := dk_182 1 27 (dk_at dksX4_formattedLength_0 21 rfl rfl)
theorem dX4_formattedLength_24 : decode cX4_formattedLength 24 = .ok (.istore_n 2, 1) := dk_61 (dk_at dksX4_formattedLength_1 0 rfl rfl)
theorem dX4_formattedLength_25 : decode cX4_formattedLength 25 = .ok (.aload_n 0, 1) := dk_42 (dk_at dksX4_formattedLength_1 1 rfl rfl)
theorem dX4_formattedLength_26 : decode cX4_formattedLength 26 = .ok (.getfield 277, 3) := dk_180 1 21 (dk_at dksX4_formattedLength_1 2 rfl rfl)
theorem dX4_formattedLength_29 : decode cX4_formattedLength 29 = .ok (.ireturn, 1) := dk_172 (dk_at dksX4_formattedLength_1 5 rfl rfl)
abbrev cX4_format : ByteArray := prog_10_method_76_code
def yX4_format : MethodName := ⟨RX4, "format", "(I)I"⟩
def dkwX4_format_3 : List UInt8 := [182, 1, 24, 29, 172]
abbrev dktX4_format_3 : List UInt8 := dkwX4_format_3 ++ []
def dkwX4_format_2 : List UInt8 := [182, 1, 24, 42, 29, 182, 1, 27, 62, 132, 5, 1, 167, 255, 224, 21, 4, 158, 0, 9, 42, 16, 41]
abbrev dktX4_format_2 : List UInt8 := dkwX4_format_2 ++ dktX4_format_3
def dkwX4_format_1 : List UInt8 := [54, 5, 21, 5, 21, 4, 162, 0, 31, 42, 21, 5, 154, 0, 8, 16, 40, 167, 0, 5, 16, 44]
abbrev dktX4_format_1 : List UInt8 := dkwX4_format_1 ++ dktX4_format_2
def dkwX4_format_0 : List UInt8 := [42, 180, 0, 22, 27, 46, 61, 42, 28, 182, 1, 24, 27, 4, 96, 62, 42, 28, 182, 0, 113, 54, 4, 3]
abbrev dktX4_format_0 : List UInt8 := dkwX4_format_0 ++ dktX4_format_1
theorem dksX4_format_0 : cX4_format.data.toList.drop 0 = dktX4_format_0 := by decide +kernel
theorem dksX4_format_1 : cX4_format.data.toList.drop 24 = dktX4_format_1 := dk_seg dksX4_format_0 24 rfl rfl
theorem dksX4_format_2 : cX4_format.data.toList.drop 46 = dktX4_format_2 := dk_seg dksX4_format_1 22 rfl rfl
theorem dksX4_format_3 : cX4_format.data.toList.drop 69 = dktX4_format_3 := dk_seg dksX4_format_2 23 rfl rfl
theorem dX4_format_0 : decode cX4_format 0 = .ok (.aload_n 0, 1) := dk_42 (dk_at dksX4_format_0 0 rfl rfl)
theorem dX4_format_1 : decode cX4_format 1 = .ok (.getfield 22, 3) := dk_180 0 22 (dk_at dksX4_format_0 1 rfl rfl)
theorem dX4_format_4 : decode cX4_format 4 = .ok (.iload_n 1, 1) := dk_27 (dk_at dksX4_format_0 4 rfl rfl)
theorem dX4_format_5 : decode cX4_format 5 = .ok (.iaload, 1) := dk_46 (dk_at dksX4_format_0 5 rfl rfl)
theorem dX4_format_6 : decode cX4_format 6 = .ok (.istore_n 2, 1) := dk_61 (dk_at dksX4_format_0 6 rfl rfl)
theorem dX4_format_7 : decode cX4_format 7 = .ok (.aload_n 0, 1) := dk_42 (dk_at dksX4_format_0 7 rfl rfl)
theorem dX4_format_8 : decode cX4_format 8 = .ok (.iload_n 2, 1) := dk_28 (dk_at dksX4_format_0 8 rfl rfl)
theorem dX4_format_9 : decode cX4_format 9 = .ok (.invokevirtual 280, 3) := dk_182 1 24 (dk_at dksX4_format_0 9 rfl rfl)
theorem dX4_format_12 : decode cX4_format 12 = .ok (.iload_n 1, 1) := dk_27 (dk_at dksX4_format_0 12 rfl rfl)
theorem dX4_format_13 : decode cX4_format 13 = .ok (.iconst 1, 1) := dk_4 (dk_at dksX4_format_0 13 rfl rfl)
theorem dX4_format_14 : decode cX4_format 14 = .ok (.iadd, 1) := dk_96 (dk_at dksX4_format_0 14 rfl rfl)
theorem dX4_format_15 : decode cX4_format 15 = .ok (.istore_n 3, 1) := dk_62 (dk_at dksX4_format_0 15 rfl rfl)
theorem dX4_format_16 : decode cX4_format 16 = .ok (.aload_n 0, 1) := dk_42 (dk_at dksX4_format_0 16 rfl rfl)
theorem dX4_format_17 : decode cX4_format 17 = .ok (.iload_n 2, 1) := dk_28 (dk_at dksX4_format_0 17 rfl rfl)
theorem dX4_format_18 : decode cX4_format 18 = .ok (.invokevirtual 113, 3) := dk_182 0 113 (dk_at dksX4_format_0 18 rfl rfl)
theorem dX4_format_21 : decode cX4_format 21 = .ok (.istore 4, 2) := dk_54 4 (dk_at dksX4_format_0 21 rfl rfl)
theorem dX4_format_23 : decode cX4_format 23 = .ok (.iconst 0, 1) := dk_3 (dk_at dksX4_format_0 23 rfl rfl)
theorem dX4_format_24 : decode cX4_format 24 = .ok (.istore 5, 2) := dk_54 5 (dk_at dksX4_format_1 0 rfl rfl)
theorem dX4_format_26 : decode cX4_format 26 = .ok (.iload 5, 2) := dk_21 5 (dk_at dksX4_format_1 2 rfl rfl)
theorem dX4_format_28 : decode cX4_format 28 = .ok (.iload 4, 2) := dk_21 4 (dk_at dksX4_format_1 4 rfl rfl)
theorem dX4_format_30 : decode cX4_format 30 = .ok (.if_icmp .ge 31, 3) := dk_162 0 31 (dk_at dksX4_format_1 6 rfl rfl)
theorem dX4_format_33 : decode cX4_format 33 = .ok (.aload_n 0, 1) := dk_42 (dk_at dksX4_format_1 9 rfl rfl)
theorem dX4_format_34 : decode cX4_format 34 = .ok (.iload 5, 2) := dk_21 5 (dk_at dksX4_format_1 10 rfl rfl)
theorem dX4_format_36 : decode cX4_format 36 = .ok (.ifCond .ne 8, 3) := dk_154 0 8 (dk_at dksX4_format_1 12 rfl rfl)
theorem dX4_format_39 : decode cX4_format 39 = .ok (.bipush 40, 2) := dk_16 40 (dk_at dksX4_format_1 15 rfl rfl)
theorem dX4_format_41 : decode cX4_format 41 = .ok (.goto 5, 3) := dk_167 0 5 (dk_at dksX4_format_1 17 rfl rfl)
theorem dX4_format_44 : decode cX4_format 44 = .ok (.bipush 44, 2) := dk_16 44 (dk_at dksX4_format_1 20 rfl rfl)
theorem dX4_format_46 : decode cX4_format 46 = .ok (.invokevirtual 280, 3) := dk_182 1 24 (dk_at dksX4_format_2 0 rfl rfl)
theorem dX4_format_49 : decode cX4_format 49 = .ok (.aload_n 0, 1) := dk_42 (dk_at dksX4_format_2 3 rfl rfl)
theorem dX4_format_50 : decode cX4_format 50 = .ok (.iload_n 3, 1) := dk_29 (dk_at dksX4_format_2 4 rfl rfl)
theorem dX4_format_51 : decode cX4_format 51 = .ok (.invokevirtual 283, 3) := dk_182 1 27 (dk_at dksX4_format_2 5 rfl rfl)
theorem dX4_format_54 : decode cX4_format 54 = .ok (.istore_n 3, 1) := dk_62 (dk_at dksX4_format_2 8 rfl rfl)
theorem dX4_format_55 : decode cX4_format 55 = .ok (.iinc 5 1, 3) := dk_132 5 1 (dk_at dksX4_format_2 9 rfl rfl)
theorem dX4_format_58 : decode cX4_format 58 = .ok (.goto (-32), 3) := dk_167 255 224 (dk_at dksX4_format_2 12 rfl rfl)
theorem dX4_format_61 : decode cX4_format 61 = .ok (.iload 4, 2) := dk_21 4 (dk_at dksX4_format_2 15 rfl rfl)
theorem dX4_format_63 : decode cX4_format 63 = .ok (.ifCond .le 9, 3) := dk_158 0 9 (dk_at dksX4_format_2 17 rfl rfl)
theorem dX4_format_66 : decode cX4_format 66 = .ok (.aload_n 0, 1) := dk_42 (dk_at dksX4_format_2 20 rfl rfl)
theorem dX4_format_67 : decode cX4_format 67 = .ok (.bipush 41, 2) := dk_16 41 (dk_at dksX4_format_2 21 rfl rfl)
theorem dX4_format_69 : decode cX4_format 69 = .ok (.invokevirtual 280, 3) := dk_182 1 24 (dk_at dksX4_format_3 0 rfl rfl)
theorem dX4_format_72 : decode cX4_format 72 = .ok (.iload_n 3, 1) := dk_29 (dk_at dksX4_format_3 3 rfl rfl)
theorem dX4_format_73 : decode cX4_format 73 = .ok (.ireturn, 1) := dk_172 (dk_at dksX4_format_3 4 rfl rfl)
abbrev cX4_put : ByteArray := prog_10_method_75_code
def yX4_put : MethodName := ⟨RX4, "put", "(I)V"⟩
def dkwX4_put_0 : List UInt8 := [42, 180, 0, 91, 42, 180, 1, 21, 27, 79, 42, 89, 180, 1, 21, 4, 96, 181, 1, 21, 177]
abbrev dktX4_put_0 : List UInt8 := dkwX4_put_0 ++ []
theorem dksX4_put_0 : cX4_put.data.toList.drop 0 = dktX4_put_0 := by decide +kernel
theorem dX4_put_0 : decode cX4_put 0 = .ok (.aload_n 0, 1) := dk_42 (dk_at dksX4_put_0 0 rfl rfl)
theorem dX4_put_1 : decode cX4_put 1 = .ok (.getfield 91, 3) := dk_180 0 91 (dk_at dksX4_put_0 1 rfl rfl)
theorem dX4_put_4 : decode cX4_put 4 = .ok (.aload_n 0, 1) := dk_42 (dk_at dksX4_put_0 4 rfl rfl)
theorem dX4_put_5 : decode cX4_put 5 = .ok (.getfield 277, 3) := dk_180 1 21 (dk_at dksX4_put_0 5 rfl rfl)
theorem dX4_put_8 : decode cX4_put 8 = .ok (.iload_n 1, 1) := dk_27 (dk_at dksX4_put_0 8 rfl rfl)
theorem dX4_put_9 : decode cX4_put 9 = .ok (.iastore, 1) := dk_79 (dk_at dksX4_put_0 9 rfl rfl)
theorem dX4_put_10 : decode cX4_put 10 = .ok (.aload_n 0, 1) := dk_42 (dk_at dksX4_put_0 10 rfl rfl)
theorem dX4_put_11 : decode cX4_put 11 = .ok (.dup, 1) := dk_89 (dk_at dksX4_put_0 11 rfl rfl)
theorem dX4_put_12 : decode cX4_put 12 = .ok (.getfield 277, 3) := dk_180 1 21 (dk_at dksX4_put_0 12 rfl rfl)
theorem dX4_put_15 : decode cX4_put 15 = .ok (.iconst 1, 1) := dk_4 (dk_at dksX4_put_0 15 rfl rfl)
theorem dX4_put_16 : decode cX4_put 16 = .ok (.iadd, 1) := dk_96 (dk_at dksX4_put_0 16 rfl rfl)
theorem dX4_put_17 : decode cX4_put 17 = .ok (.putfield 277, 3) := dk_181 1 21 (dk_at dksX4_put_0 17 rfl rfl)
theorem dX4_put_20 : decode cX4_put 20 = .ok (.return_, 1) := dk_177 (dk_at dksX4_put_0 20 rfl rfl)
abbrev cX4_formattedCharacter : ByteArray := prog_10_method_78_code
def yX4_formattedCharacter : MethodName := ⟨RX4, "formattedCharacter", "(II)I"⟩
def dkwX4_formattedCharacter_1 : List UInt8 := [167, 0, 4, 2, 172]
abbrev dktX4_formattedCharacter_1 : List UInt8 := dkwX4_formattedCharacter_1 ++ []
def dkwX4_formattedCharacter_0 : List UInt8 := [42, 27, 182, 1, 30, 62, 28, 3, 29, 4, 100, 184, 0, 105, 153, 0, 12, 42, 180, 0, 91, 28, 46]
abbrev dktX4_formattedCharacter_0 : List UInt8 := dkwX4_formattedCharacter_0 ++ dktX4_formattedCharacter_1
theorem dksX4_formattedCharacter_0 : cX4_formattedCharacter.data.toList.drop 0 = dktX4_formattedCharacter_0 := by decide +kernel
theorem dksX4_formattedCharacter_1 : cX4_formattedCharacter.data.toList.drop 23 = dktX4_formattedCharacter_1 := dk_seg dksX4_formattedCharacter_0 23 rfl rfl
theorem dX4_formattedCharacter_0 : decode cX4_formattedCharacter 0 = .ok (.aload_n 0, 1) := dk_42 (dk_at dksX4_formattedCharacter_0 0 rfl rfl)
theorem dX4_formattedCharacter_1 : decode cX4_formattedCharacter 1 = .ok (.iload_n 1, 1) := dk_27 (dk_at dksX4_formattedCharacter_0 1 rfl rfl)
theorem dX4_formattedCharacter_2 : decode cX4_formattedCharacter 2 = .ok (.invokevirtual 286, 3) := dk_182 1 30 (dk_at dksX4_formattedCharacter_0 2 rfl rfl)
theorem dX4_formattedCharacter_5 : decode cX4_formattedCharacter 5 = .ok (.istore_n 3, 1) := dk_62 (dk_at dksX4_formattedCharacter_0 5 rfl rfl)
theorem dX4_formattedCharacter_6 : decode cX4_formattedCharacter 6 = .ok (.iload_n 2, 1) := dk_28 (dk_at dksX4_formattedCharacter_0 6 rfl rfl)
theorem dX4_formattedCharacter_7 : decode cX4_formattedCharacter 7 = .ok (.iconst 0, 1) := dk_3 (dk_at dksX4_formattedCharacter_0 7 rfl rfl)
theorem dX4_formattedCharacter_8 : decode cX4_formattedCharacter 8 = .ok (.iload_n 3, 1) := dk_29 (dk_at dksX4_formattedCharacter_0 8 rfl rfl)
theorem dX4_formattedCharacter_9 : decode cX4_formattedCharacter 9 = .ok (.iconst 1, 1) := dk_4 (dk_at dksX4_formattedCharacter_0 9 rfl rfl)
theorem dX4_formattedCharacter_10 : decode cX4_formattedCharacter 10 = .ok (.isub, 1) := dk_100 (dk_at dksX4_formattedCharacter_0 10 rfl rfl)
theorem dX4_formattedCharacter_11 : decode cX4_formattedCharacter 11 = .ok (.invokestatic 105, 3) := dk_184 0 105 (dk_at dksX4_formattedCharacter_0 11 rfl rfl)
theorem dX4_formattedCharacter_14 : decode cX4_formattedCharacter 14 = .ok (.ifCond .eq 12, 3) := dk_153 0 12 (dk_at dksX4_formattedCharacter_0 14 rfl rfl)
theorem dX4_formattedCharacter_17 : decode cX4_formattedCharacter 17 = .ok (.aload_n 0, 1) := dk_42 (dk_at dksX4_formattedCharacter_0 17 rfl rfl)
theorem dX4_formattedCharacter_18 : decode cX4_formattedCharacter 18 = .ok (.getfield 91, 3) := dk_180 0 91 (dk_at dksX4_formattedCharacter_0 18 rfl rfl)
theorem dX4_formattedCharacter_21 : decode cX4_formattedCharacter 21 = .ok (.iload_n 2, 1) := dk_28 (dk_at dksX4_formattedCharacter_0 21 rfl rfl)
theorem dX4_formattedCharacter_22 : decode cX4_formattedCharacter 22 = .ok (.iaload, 1) := dk_46 (dk_at dksX4_formattedCharacter_0 22 rfl rfl)
theorem dX4_formattedCharacter_23 : decode cX4_formattedCharacter 23 = .ok (.goto 4, 3) := dk_167 0 4 (dk_at dksX4_formattedCharacter_1 0 rfl rfl)
theorem dX4_formattedCharacter_26 : decode cX4_formattedCharacter 26 = .ok (.iconst (-1), 1) := dk_2 (dk_at dksX4_formattedCharacter_1 3 rfl rfl)
theorem dX4_formattedCharacter_27 : decode cX4_formattedCharacter 27 = .ok (.ireturn, 1) := dk_172 (dk_at dksX4_formattedCharacter_1 4 rfl rfl)
abbrev cX4_compareTerms : ByteArray := prog_10_method_79_code
def yX4_compareTerms : MethodName := ⟨RX4, "compareTerms", "(II)I"⟩
def dkwX4_compareTerms_2 : List UInt8 := [4, 167, 0, 4, 5, 172]
abbrev dktX4_compareTerms_2 : List UInt8 := dkwX4_compareTerms_2 ++ []
def dkwX4_compareTerms_1 : List UInt8 := [42, 180, 0, 22, 16, 96, 28, 104, 184, 1, 32, 62, 29, 156, 0, 7, 3, 167, 0, 12, 29, 154, 0, 7]
abbrev dktX4_compareTerms_1 : List UInt8 := dkwX4_compareTerms_1 ++ dktX4_compareTerms_2
def dkwX4_compareTerms_0 : List UInt8 := [27, 184, 1, 18, 153, 0, 10, 28, 184, 1, 18, 154, 0, 5, 2, 172, 42, 180, 0, 22, 16, 96, 27, 104]
abbrev dktX4_compareTerms_0 : List UInt8 := dkwX4_compareTerms_0 ++ dktX4_compareTerms_1
theorem dksX4_compareTerms_0 : cX4_compareTerms.data.toList.drop 0 = dktX4_compareTerms_0 := by decide +kernel
theorem dksX4_compareTerms_1 : cX4_compareTerms.data.toList.drop 24 = dktX4_compareTerms_1 := dk_seg dksX4_compareTerms_0 24 rfl rfl
theorem dksX4_compareTerms_2 : cX4_compareTerms.data.toList.drop 48 = dktX4_compareTerms_2 := dk_seg dksX4_compareTerms_1 24 rfl rfl
theorem dX4_compareTerms_0 : decode cX4_compareTerms 0 = .ok (.iload_n 1, 1) := dk_27 (dk_at dksX4_compareTerms_0 0 rfl rfl)
theorem dX4_compareTerms_1 : decode cX4_compareTerms 1 = .ok (.invokestatic 274, 3) := dk_184 1 18 (dk_at dksX4_compareTerms_0 1 rfl rfl)
theorem dX4_compareTerms_4 : decode cX4_compareTerms 4 = .ok (.ifCond .eq 10, 3) := dk_153 0 10 (dk_at dksX4_compareTerms_0 4 rfl rfl)
theorem dX4_compareTerms_7 : decode cX4_compareTerms 7 = .ok (.iload_n 2, 1) := dk_28 (dk_at dksX4_compareTerms_0 7 rfl rfl)
theorem dX4_compareTerms_8 : decode cX4_compareTerms 8 = .ok (.invokestatic 274, 3) := dk_184 1 18 (dk_at dksX4_compareTerms_0 8 rfl rfl)
theorem dX4_compareTerms_11 : decode cX4_compareTerms 11 = .ok (.ifCond .ne 5, 3) := dk_154 0 5 (dk_at dksX4_compareTerms_0 11 rfl rfl)
theorem dX4_compareTerms_14 : decode cX4_compareTerms 14 = .ok (.iconst (-1), 1) := dk_2 (dk_at dksX4_compareTerms_0 14 rfl rfl)
theorem dX4_compareTerms_15 : decode cX4_compareTerms 15 = .ok (.ireturn, 1) := dk_172 (dk_at dksX4_compareTerms_0 15 rfl rfl)
theorem dX4_compareTerms_16 : decode cX4_compareTerms 16 = .ok (.aload_n 0, 1) := dk_42 (dk_at dksX4_compareTerms_0 16 rfl rfl)
theorem dX4_compareTerms_17 : decode cX4_compareTerms 17 = .ok (.getfield 22, 3) := dk_180 0 22 (dk_at dksX4_compareTerms_0 17 rfl rfl)
theorem dX4_compareTerms_20 : decode cX4_compareTerms 20 = .ok (.bipush 96, 2) := dk_16 96 (dk_at dksX4_compareTerms_0 20 rfl rfl)
theorem dX4_compareTerms_22 : decode cX4_compareTerms 22 = .ok (.iload_n 1, 1) := dk_27 (dk_at dksX4_compareTerms_0 22 rfl rfl)
theorem dX4_compareTerms_23 : decode cX4_compareTerms 23 = .ok (.imul, 1) := dk_104 (dk_at dksX4_compareTerms_0 23 rfl rfl)
theorem dX4_compareTerms_24 : decode cX4_compareTerms 24 = .ok (.aload_n 0, 1) := dk_42 (dk_at dksX4_compareTerms_1 0 rfl rfl)
theorem dX4_compareTerms_25 : decode cX4_compareTerms 25 = .ok (.getfield 22, 3) := dk_180 0 22 (dk_at dksX4_compareTerms_1 1 rfl rfl)
theorem dX4_compareTerms_28 : decode cX4_compareTerms 28 = .ok (.bipush 96, 2) := dk_16 96 (dk_at dksX4_compareTerms_1 4 rfl rfl)
theorem dX4_compareTerms_30 : decode cX4_compareTerms 30 = .ok (.iload_n 2, 1) := dk_28 (dk_at dksX4_compareTerms_1 6 rfl rfl)
theorem dX4_compareTerms_31 : decode cX4_compareTerms 31 = .ok (.imul, 1) := dk_104 (dk_at dksX4_compareTerms_1 7 rfl rfl)
theorem dX4_compareTerms_32 : decode cX4_compareTerms 32 = .ok (.invokestatic 288, 3) := dk_184 1 32 (dk_at dksX4_compareTerms_1 8 rfl rfl)
theorem dX4_compareTerms_35 : decode cX4_compareTerms 35 = .ok (.istore_n 3, 1) := dk_62 (dk_at dksX4_compareTerms_1 11 rfl rfl)
theorem dX4_compareTerms_36 : decode cX4_compareTerms 36 = .ok (.iload_n 3, 1) := dk_29 (dk_at dksX4_compareTerms_1 12 rfl rfl)
theorem dX4_compareTerms_37 : decode cX4_compareTerms 37 = .ok (.ifCond .ge 7, 3) := dk_156 0 7 (dk_at dksX4_compareTerms_1 13 rfl rfl)
theorem dX4_compareTerms_40 : decode cX4_compareTerms 40 = .ok (.iconst 0, 1) := dk_3 (dk_at dksX4_compareTerms_1 16 rfl rfl)
theorem dX4_compareTerms_41 : decode cX4_compareTerms 41 = .ok (.goto 12, 3) := dk_167 0 12 (dk_at dksX4_compareTerms_1 17 rfl rfl)
theorem dX4_compareTerms_44 : decode cX4_compareTerms 44 = .ok (.iload_n 3, 1) := dk_29 (dk_at dksX4_compareTerms_1 20 rfl rfl)
theorem dX4_compareTerms_45 : decode cX4_compareTerms 45 = .ok (.ifCond .ne 7, 3) := dk_154 0 7 (dk_at dksX4_compareTerms_1 21 rfl rfl)
theorem dX4_compareTerms_48 : decode cX4_compareTerms 48 = .ok (.iconst 1, 1) := dk_4 (dk_at dksX4_compareTerms_2 0 rfl rfl)
theorem dX4_compareTerms_49 : decode cX4_compareTerms 49 = .ok (.goto 4, 3) := dk_167 0 4 (dk_at dksX4_compareTerms_2 1 rfl rfl)
theorem dX4_compareTerms_52 : decode cX4_compareTerms 52 = .ok (.iconst 2, 1) := dk_5 (dk_at dksX4_compareTerms_2 4 rfl rfl)
theorem dX4_compareTerms_53 : decode cX4_compareTerms 53 = .ok (.ireturn, 1) := dk_172 (dk_at dksX4_compareTerms_2 5 rfl rfl)
abbrev cX4_compare : ByteArray := prog_10_method_11_code
def yX4_compare : MethodName := ⟨RX4, "compare", "([II[II)I"⟩
def dkwX4_compare_2 : List UInt8 := [46, 44, 29, 21, 4, 96, 46, 100, 172, 132, 4, 1, 167, 255, 216, 3, 172]
abbrev dktX4_compare_2 : List UInt8 := dkwX4_compare_2 ++ []
def dkwX4_compare_1 : List UInt8 := [46, 163, 0, 38, 42, 27, 21, 4, 96, 46, 44, 29, 21, 4, 96, 46, 159, 0, 17, 42, 27, 21, 4, 96]
abbrev dktX4_compare_1 : List UInt8 := dkwX4_compare_1 ++ dktX4_compare_2
def dkwX4_compare_0 : List UInt8 := [42, 27, 46, 44, 29, 46, 159, 0, 11, 42, 27, 46, 44, 29, 46, 100, 172, 4, 54, 4, 21, 4, 42, 27]
abbrev dktX4_compare_0 : List UInt8 := dkwX4_compare_0 ++ dktX4_compare_1
theorem dksX4_compare_0 : cX4_compare.data.toList.drop 0 = dktX4_compare_0 := by decide +kernel
theorem dksX4_compare_1 : cX4_compare.data.toList.drop 24 = dktX4_compare_1 := dk_seg dksX4_compare_0 24 rfl rfl
theorem dksX4_compare_2 : cX4_compare.data.toList.drop 48 = dktX4_compare_2 := dk_seg dksX4_compare_1 24 rfl rfl
theorem dX4_compare_0 : decode cX4_compare 0 = .ok (.aload_n 0, 1) := dk_42 (dk_at dksX4_compare_0 0 rfl rfl)
theorem dX4_compare_1 : decode cX4_compare 1 = .ok (.iload_n 1, 1) := dk_27 (dk_at dksX4_compare_0 1 rfl rfl)
theorem dX4_compare_2 : decode cX4_compare 2 = .ok (.iaload, 1) := dk_46 (dk_at dksX4_compare_0 2 rfl rfl)
theorem dX4_compare_3 : decode cX4_compare 3 = .ok (.aload_n 2, 1) := dk_44 (dk_at dksX4_compare_0 3 rfl rfl)
theorem dX4_compare_4 : decode cX4_compare 4 = .ok (.iload_n 3, 1) := dk_29 (dk_at dksX4_compare_0 4 rfl rfl)
theorem dX4_compare_5 : decode cX4_compare 5 = .ok (.iaload, 1) := dk_46 (dk_at dksX4_compare_0 5 rfl rfl)
theorem dX4_compare_6 : decode cX4_compare 6 = .ok (.if_icmp .eq 11, 3) := dk_159 0 11 (dk_at dksX4_compare_0 6 rfl rfl)
theorem dX4_compare_9 : decode cX4_compare 9 = .ok (.aload_n 0, 1) := dk_42 (dk_at dksX4_compare_0 9 rfl rfl)
theorem dX4_compare_10 : decode cX4_compare 10 = .ok (.iload_n 1, 1) := dk_27 (dk_at dksX4_compare_0 10 rfl rfl)
theorem dX4_compare_11 : decode cX4_compare 11 = .ok (.iaload, 1) := dk_46 (dk_at dksX4_compare_0 11 rfl rfl)
theorem dX4_compare_12 : decode cX4_compare 12 = .ok (.aload_n 2, 1) := dk_44 (dk_at dksX4_compare_0 12 rfl rfl)
theorem dX4_compare_13 : decode cX4_compare 13 = .ok (.iload_n 3, 1) := dk_29 (dk_at dksX4_compare_0 13 rfl rfl)
theorem dX4_compare_14 : decode cX4_compare 14 = .ok (.iaload, 1) := dk_46 (dk_at dksX4_compare_0 14 rfl rfl)
theorem dX4_compare_15 : decode cX4_compare 15 = .ok (.isub, 1) := dk_100 (dk_at dksX4_compare_0 15 rfl rfl)
theorem dX4_compare_16 : decode cX4_compare 16 = .ok (.ireturn, 1) := dk_172 (dk_at dksX4_compare_0 16 rfl rfl)
theorem dX4_compare_17 : decode cX4_compare 17 = .ok (.iconst 1, 1) := dk_4 (dk_at dksX4_compare_0 17 rfl rfl)
theorem dX4_compare_18 : decode cX4_compare 18 = .ok (.istore 4, 2) := dk_54 4 (dk_at dksX4_compare_0 18 rfl rfl)
theorem dX4_compare_20 : decode cX4_compare 20 = .ok (.iload 4, 2) := dk_21 4 (dk_at dksX4_compare_0 20 rfl rfl)
theorem dX4_compare_22 : decode cX4_compare 22 = .ok (.aload_n 0, 1) := dk_42 (dk_at dksX4_compare_0 22 rfl rfl)
theorem dX4_compare_23 : decode cX4_compare 23 = .ok (.iload_n 1, 1) := dk_27 (dk_at dksX4_compare_0 23 rfl rfl)
theorem dX4_compare_24 : decode cX4_compare 24 = .ok (.iaload, 1) := dk_46 (dk_at dksX4_compare_1 0 rfl rfl)
theorem dX4_compare_25 : decode cX4_compare 25 = .ok (.if_icmp .gt 38, 3) := dk_163 0 38 (dk_at dksX4_compare_1 1 rfl rfl)
theorem dX4_compare_28 : decode cX4_compare 28 = .ok (.aload_n 0, 1) := dk_42 (dk_at dksX4_compare_1 4 rfl rfl)
theorem dX4_compare_29 : decode cX4_compare 29 = .ok (.iload_n 1, 1) := dk_27 (dk_at dksX4_compare_1 5 rfl rfl)
theorem dX4_compare_30 : decode cX4_compare 30 = .ok (.iload 4, 2) := dk_21 4 (dk_at dksX4_compare_1 6 rfl rfl)
theorem dX4_compare_32 : decode cX4_compare 32 = .ok (.iadd, 1) := dk_96 (dk_at dksX4_compare_1 8 rfl rfl)
theorem dX4_compare_33 : decode cX4_compare 33 = .ok (.iaload, 1) := dk_46 (dk_at dksX4_compare_1 9 rfl rfl)
theorem dX4_compare_34 : decode cX4_compare 34 = .ok (.aload_n 2, 1) := dk_44 (dk_at dksX4_compare_1 10 rfl rfl)
theorem dX4_compare_35 : decode cX4_compare 35 = .ok (.iload_n 3, 1) := dk_29 (dk_at dksX4_compare_1 11 rfl rfl)
theorem dX4_compare_36 : decode cX4_compare 36 = .ok (.iload 4, 2) := dk_21 4 (dk_at dksX4_compare_1 12 rfl rfl)
theorem dX4_compare_38 : decode cX4_compare 38 = .ok (.iadd, 1) := dk_96 (dk_at dksX4_compare_1 14 rfl rfl)
theorem dX4_compare_39 : decode cX4_compare 39 = .ok (.iaload, 1) := dk_46 (dk_at dksX4_compare_1 15 rfl rfl)
theorem dX4_compare_40 : decode cX4_compare 40 = .ok (.if_icmp .eq 17, 3) := dk_159 0 17 (dk_at dksX4_compare_1 16 rfl rfl)
theorem dX4_compare_43 : decode cX4_compare 43 = .ok (.aload_n 0, 1) := dk_42 (dk_at dksX4_compare_1 19 rfl rfl)
theorem dX4_compare_44 : decode cX4_compare 44 = .ok (.iload_n 1, 1) := dk_27 (dk_at dksX4_compare_1 20 rfl rfl)
theorem dX4_compare_45 : decode cX4_compare 45 = .ok (.iload 4, 2) := dk_21 4 (dk_at dksX4_compare_1 21 rfl rfl)
theorem dX4_compare_47 : decode cX4_compare 47 = .ok (.iadd, 1) := dk_96 (dk_at dksX4_compare_1 23 rfl rfl)
theorem dX4_compare_48 : decode cX4_compare 48 = .ok (.iaload, 1) := dk_46 (dk_at dksX4_compare_2 0 rfl rfl)
theorem dX4_compare_49 : decode cX4_compare 49 = .ok (.aload_n 2, 1) := dk_44 (dk_at dksX4_compare_2 1 rfl rfl)
theorem dX4_compare_50 : decode cX4_compare 50 = .ok (.iload_n 3, 1) := dk_29 (dk_at dksX4_compare_2 2 rfl rfl)
theorem dX4_compare_51 : decode cX4_compare 51 = .ok (.iload 4, 2) := dk_21 4 (dk_at dksX4_compare_2 3 rfl rfl)
theorem dX4_compare_53 : decode cX4_compare 53 = .ok (.iadd, 1) := dk_96 (dk_at dksX4_compare_2 5 rfl rfl)
theorem dX4_compare_54 : decode cX4_compare 54 = .ok (.iaload, 1) := dk_46 (dk_at dksX4_compare_2 6 rfl rfl)
theorem dX4_compare_55 : decode cX4_compare 55 = .ok (.isub, 1) := dk_100 (dk_at dksX4_compare_2 7 rfl rfl)
theorem dX4_compare_56 : decode cX4_compare 56 = .ok (.ireturn, 1) := dk_172 (dk_at dksX4_compare_2 8 rfl rfl)
theorem dX4_compare_57 : decode cX4_compare 57 = .ok (.iinc 4 1, 3) := dk_132 4 1 (dk_at dksX4_compare_2 9 rfl rfl)
theorem dX4_compare_60 : decode cX4_compare 60 = .ok (.goto (-40), 3) := dk_167 255 216 (dk_at dksX4_compare_2 12 rfl rfl)
theorem dX4_compare_63 : decode cX4_compare 63 = .ok (.iconst 0, 1) := dk_3 (dk_at dksX4_compare_2 15 rfl rfl)
theorem dX4_compare_64 : decode cX4_compare 64 = .ok (.ireturn, 1) := dk_172 (dk_at dksX4_compare_2 16 rfl rfl)
abbrev cX4_copyTerm : ByteArray := prog_10_method_80_code
def yX4_copyTerm : MethodName := ⟨RX4, "copyTerm", "(II)I"⟩
def dkwX4_copyTerm_1 : List UInt8 := [42, 180, 0, 22, 16, 96, 28, 104, 16, 96, 184, 0, 169, 42, 180, 0, 22, 16, 96, 28, 104, 46, 172]
abbrev dktX4_copyTerm_1 : List UInt8 := dkwX4_copyTerm_1 ++ []
def dkwX4_copyTerm_0 : List UInt8 := [27, 184, 1, 18, 153, 0, 10, 28, 184, 1, 18, 154, 0, 5, 2, 172, 42, 180, 0, 22, 16, 96, 27, 104]
abbrev dktX4_copyTerm_0 : List UInt8 := dkwX4_copyTerm_0 ++ dktX4_copyTerm_1
theorem dksX4_copyTerm_0 : cX4_copyTerm.data.toList.drop 0 = dktX4_copyTerm_0 := by decide +kernel
theorem dksX4_copyTerm_1 : cX4_copyTerm.data.toList.drop 24 = dktX4_copyTerm_1 := dk_seg dksX4_copyTerm_0 24 rfl rfl
theorem dX4_copyTerm_0 : decode cX4_copyTerm 0 = .ok (.iload_n 1, 1) := dk_27 (dk_at dksX4_copyTerm_0 0 rfl rfl)
theorem dX4_copyTerm_1 : decode cX4_copyTerm 1 = .ok (.invokestatic 274, 3) := dk_184 1 18 (dk_at dksX4_copyTerm_0 1 rfl rfl)
theorem dX4_copyTerm_4 : decode cX4_copyTerm 4 = .ok (.ifCond .eq 10, 3) := dk_153 0 10 (dk_at dksX4_copyTerm_0 4 rfl rfl)
theorem dX4_copyTerm_7 : decode cX4_copyTerm 7 = .ok (.iload_n 2, 1) := dk_28 (dk_at dksX4_copyTerm_0 7 rfl rfl)
theorem dX4_copyTerm_8 : decode cX4_copyTerm 8 = .ok (.invokestatic 274, 3) := dk_184 1 18 (dk_at dksX4_copyTerm_0 8 rfl rfl)
theorem dX4_copyTerm_11 : decode cX4_copyTerm 11 = .ok (.ifCond .ne 5, 3) := dk_154 0 5 (dk_at dksX4_copyTerm_0 11 rfl rfl)
theorem dX4_copyTerm_14 : decode cX4_copyTerm 14 = .ok (.iconst (-1), 1) := dk_2 (dk_at dksX4_copyTerm_0 14 rfl rfl)
theorem dX4_copyTerm_15 : decode cX4_copyTerm 15 = .ok (.ireturn, 1) := dk_172 (dk_at dksX4_copyTerm_0 15 rfl rfl)
theorem dX4_copyTerm_16 : decode cX4_copyTerm 16 = .ok (.aload_n 0, 1) := dk_42 (dk_at dksX4_copyTerm_0 16 rfl rfl)
theorem dX4_copyTerm_17 : decode cX4_copyTerm 17 = .ok (.getfield 22, 3) := dk_180 0 22 (dk_at dksX4_copyTerm_0 17 rfl rfl)
theorem dX4_copyTerm_20 : decode cX4_copyTerm 20 = .ok (.bipush 96, 2) := dk_16 96 (dk_at dksX4_copyTerm_0 20 rfl rfl)
theorem dX4_copyTerm_22 : decode cX4_copyTerm 22 = .ok (.iload_n 1, 1) := dk_27 (dk_at dksX4_copyTerm_0 22 rfl rfl)
theorem dX4_copyTerm_23 : decode cX4_copyTerm 23 = .ok (.imul, 1) := dk_104 (dk_at dksX4_copyTerm_0 23 rfl rfl)
theorem dX4_copyTerm_24 : decode cX4_copyTerm 24 = .ok (.aload_n 0, 1) := dk_42 (dk_at dksX4_copyTerm_1 0 rfl rfl)
theorem dX4_copyTerm_25 : decode cX4_copyTerm 25 = .ok (.getfield 22, 3) := dk_180 0 22 (dk_at dksX4_copyTerm_1 1 rfl rfl)
theorem dX4_copyTerm_28 : decode cX4_copyTerm 28 = .ok (.bipush 96, 2) := dk_16 96 (dk_at dksX4_copyTerm_1 4 rfl rfl)
theorem dX4_copyTerm_30 : decode cX4_copyTerm 30 = .ok (.iload_n 2, 1) := dk_28 (dk_at dksX4_copyTerm_1 6 rfl rfl)
theorem dX4_copyTerm_31 : decode cX4_copyTerm 31 = .ok (.imul, 1) := dk_104 (dk_at dksX4_copyTerm_1 7 rfl rfl)
theorem dX4_copyTerm_32 : decode cX4_copyTerm 32 = .ok (.bipush 96, 2) := dk_16 96 (dk_at dksX4_copyTerm_1 8 rfl rfl)
theorem dX4_copyTerm_34 : decode cX4_copyTerm 34 = .ok (.invokestatic 169, 3) := dk_184 0 169 (dk_at dksX4_copyTerm_1 10 rfl rfl)
theorem dX4_copyTerm_37 : decode cX4_copyTerm 37 = .ok (.aload_n 0, 1) := dk_42 (dk_at dksX4_copyTerm_1 13 rfl rfl)
theorem dX4_copyTerm_38 : decode cX4_copyTerm 38 = .ok (.getfield 22, 3) := dk_180 0 22 (dk_at dksX4_copyTerm_1 14 rfl rfl)
theorem dX4_copyTerm_41 : decode cX4_copyTerm 41 = .ok (.bipush 96, 2) := dk_16 96 (dk_at dksX4_copyTerm_1 17 rfl rfl)
theorem dX4_copyTerm_43 : decode cX4_copyTerm 43 = .ok (.iload_n 2, 1) := dk_28 (dk_at dksX4_copyTerm_1 19 rfl rfl)
theorem dX4_copyTerm_44 : decode cX4_copyTerm 44 = .ok (.imul, 1) := dk_104 (dk_at dksX4_copyTerm_1 20 rfl rfl)
theorem dX4_copyTerm_45 : decode cX4_copyTerm 45 = .ok (.iaload, 1) := dk_46 (dk_at dksX4_copyTerm_1 21 rfl rfl)
theorem dX4_copyTerm_46 : decode cX4_copyTerm 46 = .ok (.ireturn, 1) := dk_172 (dk_at dksX4_copyTerm_1 22 rfl rfl)
abbrev cX4_loadLeft : ByteArray := prog_10_method_82_code
def yX4_loadLeft : MethodName := ⟨RX4, "loadLeft", "(II)I"⟩
def dkwX4_loadLeft_1 : List UInt8 := [167, 0, 4, 2, 172]
abbrev dktX4_loadLeft_1 : List UInt8 := dkwX4_loadLeft_1 ++ []
def dkwX4_loadLeft_0 : List UInt8 := [42, 27, 182, 0, 176, 153, 0, 22, 28, 184, 1, 18, 153, 0, 15, 42, 27, 184, 0, 125, 28, 182, 1, 36]
abbrev dktX4_loadLeft_0 : List UInt8 := dkwX4_loadLeft_0 ++ dktX4_loadLeft_1
theorem dksX4_loadLeft_0 : cX4_loadLeft.data.toList.drop 0 = dktX4_loadLeft_0 := by decide +kernel
theorem dksX4_loadLeft_1 : cX4_loadLeft.data.toList.drop 24 = dktX4_loadLeft_1 := dk_seg dksX4_loadLeft_0 24 rfl rfl
theorem dX4_loadLeft_0 : decode cX4_loadLeft 0 = .ok (.aload_n 0, 1) := dk_42 (dk_at dksX4_loadLeft_0 0 rfl rfl)
theorem dX4_loadLeft_1 : decode cX4_loadLeft 1 = .ok (.iload_n 1, 1) := dk_27 (dk_at dksX4_loadLeft_0 1 rfl rfl)
theorem dX4_loadLeft_2 : decode cX4_loadLeft 2 = .ok (.invokevirtual 176, 3) := dk_182 0 176 (dk_at dksX4_loadLeft_0 2 rfl rfl)
theorem dX4_loadLeft_5 : decode cX4_loadLeft 5 = .ok (.ifCond .eq 22, 3) := dk_153 0 22 (dk_at dksX4_loadLeft_0 5 rfl rfl)
theorem dX4_loadLeft_8 : decode cX4_loadLeft 8 = .ok (.iload_n 2, 1) := dk_28 (dk_at dksX4_loadLeft_0 8 rfl rfl)
theorem dX4_loadLeft_9 : decode cX4_loadLeft 9 = .ok (.invokestatic 274, 3) := dk_184 1 18 (dk_at dksX4_loadLeft_0 9 rfl rfl)
theorem dX4_loadLeft_12 : decode cX4_loadLeft 12 = .ok (.ifCond .eq 15, 3) := dk_153 0 15 (dk_at dksX4_loadLeft_0 12 rfl rfl)
theorem dX4_loadLeft_15 : decode cX4_loadLeft 15 = .ok (.aload_n 0, 1) := dk_42 (dk_at dksX4_loadLeft_0 15 rfl rfl)
theorem dX4_loadLeft_16 : decode cX4_loadLeft 16 = .ok (.iload_n 1, 1) := dk_27 (dk_at dksX4_loadLeft_0 16 rfl rfl)
theorem dX4_loadLeft_17 : decode cX4_loadLeft 17 = .ok (.invokestatic 125, 3) := dk_184 0 125 (dk_at dksX4_loadLeft_0 17 rfl rfl)
theorem dX4_loadLeft_20 : decode cX4_loadLeft 20 = .ok (.iload_n 2, 1) := dk_28 (dk_at dksX4_loadLeft_0 20 rfl rfl)
theorem dX4_loadLeft_21 : decode cX4_loadLeft 21 = .ok (.invokevirtual 292, 3) := dk_182 1 36 (dk_at dksX4_loadLeft_0 21 rfl rfl)
theorem dX4_loadLeft_24 : decode cX4_loadLeft 24 = .ok (.goto 4, 3) := dk_167 0 4 (dk_at dksX4_loadLeft_1 0 rfl rfl)
theorem dX4_loadLeft_27 : decode cX4_loadLeft 27 = .ok (.iconst (-1), 1) := dk_2 (dk_at dksX4_loadLeft_1 3 rfl rfl)
theorem dX4_loadLeft_28 : decode cX4_loadLeft 28 = .ok (.ireturn, 1) := dk_172 (dk_at dksX4_loadLeft_1 4 rfl rfl)
abbrev cX4_load : ByteArray := prog_10_method_81_code
def yX4_load : MethodName := ⟨RX4, "load", "(II)I"⟩
def dkwX4_load_1 : List UInt8 := [172]
abbrev dktX4_load_1 : List UInt8 := dkwX4_load_1 ++ []
def dkwX4_load_0 : List UInt8 := [42, 180, 0, 16, 27, 42, 180, 0, 22, 16, 96, 28, 104, 16, 96, 184, 0, 169, 42, 180, 0, 16, 27, 46]
abbrev dktX4_load_0 : List UInt8 := dkwX4_load_0 ++ dktX4_load_1
theorem dksX4_load_0 : cX4_load.data.toList.drop 0 = dktX4_load_0 := by decide +kernel
theorem dksX4_load_1 : cX4_load.data.toList.drop 24 = dktX4_load_1 := dk_seg dksX4_load_0 24 rfl rfl
theorem dX4_load_0 : decode cX4_load 0 = .ok (.aload_n 0, 1) := dk_42 (dk_at dksX4_load_0 0 rfl rfl)
theorem dX4_load_1 : decode cX4_load 1 = .ok (.getfield 16, 3) := dk_180 0 16 (dk_at dksX4_load_0 1 rfl rfl)
theorem dX4_load_4 : decode cX4_load 4 = .ok (.iload_n 1, 1) := dk_27 (dk_at dksX4_load_0 4 rfl rfl)
theorem dX4_load_5 : decode cX4_load 5 = .ok (.aload_n 0, 1) := dk_42 (dk_at dksX4_load_0 5 rfl rfl)
theorem dX4_load_6 : decode cX4_load 6 = .ok (.getfield 22, 3) := dk_180 0 22 (dk_at dksX4_load_0 6 rfl rfl)
theorem dX4_load_9 : decode cX4_load 9 = .ok (.bipush 96, 2) := dk_16 96 (dk_at dksX4_load_0 9 rfl rfl)
theorem dX4_load_11 : decode cX4_load 11 = .ok (.iload_n 2, 1) := dk_28 (dk_at dksX4_load_0 11 rfl rfl)
theorem dX4_load_12 : decode cX4_load 12 = .ok (.imul, 1) := dk_104 (dk_at dksX4_load_0 12 rfl rfl)
theorem dX4_load_13 : decode cX4_load 13 = .ok (.bipush 96, 2) := dk_16 96 (dk_at dksX4_load_0 13 rfl rfl)
theorem dX4_load_15 : decode cX4_load 15 = .ok (.invokestatic 169, 3) := dk_184 0 169 (dk_at dksX4_load_0 15 rfl rfl)
theorem dX4_load_18 : decode cX4_load 18 = .ok (.aload_n 0, 1) := dk_42 (dk_at dksX4_load_0 18 rfl rfl)
theorem dX4_load_19 : decode cX4_load 19 = .ok (.getfield 16, 3) := dk_180 0 16 (dk_at dksX4_load_0 19 rfl rfl)
theorem dX4_load_22 : decode cX4_load 22 = .ok (.iload_n 1, 1) := dk_27 (dk_at dksX4_load_0 22 rfl rfl)
theorem dX4_load_23 : decode cX4_load 23 = .ok (.iaload, 1) := dk_46 (dk_at dksX4_load_0 23 rfl rfl)
theorem dX4_load_24 : decode cX4_load 24 = .ok (.ireturn, 1) := dk_172 (dk_at dksX4_load_1 0 rfl rfl)
abbrev cX4_loadRight : ByteArray := prog_10_method_83_code
def yX4_loadRight : MethodName := ⟨RX4, "loadRight", "(II)I"⟩
def dkwX4_loadRight_1 : List UInt8 := [167, 0, 4, 2, 172]
abbrev dktX4_loadRight_1 : List UInt8 := dkwX4_loadRight_1 ++ []
def dkwX4_loadRight_0 : List UInt8 := [42, 27, 182, 0, 176, 153, 0, 22, 28, 184, 1, 18, 153, 0, 15, 42, 27, 184, 0, 145, 28, 182, 1, 36]
abbrev dktX4_loadRight_0 : List UInt8 := dkwX4_loadRight_0 ++ dktX4_loadRight_1
theorem dksX4_loadRight_0 : cX4_loadRight.data.toList.drop 0 = dktX4_loadRight_0 := by decide +kernel
theorem dksX4_loadRight_1 : cX4_loadRight.data.toList.drop 24 = dktX4_loadRight_1 := dk_seg dksX4_loadRight_0 24 rfl rfl
theorem dX4_loadRight_0 : decode cX4_loadRight 0 = .ok (.aload_n 0, 1) := dk_42 (dk_at dksX4_loadRight_0 0 rfl rfl)
theorem dX4_loadRight_1 : decode cX4_loadRight 1 = .ok (.iload_n 1, 1) := dk_27 (dk_at dksX4_loadRight_0 1 rfl rfl)
theorem dX4_loadRight_2 : decode cX4_loadRight 2 = .ok (.invokevirtual 176, 3) := dk_182 0 176 (dk_at dksX4_loadRight_0 2 rfl rfl)
theorem dX4_loadRight_5 : decode cX4_loadRight 5 = .ok (.ifCond .eq 22, 3) := dk_153 0 22 (dk_at dksX4_loadRight_0 5 rfl rfl)
theorem dX4_loadRight_8 : decode cX4_loadRight 8 = .ok (.iload_n 2, 1) := dk_28 (dk_at dksX4_loadRight_0 8 rfl rfl)
theorem dX4_loadRight_9 : decode cX4_loadRight 9 = .ok (.invokestatic 274, 3) := dk_184 1 18 (dk_at dksX4_loadRight_0 9 rfl rfl)
theorem dX4_loadRight_12 : decode cX4_loadRight 12 = .ok (.ifCond .eq 15, 3) := dk_153 0 15 (dk_at dksX4_loadRight_0 12 rfl rfl)
theorem dX4_loadRight_15 : decode cX4_loadRight 15 = .ok (.aload_n 0, 1) := dk_42 (dk_at dksX4_loadRight_0 15 rfl rfl)
theorem dX4_loadRight_16 : decode cX4_loadRight 16 = .ok (.iload_n 1, 1) := dk_27 (dk_at dksX4_loadRight_0 16 rfl rfl)
theorem dX4_loadRight_17 : decode cX4_loadRight 17 = .ok (.invokestatic 145, 3) := dk_184 0 145 (dk_at dksX4_loadRight_0 17 rfl rfl)
theorem dX4_loadRight_20 : decode cX4_loadRight 20 = .ok (.iload_n 2, 1) := dk_28 (dk_at dksX4_loadRight_0 20 rfl rfl)
theorem dX4_loadRight_21 : decode cX4_loadRight 21 = .ok (.invokevirtual 292, 3) := dk_182 1 36 (dk_at dksX4_loadRight_0 21 rfl rfl)
theorem dX4_loadRight_24 : decode cX4_loadRight 24 = .ok (.goto 4, 3) := dk_167 0 4 (dk_at dksX4_loadRight_1 0 rfl rfl)
theorem dX4_loadRight_27 : decode cX4_loadRight 27 = .ok (.iconst (-1), 1) := dk_2 (dk_at dksX4_loadRight_1 3 rfl rfl)
theorem dX4_loadRight_28 : decode cX4_loadRight 28 = .ok (.ireturn, 1) := dk_172 (dk_at dksX4_loadRight_1 4 rfl rfl)
abbrev cX4_matches : ByteArray := prog_10_method_85_code
def yX4_matches : MethodName := ⟨RX4, "matches", "(III)I"⟩
def dkwX4_matches_1 : List UInt8 := [180, 0, 22, 16, 96, 28, 104, 4, 96, 29, 96, 182, 0, 138, 153, 0, 7, 4, 167, 0, 4, 3, 172]
abbrev dktX4_matches_1 : List UInt8 := dkwX4_matches_1 ++ []
def dkwX4_matches_0 : List UInt8 := [42, 27, 182, 0, 176, 153, 0, 12, 42, 28, 29, 182, 1, 39, 154, 0, 5, 2, 172, 42, 27, 42]
abbrev dktX4_matches_0 : List UInt8 := dkwX4_matches_0 ++ dktX4_matches_1
theorem dksX4_matches_0 : cX4_matches.data.toList.drop 0 = dktX4_matches_0 := by decide +kernel
theorem dksX4_matches_1 : cX4_matches.data.toList.drop 22 = dktX4_matches_1 := dk_seg dksX4_matches_0 22 rfl rfl
theorem dX4_matches_0 : decode cX4_matches 0 = .ok (.aload_n 0, 1) := dk_42 (dk_at dksX4_matches_0 0 rfl rfl)
theorem dX4_matches_1 : decode cX4_matches 1 = .ok (.iload_n 1, 1) := dk_27 (dk_at dksX4_matches_0 1 rfl rfl)
theorem dX4_matches_2 : decode cX4_matches 2 = .ok (.invokevirtual 176, 3) := dk_182 0 176 (dk_at dksX4_matches_0 2 rfl rfl)
theorem dX4_matches_5 : decode cX4_matches 5 = .ok (.ifCond .eq 12, 3) := dk_153 0 12 (dk_at dksX4_matches_0 5 rfl rfl)
theorem dX4_matches_8 : decode cX4_matches 8 = .ok (.aload_n 0, 1) := dk_42 (dk_at dksX4_matches_0 8 rfl rfl)
theorem dX4_matches_9 : decode cX4_matches 9 = .ok (.iload_n 2, 1) := dk_28 (dk_at dksX4_matches_0 9 rfl rfl)
theorem dX4_matches_10 : decode cX4_matches 10 = .ok (.iload_n 3, 1) := dk_29 (dk_at dksX4_matches_0 10 rfl rfl)
theorem dX4_matches_11 : decode cX4_matches 11 = .ok (.invokevirtual 295, 3) := dk_182 1 39 (dk_at dksX4_matches_0 11 rfl rfl)
theorem dX4_matches_14 : decode cX4_matches 14 = .ok (.ifCond .ne 5, 3) := dk_154 0 5 (dk_at dksX4_matches_0 14 rfl rfl)
theorem dX4_matches_17 : decode cX4_matches 17 = .ok (.iconst (-1), 1) := dk_2 (dk_at dksX4_matches_0 17 rfl rfl)
theorem dX4_matches_18 : decode cX4_matches 18 = .ok (.ireturn, 1) := dk_172 (dk_at dksX4_matches_0 18 rfl rfl)
theorem dX4_matches_19 : decode cX4_matches 19 = .ok (.aload_n 0, 1) := dk_42 (dk_at dksX4_matches_0 19 rfl rfl)
theorem dX4_matches_20 : decode cX4_matches 20 = .ok (.iload_n 1, 1) := dk_27 (dk_at dksX4_matches_0 20 rfl rfl)
theorem dX4_matches_21 : decode cX4_matches 21 = .ok (.aload_n 0, 1) := dk_42 (dk_at dksX4_matches_0 21 rfl rfl)
theorem dX4_matches_22 : decode cX4_matches 22 = .ok (.getfield 22, 3) := dk_180 0 22 (dk_at dksX4_matches_1 0 rfl rfl)
theorem dX4_matches_25 : decode cX4_matches 25 = .ok (.bipush 96, 2) := dk_16 96 (dk_at dksX4_matches_1 3 rfl rfl)
theorem dX4_matches_27 : decode cX4_matches 27 = .ok (.iload_n 2, 1) := dk_28 (dk_at dksX4_matches_1 5 rfl rfl)
theorem dX4_matches_28 : decode cX4_matches 28 = .ok (.imul, 1) := dk_104 (dk_at dksX4_matches_1 6 rfl rfl)
theorem dX4_matches_29 : decode cX4_matches 29 = .ok (.iconst 1, 1) := dk_4 (dk_at dksX4_matches_1 7 rfl rfl)
theorem dX4_matches_30 : decode cX4_matches 30 = .ok (.iadd, 1) := dk_96 (dk_at dksX4_matches_1 8 rfl rfl)
theorem dX4_matches_31 : decode cX4_matches 31 = .ok (.iload_n 3, 1) := dk_29 (dk_at dksX4_matches_1 9 rfl rfl)
theorem dX4_matches_32 : decode cX4_matches 32 = .ok (.iadd, 1) := dk_96 (dk_at dksX4_matches_1 10 rfl rfl)
theorem dX4_matches_33 : decode cX4_matches 33 = .ok (.invokevirtual 138, 3) := dk_182 0 138 (dk_at dksX4_matches_1 11 rfl rfl)
theorem dX4_matches_36 : decode cX4_matches 36 = .ok (.ifCond .eq 7, 3) := dk_153 0 7 (dk_at dksX4_matches_1 14 rfl rfl)
theorem dX4_matches_39 : decode cX4_matches 39 = .ok (.iconst 1, 1) := dk_4 (dk_at dksX4_matches_1 17 rfl rfl)
theorem dX4_matches_40 : decode cX4_matches 40 = .ok (.goto 4, 3) := dk_167 0 4 (dk_at dksX4_matches_1 18 rfl rfl)
theorem dX4_matches_43 : decode cX4_matches 43 = .ok (.iconst 0, 1) := dk_3 (dk_at dksX4_matches_1 21 rfl rfl)
theorem dX4_matches_44 : decode cX4_matches 44 = .ok (.ireturn, 1) := dk_172 (dk_at dksX4_matches_1 22 rfl rfl)
abbrev cX4_isPosition : ByteArray := prog_10_method_84_code
def yX4_isPosition : MethodName := ⟨RX4, "isPosition", "(II)Z"⟩
def dkwX4_isPosition_1 : List UInt8 := [153, 0, 7, 4, 167, 0, 4, 3, 172]
abbrev dktX4_isPosition_1 : List UInt8 := dkwX4_isPosition_1 ++ []
def dkwX4_isPosition_0 : List UInt8 := [27, 184, 1, 18, 153, 0, 26, 28, 3, 42, 180, 0, 22, 16, 96, 27, 104, 46, 4, 100, 184, 0, 105]
abbrev dktX4_isPosition_0 : List UInt8 := dkwX4_isPosition_0 ++ dktX4_isPosition_1
theorem dksX4_isPosition_0 : cX4_isPosition.data.toList.drop 0 = dktX4_isPosition_0 := by decide +kernel
theorem dksX4_isPosition_1 : cX4_isPosition.data.toList.drop 23 = dktX4_isPosition_1 := dk_seg dksX4_isPosition_0 23 rfl rfl
theorem dX4_isPosition_0 : decode cX4_isPosition 0 = .ok (.iload_n 1, 1) := dk_27 (dk_at dksX4_isPosition_0 0 rfl rfl)
theorem dX4_isPosition_1 : decode cX4_isPosition 1 = .ok (.invokestatic 274, 3) := dk_184 1 18 (dk_at dksX4_isPosition_0 1 rfl rfl)
theorem dX4_isPosition_4 : decode cX4_isPosition 4 = .ok (.ifCond .eq 26, 3) := dk_153 0 26 (dk_at dksX4_isPosition_0 4 rfl rfl)
theorem dX4_isPosition_7 : decode cX4_isPosition 7 = .ok (.iload_n 2, 1) := dk_28 (dk_at dksX4_isPosition_0 7 rfl rfl)
theorem dX4_isPosition_8 : decode cX4_isPosition 8 = .ok (.iconst 0, 1) := dk_3 (dk_at dksX4_isPosition_0 8 rfl rfl)
theorem dX4_isPosition_9 : decode cX4_isPosition 9 = .ok (.aload_n 0, 1) := dk_42 (dk_at dksX4_isPosition_0 9 rfl rfl)
theorem dX4_isPosition_10 : decode cX4_isPosition 10 = .ok (.getfield 22, 3) := dk_180 0 22 (dk_at dksX4_isPosition_0 10 rfl rfl)
theorem dX4_isPosition_13 : decode cX4_isPosition 13 = .ok (.bipush 96, 2) := dk_16 96 (dk_at dksX4_isPosition_0 13 rfl rfl)
theorem dX4_isPosition_15 : decode cX4_isPosition 15 = .ok (.iload_n 1, 1) := dk_27 (dk_at dksX4_isPosition_0 15 rfl rfl)
theorem dX4_isPosition_16 : decode cX4_isPosition 16 = .ok (.imul, 1) := dk_104 (dk_at dksX4_isPosition_0 16 rfl rfl)
theorem dX4_isPosition_17 : decode cX4_isPosition 17 = .ok (.iaload, 1) := dk_46 (dk_at dksX4_isPosition_0 17 rfl rfl)
theorem dX4_isPosition_18 : decode cX4_isPosition 18 = .ok (.iconst 1, 1) := dk_4 (dk_at dksX4_isPosition_0 18 rfl rfl)
theorem dX4_isPosition_19 : decode cX4_isPosition 19 = .ok (.isub, 1) := dk_100 (dk_at dksX4_isPosition_0 19 rfl rfl)
theorem dX4_isPosition_20 : decode cX4_isPosition 20 = .ok (.invokestatic 105, 3) := dk_184 0 105 (dk_at dksX4_isPosition_0 20 rfl rfl)
theorem dX4_isPosition_23 : decode cX4_isPosition 23 = .ok (.ifCond .eq 7, 3) := dk_153 0 7 (dk_at dksX4_isPosition_1 0 rfl rfl)
theorem dX4_isPosition_26 : decode cX4_isPosition 26 = .ok (.iconst 1, 1) := dk_4 (dk_at dksX4_isPosition_1 3 rfl rfl)
theorem dX4_isPosition_27 : decode cX4_isPosition 27 = .ok (.goto 4, 3) := dk_167 0 4 (dk_at dksX4_isPosition_1 4 rfl rfl)
theorem dX4_isPosition_30 : decode cX4_isPosition 30 = .ok (.iconst 0, 1) := dk_3 (dk_at dksX4_isPosition_1 7 rfl rfl)
theorem dX4_isPosition_31 : decode cX4_isPosition 31 = .ok (.ireturn, 1) := dk_172 (dk_at dksX4_isPosition_1 8 rfl rfl)
abbrev cX4_isMatch : ByteArray := prog_10_method_17_code
def yX4_isMatch : MethodName := ⟨RX4, "isMatch", "(I[II)Z"⟩
def dkwX4_isMatch_7 : List UInt8 := [184, 0, 134, 154, 0, 5, 3, 172, 21, 8, 54, 4, 132, 5, 1, 167, 255, 107, 4, 172]
abbrev dktX4_isMatch_7 : List UInt8 := dkwX4_isMatch_7 ++ []
def dkwX4_isMatch_6 : List UInt8 := [21, 4, 100, 160, 0, 25, 44, 42, 180, 0, 28, 21, 7, 46, 44, 21, 4, 21, 8, 21, 4, 100]
abbrev dktX4_isMatch_6 : List UInt8 := dkwX4_isMatch_6 ++ dktX4_isMatch_7
def dkwX4_isMatch_5 : List UInt8 := [42, 180, 0, 31, 21, 7, 21, 8, 21, 4, 100, 79, 167, 0, 42, 42, 180, 0, 31, 21, 7, 46, 21, 8]
abbrev dktX4_isMatch_5 : List UInt8 := dkwX4_isMatch_5 ++ dktX4_isMatch_6
def dkwX4_isMatch_4 : List UInt8 := [182, 0, 117, 54, 8, 42, 180, 0, 31, 21, 7, 46, 154, 0, 27, 42, 180, 0, 28, 21, 7, 21, 4, 79]
abbrev dktX4_isMatch_4 : List UInt8 := dkwX4_isMatch_4 ++ dktX4_isMatch_5
def dkwX4_isMatch_3 : List UInt8 := [159, 0, 5, 3, 172, 132, 4, 1, 167, 0, 96, 21, 6, 184, 0, 131, 54, 7, 42, 44, 21, 4]
abbrev dktX4_isMatch_3 : List UInt8 := dkwX4_isMatch_3 ++ dktX4_isMatch_4
def dkwX4_isMatch_2 : List UInt8 := [184, 0, 125, 21, 5, 96, 46, 54, 6, 21, 6, 184, 0, 128, 154, 0, 20, 44, 21, 4, 46, 21, 6]
abbrev dktX4_isMatch_2 : List UInt8 := dkwX4_isMatch_2 ++ dktX4_isMatch_3
def dkwX4_isMatch_1 : List UInt8 := [54, 4, 4, 54, 5, 21, 5, 42, 180, 0, 16, 27, 184, 0, 125, 46, 163, 0, 141, 42, 180, 0, 16, 27]
abbrev dktX4_isMatch_1 : List UInt8 := dkwX4_isMatch_1 ++ dktX4_isMatch_2
def dkwX4_isMatch_0 : List UInt8 := [3, 54, 4, 21, 4, 6, 162, 0, 17, 42, 180, 0, 31, 21, 4, 3, 79, 132, 4, 1, 167, 255, 239, 29]
abbrev dktX4_isMatch_0 : List UInt8 := dkwX4_isMatch_0 ++ dktX4_isMatch_1
theorem dksX4_isMatch_0 : cX4_isMatch.data.toList.drop 0 = dktX4_isMatch_0 := by decide +kernel
theorem dksX4_isMatch_1 : cX4_isMatch.data.toList.drop 24 = dktX4_isMatch_1 := dk_seg dksX4_isMatch_0 24 rfl rfl
theorem dksX4_isMatch_2 : cX4_isMatch.data.toList.drop 48 = dktX4_isMatch_2 := dk_seg dksX4_isMatch_1 24 rfl rfl
theorem dksX4_isMatch_3 : cX4_isMatch.data.toList.drop 71 = dktX4_isMatch_3 := dk_seg dksX4_isMatch_2 23 rfl rfl
theorem dksX4_isMatch_4 : cX4_isMatch.data.toList.drop 93 = dktX4_isMatch_4 := dk_seg dksX4_isMatch_3 22 rfl rfl
theorem dksX4_isMatch_5 : cX4_isMatch.data.toList.drop 117 = dktX4_isMatch_5 := dk_seg dksX4_isMatch_4 24 rfl rfl
theorem dksX4_isMatch_6 : cX4_isMatch.data.toList.drop 141 = dktX4_isMatch_6 := dk_seg dksX4_isMatch_5 24 rfl rfl
theorem dksX4_isMatch_7 : cX4_isMatch.data.toList.drop 163 = dktX4_isMatch_7 := dk_seg dksX4_isMatch_6 22 rfl rfl
theorem dX4_isMatch_0 : decode cX4_isMatch 0 = .ok (.iconst 0, 1) := dk_3 (dk_at dksX4_isMatch_0 0 rfl rfl)
theorem dX4_isMatch_1 : decode cX4_isMatch 1 = .ok (.istore 4, 2) := dk_54 4 (dk_at dksX4_isMatch_0 1 rfl rfl)
theorem dX4_isMatch_3 : decode cX4_isMatch 3 = .ok (.iload 4, 2) := dk_21 4 (dk_at dksX4_isMatch_0 3 rfl rfl)
theorem dX4_isMatch_5 : decode cX4_isMatch 5 = .ok (.iconst 3, 1) := dk_6 (dk_at dksX4_isMatch_0 5 rfl rfl)
theorem dX4_isMatch_6 : decode cX4_isMatch 6 = .ok (.if_icmp .ge 17, 3) := dk_162 0 17 (dk_at dksX4_isMatch_0 6 rfl rfl)
theorem dX4_isMatch_9 : decode cX4_isMatch 9 = .ok (.aload_n 0, 1) := dk_42 (dk_at dksX4_isMatch_0 9 rfl rfl)
theorem dX4_isMatch_10 : decode cX4_isMatch 10 = .ok (.getfield 31, 3) := dk_180 0 31 (dk_at dksX4_isMatch_0 10 rfl rfl)
theorem dX4_isMatch_13 : decode cX4_isMatch 13 = .ok (.iload 4, 2) := dk_21 4 (dk_at dksX4_isMatch_0 13 rfl rfl)
theorem dX4_isMatch_15 : decode cX4_isMatch 15 = .ok (.iconst 0, 1) := dk_3 (dk_at dksX4_isMatch_0 15 rfl rfl)
theorem dX4_isMatch_16 : decode cX4_isMatch 16 = .ok (.iastore, 1) := dk_79 (dk_at dksX4_isMatch_0 16 rfl rfl)
theorem dX4_isMatch_17 : decode cX4_isMatch 17 = .ok (.iinc 4 1, 3) := dk_132 4 1 (dk_at dksX4_isMatch_0 17 rfl rfl)
theorem dX4_isMatch_20 : decode cX4_isMatch 20 = .ok (.goto (-17), 3) := dk_167 255 239 (dk_at dksX4_isMatch_0 20 rfl rfl)
theorem dX4_isMatch_23 : decode cX4_isMatch 23 = .ok (.iload_n 3, 1) := dk_29 (dk_at dksX4_isMatch_0 23 rfl rfl)
theorem dX4_isMatch_24 : decode cX4_isMatch 24 = .ok (.istore 4, 2) := dk_54 4 (dk_at dksX4_isMatch_1 0 rfl rfl)
theorem dX4_isMatch_26 : decode cX4_isMatch 26 = .ok (.iconst 1, 1) := dk_4 (dk_at dksX4_isMatch_1 2 rfl rfl)
theorem dX4_isMatch_27 : decode cX4_isMatch 27 = .ok (.istore 5, 2) := dk_54 5 (dk_at dksX4_isMatch_1 3 rfl rfl)
theorem dX4_isMatch_29 : decode cX4_isMatch 29 = .ok (.iload 5, 2) := dk_21 5 (dk_at dksX4_isMatch_1 5 rfl rfl)
theorem dX4_isMatch_31 : decode cX4_isMatch 31 = .ok (.aload_n 0, 1) := dk_42 (dk_at dksX4_isMatch_1 7 rfl rfl)
theorem dX4_isMatch_32 : decode cX4_isMatch 32 = .ok (.getfield 16, 3) := dk_180 0 16 (dk_at dksX4_isMatch_1 8 rfl rfl)
theorem dX4_isMatch_35 : decode cX4_isMatch 35 = .ok (.iload_n 1, 1) := dk_27 (dk_at dksX4_isMatch_1 11 rfl rfl)
theorem dX4_isMatch_36 : decode cX4_isMatch 36 = .ok (.invokestatic 125, 3) := dk_184 0 125 (dk_at dksX4_isMatch_1 12 rfl rfl)
theorem dX4_isMatch_39 : decode cX4_isMatch 39 = .ok (.iaload, 1) := dk_46 (dk_at dksX4_isMatch_1 15 rfl rfl)
theorem dX4_isMatch_40 : decode cX4_isMatch 40 = .ok (.if_icmp .gt 141, 3) := dk_163 0 141 (dk_at dksX4_isMatch_1 16 rfl rfl)
theorem dX4_isMatch_43 : decode cX4_isMatch 43 = .ok (.aload_n 0, 1) := dk_42 (dk_at dksX4_isMatch_1 19 rfl rfl)
theorem dX4_isMatch_44 : decode cX4_isMatch 44 = .ok (.getfield 16, 3) := dk_180 0 16 (dk_at dksX4_isMatch_1 20 rfl rfl)
theorem dX4_isMatch_47 : decode cX4_isMatch 47 = .ok (.iload_n 1, 1) := dk_27 (dk_at dksX4_isMatch_1 23 rfl rfl)
theorem dX4_isMatch_48 : decode cX4_isMatch 48 = .ok (.invokestatic 125, 3) := dk_184 0 125 (dk_at dksX4_isMatch_2 0 rfl rfl)
theorem dX4_isMatch_51 : decode cX4_isMatch 51 = .ok (.iload 5, 2) := dk_21 5 (dk_at dksX4_isMatch_2 3 rfl rfl)
theorem dX4_isMatch_53 : decode cX4_isMatch 53 = .ok (.iadd, 1) := dk_96 (dk_at dksX4_isMatch_2 5 rfl rfl)
theorem dX4_isMatch_54 : decode cX4_isMatch 54 = .ok (.iaload, 1) := dk_46 (dk_at dksX4_isMatch_2 6 rfl rfl)
theorem dX4_isMatch_55 : decode cX4_isMatch 55 = .ok (.istore 6, 2) := dk_54 6 (dk_at dksX4_isMatch_2 7 rfl rfl)
theorem dX4_isMatch_57 : decode cX4_isMatch 57 = .ok (.iload 6, 2) := dk_21 6 (dk_at dksX4_isMatch_2 9 rfl rfl)
theorem dX4_isMatch_59 : decode cX4_isMatch 59 = .ok (.invokestatic 128, 3) := dk_184 0 128 (dk_at dksX4_isMatch_2 11 rfl rfl)
theorem dX4_isMatch_62 : decode cX4_isMatch 62 = .ok (.ifCond .ne 20, 3) := dk_154 0 20 (dk_at dksX4_isMatch_2 14 rfl rfl)
theorem dX4_isMatch_65 : decode cX4_isMatch 65 = .ok (.aload_n 2, 1) := dk_44 (dk_at dksX4_isMatch_2 17 rfl rfl)
theorem dX4_isMatch_66 : decode cX4_isMatch 66 = .ok (.iload 4, 2) := dk_21 4 (dk_at dksX4_isMatch_2 18 rfl rfl)
theorem dX4_isMatch_68 : decode cX4_isMatch 68 = .ok (.iaload, 1) := dk_46 (dk_at dksX4_isMatch_2 20 rfl rfl)
theorem dX4_isMatch_69 : decode cX4_isMatch 69 = .ok (.iload 6, 2) := dk_21 6 (dk_at dksX4_isMatch_2 21 rfl rfl)
theorem dX4_isMatch_71 : decode cX4_isMatch 71 = .ok (.if_icmp .eq 5, 3) := dk_159 0 5 (dk_at dksX4_isMatch_3 0 rfl rfl)
theorem dX4_isMatch_74 : decode cX4_isMatch 74 = .ok (.iconst 0, 1) := dk_3 (dk_at dksX4_isMatch_3 3 rfl rfl)
theorem dX4_isMatch_75 : decode cX4_isMatch 75 = .ok (.ireturn, 1) := dk_172 (dk_at dksX4_isMatch_3 4 rfl rfl)
theorem dX4_isMatch_76 : decode cX4_isMatch 76 = .ok (.iinc 4 1, 3) := dk_132 4 1 (dk_at dksX4_isMatch_3 5 rfl rfl)
theorem dX4_isMatch_79 : decode cX4_isMatch 79 = .ok (.goto 96, 3) := dk_167 0 96 (dk_at dksX4_isMatch_3 8 rfl rfl)
theorem dX4_isMatch_82 : decode cX4_isMatch 82 = .ok (.iload 6, 2) := dk_21 6 (dk_at dksX4_isMatch_3 11 rfl rfl)
theorem dX4_isMatch_84 : decode cX4_isMatch 84 = .ok (.invokestatic 131, 3) := dk_184 0 131 (dk_at dksX4_isMatch_3 13 rfl rfl)
theorem dX4_isMatch_87 : decode cX4_isMatch 87 = .ok (.istore 7, 2) := dk_54 7 (dk_at dksX4_isMatch_3 16 rfl rfl)
theorem dX4_isMatch_89 : decode cX4_isMatch 89 = .ok (.aload_n 0, 1) := dk_42 (dk_at dksX4_isMatch_3 18 rfl rfl)
theorem dX4_isMatch_90 : decode cX4_isMatch 90 = .ok (.aload_n 2, 1) := dk_44 (dk_at dksX4_isMatch_3 19 rfl rfl)
theorem dX4_isMatch_91 : decode cX4_isMatch 91 = .ok (.iload 4, 2) := dk_21 4 (dk_at dksX4_isMatch_3 20 rfl rfl)
theorem dX4_isMatch_93 : decode cX4_isMatch 93 = .ok (.invokevirtual 117, 3) := dk_182 0 117 (dk_at dksX4_isMatch_4 0 rfl rfl)
theorem dX4_isMatch_96 : decode cX4_isMatch 96 = .ok (.istore 8, 2) := dk_54 8 (dk_at dksX4_isMatch_4 3 rfl rfl)
theorem dX4_isMatch_98 : decode cX4_isMatch 98 = .ok (.aload_n 0, 1) := dk_42 (dk_at dksX4_isMatch_4 5 rfl rfl)
theorem dX4_isMatch_99 : decode cX4_isMatch 99 = .ok (.getfield 31, 3) := dk_180 0 31 (dk_at dksX4_isMatch_4 6 rfl rfl)
theorem dX4_isMatch_102 : decode cX4_isMatch 102 = .ok (.iload 7, 2) := dk_21 7 (dk_at dksX4_isMatch_4 9 rfl rfl)
theorem dX4_isMatch_104 : decode cX4_isMatch 104 = .ok (.iaload, 1) := dk_46 (dk_at dksX4_isMatch_4 11 rfl rfl)
theorem dX4_isMatch_105 : decode cX4_isMatch 105 = .ok (.ifCond .ne 27, 3) := dk_154 0 27 (dk_at dksX4_isMatch_4 12 rfl rfl)
theorem dX4_isMatch_108 : decode cX4_isMatch 108 = .ok (.aload_n 0, 1) := dk_42 (dk_at dksX4_isMatch_4 15 rfl rfl)
theorem dX4_isMatch_109 : decode cX4_isMatch 109 = .ok (.getfield 28, 3) := dk_180 0 28 (dk_at dksX4_isMatch_4 16 rfl rfl)
theorem dX4_isMatch_112 : decode cX4_isMatch 112 = .ok (.iload 7, 2) := dk_21 7 (dk_at dksX4_isMatch_4 19 rfl rfl)
theorem dX4_isMatch_114 : decode cX4_isMatch 114 = .ok (.iload 4, 2) := dk_21 4 (dk_at dksX4_isMatch_4 21 rfl rfl)
theorem dX4_isMatch_116 : decode cX4_isMatch 116 = .ok (.iastore, 1) := dk_79 (dk_at dksX4_isMatch_4 23 rfl rfl)
theorem dX4_isMatch_117 : decode cX4_isMatch 117 = .ok (.aload_n 0, 1) := dk_42 (dk_at dksX4_isMatch_5 0 rfl rfl)
theorem dX4_isMatch_118 : decode cX4_isMatch 118 = .ok (.getfield 31, 3) := dk_180 0 31 (dk_at dksX4_isMatch_5 1 rfl rfl)
theorem dX4_isMatch_121 : decode cX4_isMatch 121 = .ok (.iload 7, 2) := dk_21 7 (dk_at dksX4_isMatch_5 4 rfl rfl)
theorem dX4_isMatch_123 : decode cX4_isMatch 123 = .ok (.iload 8, 2) := dk_21 8 (dk_at dksX4_isMatch_5 6 rfl rfl)
theorem dX4_isMatch_125 : decode cX4_isMatch 125 = .ok (.iload 4, 2) := dk_21 4 (dk_at dksX4_isMatch_5 8 rfl rfl)
theorem dX4_isMatch_127 : decode cX4_isMatch 127 = .ok (.isub, 1) := dk_100 (dk_at dksX4_isMatch_5 10 rfl rfl)
theorem dX4_isMatch_128 : decode cX4_isMatch 128 = .ok (.iastore, 1) := dk_79 (dk_at dksX4_isMatch_5 11 rfl rfl)
theorem dX4_isMatch_129 : decode cX4_isMatch 129 = .ok (.goto 42, 3) := dk_167 0 42 (dk_at dksX4_isMatch_5 12 rfl rfl)
theorem dX4_isMatch_132 : decode cX4_isMatch 132 = .ok (.aload_n 0, 1) := dk_42 (dk_at dksX4_isMatch_5 15 rfl rfl)
theorem dX4_isMatch_133 : decode cX4_isMatch 133 = .ok (.getfield 31, 3) := dk_180 0 31 (dk_at dksX4_isMatch_5 16 rfl rfl)
theorem dX4_isMatch_136 : decode cX4_isMatch 136 = .ok (.iload 7, 2) := dk_21 7 (dk_at dksX4_isMatch_5 19 rfl rfl)
theorem dX4_isMatch_138 : decode cX4_isMatch 138 = .ok (.iaload, 1) := dk_46 (dk_at dksX4_isMatch_5 21 rfl rfl)
theorem dX4_isMatch_139 : decode cX4_isMatch 139 = .ok (.iload 8, 2) := dk_21 8 (dk_at dksX4_isMatch_5 22 rfl rfl)
theorem dX4_isMatch_141 : decode cX4_isMatch 141 = .ok (.iload 4, 2) := dk_21 4 (dk_at dksX4_isMatch_6 0 rfl rfl)
theorem dX4_isMatch_143 : decode cX4_isMatch 143 = .ok (.isub, 1) := dk_100 (dk_at dksX4_isMatch_6 2 rfl rfl)
theorem dX4_isMatch_144 : decode cX4_isMatch 144 = .ok (.if_icmp .ne 25, 3) := dk_160 0 25 (dk_at dksX4_isMatch_6 3 rfl rfl)
theorem dX4_isMatch_147 : decode cX4_isMatch 147 = .ok (.aload_n 2, 1) := dk_44 (dk_at dksX4_isMatch_6 6 rfl rfl)
theorem dX4_isMatch_148 : decode cX4_isMatch 148 = .ok (.aload_n 0, 1) := dk_42 (dk_at dksX4_isMatch_6 7 rfl rfl)
theorem dX4_isMatch_149 : decode cX4_isMatch 149 = .ok (.getfield 28, 3) := dk_180 0 28 (dk_at dksX4_isMatch_6 8 rfl rfl)
theorem dX4_isMatch_152 : decode cX4_isMatch 152 = .ok (.iload 7, 2) := dk_21 7 (dk_at dksX4_isMatch_6 11 rfl rfl)
theorem dX4_isMatch_154 : decode cX4_isMatch 154 = .ok (.iaload, 1) := dk_46 (dk_at dksX4_isMatch_6 13 rfl rfl)
theorem dX4_isMatch_155 : decode cX4_isMatch 155 = .ok (.aload_n 2, 1) := dk_44 (dk_at dksX4_isMatch_6 14 rfl rfl)
theorem dX4_isMatch_156 : decode cX4_isMatch 156 = .ok (.iload 4, 2) := dk_21 4 (dk_at dksX4_isMatch_6 15 rfl rfl)
theorem dX4_isMatch_158 : decode cX4_isMatch 158 = .ok (.iload 8, 2) := dk_21 8 (dk_at dksX4_isMatch_6 17 rfl rfl)
theorem dX4_isMatch_160 : decode cX4_isMatch 160 = .ok (.iload 4, 2) := dk_21 4 (dk_at dksX4_isMatch_6 19 rfl rfl)
theorem dX4_isMatch_162 : decode cX4_isMatch 162 = .ok (.isub, 1) := dk_100 (dk_at dksX4_isMatch_6 21 rfl rfl)
theorem dX4_isMatch_163 : decode cX4_isMatch 163 = .ok (.invokestatic 134, 3) := dk_184 0 134 (dk_at dksX4_isMatch_7 0 rfl rfl)
theorem dX4_isMatch_166 : decode cX4_isMatch 166 = .ok (.ifCond .ne 5, 3) := dk_154 0 5 (dk_at dksX4_isMatch_7 3 rfl rfl)
theorem dX4_isMatch_169 : decode cX4_isMatch 169 = .ok (.iconst 0, 1) := dk_3 (dk_at dksX4_isMatch_7 6 rfl rfl)
theorem dX4_isMatch_170 : decode cX4_isMatch 170 = .ok (.ireturn, 1) := dk_172 (dk_at dksX4_isMatch_7 7 rfl rfl)
theorem dX4_isMatch_171 : decode cX4_isMatch 171 = .ok (.iload 8, 2) := dk_21 8 (dk_at dksX4_isMatch_7 8 rfl rfl)
theorem dX4_isMatch_173 : decode cX4_isMatch 173 = .ok (.istore 4, 2) := dk_54 4 (dk_at dksX4_isMatch_7 10 rfl rfl)
theorem dX4_isMatch_175 : decode cX4_isMatch 175 = .ok (.iinc 5 1, 3) := dk_132 5 1 (dk_at dksX4_isMatch_7 12 rfl rfl)
theorem dX4_isMatch_178 : decode cX4_isMatch 178 = .ok (.goto (-149), 3) := dk_167 255 107 (dk_at dksX4_isMatch_7 15 rfl rfl)
theorem dX4_isMatch_181 : decode cX4_isMatch 181 = .ok (.iconst 1, 1) := dk_4 (dk_at dksX4_isMatch_7 18 rfl rfl)
theorem dX4_isMatch_182 : decode cX4_isMatch 182 = .ok (.ireturn, 1) := dk_172 (dk_at dksX4_isMatch_7 19 rfl rfl)
abbrev cX4_variable : ByteArray := prog_10_method_16_code
def yX4_variable : MethodName := ⟨RX4, "variable", "(I)I"⟩
def dkwX4_variable_0 : List UInt8 := [26, 16, 120, 160, 0, 7, 3, 167, 0, 14, 26, 16, 121, 160, 0, 7, 4, 167, 0, 4, 5, 172]
abbrev dktX4_variable_0 : List UInt8 := dkwX4_variable_0 ++ []
theorem dksX4_variable_0 : cX4_variable.data.toList.drop 0 = dktX4_variable_0 := by decide +kernel
theorem dX4_variable_0 : decode cX4_variable 0 = .ok (.iload_n 0, 1) := dk_26 (dk_at dksX4_variable_0 0 rfl rfl)
theorem dX4_variable_1 : decode cX4_variable 1 = .ok (.bipush 120, 2) := dk_16 120 (dk_at dksX4_variable_0 1 rfl rfl)
theorem dX4_variable_3 : decode cX4_variable 3 = .ok (.if_icmp .ne 7, 3) := dk_160 0 7 (dk_at dksX4_variable_0 3 rfl rfl)
theorem dX4_variable_6 : decode cX4_variable 6 = .ok (.iconst 0, 1) := dk_3 (dk_at dksX4_variable_0 6 rfl rfl)
theorem dX4_variable_7 : decode cX4_variable 7 = .ok (.goto 14, 3) := dk_167 0 14 (dk_at dksX4_variable_0 7 rfl rfl)
theorem dX4_variable_10 : decode cX4_variable 10 = .ok (.iload_n 0, 1) := dk_26 (dk_at dksX4_variable_0 10 rfl rfl)
theorem dX4_variable_11 : decode cX4_variable 11 = .ok (.bipush 121, 2) := dk_16 121 (dk_at dksX4_variable_0 11 rfl rfl)
theorem dX4_variable_13 : decode cX4_variable 13 = .ok (.if_icmp .ne 7, 3) := dk_160 0 7 (dk_at dksX4_variable_0 13 rfl rfl)
theorem dX4_variable_16 : decode cX4_variable 16 = .ok (.iconst 1, 1) := dk_4 (dk_at dksX4_variable_0 16 rfl rfl)
theorem dX4_variable_17 : decode cX4_variable 17 = .ok (.goto 4, 3) := dk_167 0 4 (dk_at dksX4_variable_0 17 rfl rfl)
theorem dX4_variable_20 : decode cX4_variable 20 = .ok (.iconst 2, 1) := dk_5 (dk_at dksX4_variable_0 20 rfl rfl)
theorem dX4_variable_21 : decode cX4_variable 21 = .ok (.ireturn, 1) := dk_172 (dk_at dksX4_variable_0 21 rfl rfl)
abbrev cX4_redexCount : ByteArray := prog_10_method_86_code
def yX4_redexCount : MethodName := ⟨RX4, "redexCount", "(I)I"⟩
def dkwX4_redexCount_1 : List UInt8 := [172]
abbrev dktX4_redexCount_1 : List UInt8 := dkwX4_redexCount_1 ++ []
def dkwX4_redexCount_0 : List UInt8 := [27, 184, 1, 18, 153, 0, 19, 42, 42, 180, 0, 22, 16, 96, 27, 104, 2, 182, 1, 42, 167, 0, 4, 2]
abbrev dktX4_redexCount_0 : List UInt8 := dkwX4_redexCount_0 ++ dktX4_redexCount_1
theorem dksX4_redexCount_0 : cX4_redexCount.data.toList.drop 0 = dktX4_redexCount_0 := by decide +kernel
theorem dksX4_redexCount_1 : cX4_redexCount.data.toList.drop 24 = dktX4_redexCount_1 := dk_seg dksX4_redexCount_0 24 rfl rfl
theorem dX4_redexCount_0 : decode cX4_redexCount 0 = .ok (.iload_n 1, 1) := dk_27 (dk_at dksX4_redexCount_0 0 rfl rfl)
theorem dX4_redexCount_1 : decode cX4_redexCount 1 = .ok (.invokestatic 274, 3) := dk_184 1 18 (dk_at dksX4_redexCount_0 1 rfl rfl)
theorem dX4_redexCount_4 : decode cX4_redexCount 4 = .ok (.ifCond .eq 19, 3) := dk_153 0 19 (dk_at dksX4_redexCount_0 4 rfl rfl)
theorem dX4_redexCount_7 : decode cX4_redexCount 7 = .ok (.aload_n 0, 1) := dk_42 (dk_at dksX4_redexCount_0 7 rfl rfl)
theorem dX4_redexCount_8 : decode cX4_redexCount 8 = .ok (.aload_n 0, 1) := dk_42 (dk_at dksX4_redexCount_0 8 rfl rfl)
theorem dX4_redexCount_9 : decode cX4_redexCount 9 = .ok (.getfield 22, 3) := dk_180 0 22 (dk_at dksX4_redexCount_0 9 rfl rfl)
theorem dX4_redexCount_12 : decode cX4_redexCount 12 = .ok (.bipush 96, 2) := dk_16 96 (dk_at dksX4_redexCount_0 12 rfl rfl)
theorem dX4_redexCount_14 : decode cX4_redexCount 14 = .ok (.iload_n 1, 1) := dk_27 (dk_at dksX4_redexCount_0 14 rfl rfl)
theorem dX4_redexCount_15 : decode cX4_redexCount 15 = .ok (.imul, 1) := dk_104 (dk_at dksX4_redexCount_0 15 rfl rfl)
theorem dX4_redexCount_16 : decode cX4_redexCount 16 = .ok (.iconst (-1), 1) := dk_2 (dk_at dksX4_redexCount_0 16 rfl rfl)
theorem dX4_redexCount_17 : decode cX4_redexCount 17 = .ok (.invokevirtual 298, 3) := dk_182 1 42 (dk_at dksX4_redexCount_0 17 rfl rfl)
theorem dX4_redexCount_20 : decode cX4_redexCount 20 = .ok (.goto 4, 3) := dk_167 0 4 (dk_at dksX4_redexCount_0 20 rfl rfl)
theorem dX4_redexCount_23 : decode cX4_redexCount 23 = .ok (.iconst (-1), 1) := dk_2 (dk_at dksX4_redexCount_0 23 rfl rfl)
theorem dX4_redexCount_24 : decode cX4_redexCount 24 = .ok (.ireturn, 1) := dk_172 (dk_at dksX4_redexCount_1 0 rfl rfl)
abbrev cX4_redex : ByteArray := prog_10_method_20_code
def yX4_redex : MethodName := ⟨RX4, "redex", "([III)I"⟩
def dkwX4_redex_2 : List UInt8 := [29, 156, 0, 8, 21, 4, 167, 0, 5, 16, 251, 172]
abbrev dktX4_redex_2 : List UInt8 := dkwX4_redex_2 ++ []
def dkwX4_redex_1 : List UInt8 := [182, 0, 142, 155, 0, 15, 21, 4, 29, 160, 0, 6, 21, 5, 172, 132, 4, 1, 132, 5, 1, 167, 255, 219]
abbrev dktX4_redex_1 : List UInt8 := dkwX4_redex_1 ++ dktX4_redex_2
def dkwX4_redex_0 : List UInt8 := [3, 54, 4, 3, 54, 5, 21, 5, 43, 28, 46, 162, 0, 35, 42, 43, 28, 4, 96, 21, 5, 96]
abbrev dktX4_redex_0 : List UInt8 := dkwX4_redex_0 ++ dktX4_redex_1
theorem dksX4_redex_0 : cX4_redex.data.toList.drop 0 = dktX4_redex_0 := by decide +kernel
theorem dksX4_redex_1 : cX4_redex.data.toList.drop 22 = dktX4_redex_1 := dk_seg dksX4_redex_0 22 rfl rfl
theorem dksX4_redex_2 : cX4_redex.data.toList.drop 46 = dktX4_redex_2 := dk_seg dksX4_redex_1 24 rfl rfl
theorem dX4_redex_0 : decode cX4_redex 0 = .ok (.iconst 0, 1) := dk_3 (dk_at dksX4_redex_0 0 rfl rfl)
theorem dX4_redex_1 : decode cX4_redex 1 = .ok (.istore 4, 2) := dk_54 4 (dk_at dksX4_redex_0 1 rfl rfl)
theorem dX4_redex_3 : decode cX4_redex 3 = .ok (.iconst 0, 1) := dk_3 (dk_at dksX4_redex_0 3 rfl rfl)
theorem dX4_redex_4 : decode cX4_redex 4 = .ok (.istore 5, 2) := dk_54 5 (dk_at dksX4_redex_0 4 rfl rfl)
theorem dX4_redex_6 : decode cX4_redex 6 = .ok (.iload 5, 2) := dk_21 5 (dk_at dksX4_redex_0 6 rfl rfl)
theorem dX4_redex_8 : decode cX4_redex 8 = .ok (.aload_n 1, 1) := dk_43 (dk_at dksX4_redex_0 8 rfl rfl)
theorem dX4_redex_9 : decode cX4_redex 9 = .ok (.iload_n 2, 1) := dk_28 (dk_at dksX4_redex_0 9 rfl rfl)
theorem dX4_redex_10 : decode cX4_redex 10 = .ok (.iaload, 1) := dk_46 (dk_at dksX4_redex_0 10 rfl rfl)
theorem dX4_redex_11 : decode cX4_redex 11 = .ok (.if_icmp .ge 35, 3) := dk_162 0 35 (dk_at dksX4_redex_0 11 rfl rfl)
theorem dX4_redex_14 : decode cX4_redex 14 = .ok (.aload_n 0, 1) := dk_42 (dk_at dksX4_redex_0 14 rfl rfl)
theorem dX4_redex_15 : decode cX4_redex 15 = .ok (.aload_n 1, 1) := dk_43 (dk_at dksX4_redex_0 15 rfl rfl)
theorem dX4_redex_16 : decode cX4_redex 16 = .ok (.iload_n 2, 1) := dk_28 (dk_at dksX4_redex_0 16 rfl rfl)
theorem dX4_redex_17 : decode cX4_redex 17 = .ok (.iconst 1, 1) := dk_4 (dk_at dksX4_redex_0 17 rfl rfl)
theorem dX4_redex_18 : decode cX4_redex 18 = .ok (.iadd, 1) := dk_96 (dk_at dksX4_redex_0 18 rfl rfl)
theorem dX4_redex_19 : decode cX4_redex 19 = .ok (.iload 5, 2) := dk_21 5 (dk_at dksX4_redex_0 19 rfl rfl)
theorem dX4_redex_21 : decode cX4_redex 21 = .ok (.iadd, 1) := dk_96 (dk_at dksX4_redex_0 21 rfl rfl)
theorem dX4_redex_22 : decode cX4_redex 22 = .ok (.invokevirtual 142, 3) := dk_182 0 142 (dk_at dksX4_redex_1 0 rfl rfl)
theorem dX4_redex_25 : decode cX4_redex 25 = .ok (.ifCond .lt 15, 3) := dk_155 0 15 (dk_at dksX4_redex_1 3 rfl rfl)
theorem dX4_redex_28 : decode cX4_redex 28 = .ok (.iload 4, 2) := dk_21 4 (dk_at dksX4_redex_1 6 rfl rfl)
theorem dX4_redex_30 : decode cX4_redex 30 = .ok (.iload_n 3, 1) := dk_29 (dk_at dksX4_redex_1 8 rfl rfl)
theorem dX4_redex_31 : decode cX4_redex 31 = .ok (.if_icmp .ne 6, 3) := dk_160 0 6 (dk_at dksX4_redex_1 9 rfl rfl)
theorem dX4_redex_34 : decode cX4_redex 34 = .ok (.iload 5, 2) := dk_21 5 (dk_at dksX4_redex_1 12 rfl rfl)
theorem dX4_redex_36 : decode cX4_redex 36 = .ok (.ireturn, 1) := dk_172 (dk_at dksX4_redex_1 14 rfl rfl)
theorem dX4_redex_37 : decode cX4_redex 37 = .ok (.iinc 4 1, 3) := dk_132 4 1 (dk_at dksX4_redex_1 15 rfl rfl)
theorem dX4_redex_40 : decode cX4_redex 40 = .ok (.iinc 5 1, 3) := dk_132 5 1 (dk_at dksX4_redex_1 18 rfl rfl)
theorem dX4_redex_43 : decode cX4_redex 43 = .ok (.goto (-37), 3) := dk_167 255 219 (dk_at dksX4_redex_1 21 rfl rfl)
theorem dX4_redex_46 : decode cX4_redex 46 = .ok (.iload_n 3, 1) := dk_29 (dk_at dksX4_redex_2 0 rfl rfl)
theorem dX4_redex_47 : decode cX4_redex 47 = .ok (.ifCond .ge 8, 3) := dk_156 0 8 (dk_at dksX4_redex_2 1 rfl rfl)
theorem dX4_redex_50 : decode cX4_redex 50 = .ok (.iload 4, 2) := dk_21 4 (dk_at dksX4_redex_2 4 rfl rfl)
theorem dX4_redex_52 : decode cX4_redex 52 = .ok (.goto 5, 3) := dk_167 0 5 (dk_at dksX4_redex_2 6 rfl rfl)
theorem dX4_redex_55 : decode cX4_redex 55 = .ok (.bipush (-5), 2) := dk_16 251 (dk_at dksX4_redex_2 9 rfl rfl)
theorem dX4_redex_57 : decode cX4_redex 57 = .ok (.ireturn, 1) := dk_172 (dk_at dksX4_redex_2 11 rfl rfl)
abbrev cX4_matching : ByteArray := prog_10_method_18_code
def yX4_matching : MethodName := ⟨RX4, "matching", "([II)I"⟩
def dkwX4_matching_1 : List UInt8 := [132, 3, 1, 167, 255, 233, 16, 251, 172]
abbrev dktX4_matching_1 : List UInt8 := dkwX4_matching_1 ++ []
def dkwX4_matching_0 : List UInt8 := [3, 62, 29, 42, 180, 0, 121, 162, 0, 21, 42, 29, 43, 28, 182, 0, 138, 153, 0, 5, 29, 172]
abbrev dktX4_matching_0 : List UInt8 := dkwX4_matching_0 ++ dktX4_matching_1
theorem dksX4_matching_0 : cX4_matching.data.toList.drop 0 = dktX4_matching_0 := by decide +kernel
theorem dksX4_matching_1 : cX4_matching.data.toList.drop 22 = dktX4_matching_1 := dk_seg dksX4_matching_0 22 rfl rfl
theorem dX4_matching_0 : decode cX4_matching 0 = .ok (.iconst 0, 1) := dk_3 (dk_at dksX4_matching_0 0 rfl rfl)
theorem dX4_matching_1 : decode cX4_matching 1 = .ok (.istore_n 3, 1) := dk_62 (dk_at dksX4_matching_0 1 rfl rfl)
theorem dX4_matching_2 : decode cX4_matching 2 = .ok (.iload_n 3, 1) := dk_29 (dk_at dksX4_matching_0 2 rfl rfl)
theorem dX4_matching_3 : decode cX4_matching 3 = .ok (.aload_n 0, 1) := dk_42 (dk_at dksX4_matching_0 3 rfl rfl)
theorem dX4_matching_4 : decode cX4_matching 4 = .ok (.getfield 121, 3) := dk_180 0 121 (dk_at dksX4_matching_0 4 rfl rfl)
theorem dX4_matching_7 : decode cX4_matching 7 = .ok (.if_icmp .ge 21, 3) := dk_162 0 21 (dk_at dksX4_matching_0 7 rfl rfl)
theorem dX4_matching_10 : decode cX4_matching 10 = .ok (.aload_n 0, 1) := dk_42 (dk_at dksX4_matching_0 10 rfl rfl)
theorem dX4_matching_11 : decode cX4_matching 11 = .ok (.iload_n 3, 1) := dk_29 (dk_at dksX4_matching_0 11 rfl rfl)
theorem dX4_matching_12 : decode cX4_matching 12 = .ok (.aload_n 1, 1) := dk_43 (dk_at dksX4_matching_0 12 rfl rfl)
theorem dX4_matching_13 : decode cX4_matching 13 = .ok (.iload_n 2, 1) := dk_28 (dk_at dksX4_matching_0 13 rfl rfl)
theorem dX4_matching_14 : decode cX4_matching 14 = .ok (.invokevirtual 138, 3) := dk_182 0 138 (dk_at dksX4_matching_0 14 rfl rfl)
theorem dX4_matching_17 : decode cX4_matching 17 = .ok (.ifCond .eq 5, 3) := dk_153 0 5 (dk_at dksX4_matching_0 17 rfl rfl)
theorem dX4_matching_20 : decode cX4_matching 20 = .ok (.iload_n 3, 1) := dk_29 (dk_at dksX4_matching_0 20 rfl rfl)
theorem dX4_matching_21 : decode cX4_matching 21 = .ok (.ireturn, 1) := dk_172 (dk_at dksX4_matching_0 21 rfl rfl)
theorem dX4_matching_22 : decode cX4_matching 22 = .ok (.iinc 3 1, 3) := dk_132 3 1 (dk_at dksX4_matching_1 0 rfl rfl)
theorem dX4_matching_25 : decode cX4_matching 25 = .ok (.goto (-23), 3) := dk_167 255 233 (dk_at dksX4_matching_1 3 rfl rfl)
theorem dX4_matching_28 : decode cX4_matching 28 = .ok (.bipush (-5), 2) := dk_16 251 (dk_at dksX4_matching_1 6 rfl rfl)
theorem dX4_matching_30 : decode cX4_matching 30 = .ok (.ireturn, 1) := dk_172 (dk_at dksX4_matching_1 8 rfl rfl)
abbrev cX4_redexAt : ByteArray := prog_10_method_87_code
def yX4_redexAt : MethodName := ⟨RX4, "redexAt", "(II)I"⟩
def dkwX4_redexAt_1 : List UInt8 := [167, 0, 4, 2, 172]
abbrev dktX4_redexAt_1 : List UInt8 := dkwX4_redexAt_1 ++ []
def dkwX4_redexAt_0 : List UInt8 := [27, 184, 1, 18, 153, 0, 23, 28, 155, 0, 19, 42, 42, 180, 0, 22, 16, 96, 27, 104, 28, 182, 1, 42]
abbrev dktX4_redexAt_0 : List UInt8 := dkwX4_redexAt_0 ++ dktX4_redexAt_1
theorem dksX4_redexAt_0 : cX4_redexAt.data.toList.drop 0 = dktX4_redexAt_0 := by decide +kernel
theorem dksX4_redexAt_1 : cX4_redexAt.data.toList.drop 24 = dktX4_redexAt_1 := dk_seg dksX4_redexAt_0 24 rfl rfl
theorem dX4_redexAt_0 : decode cX4_redexAt 0 = .ok (.iload_n 1, 1) := dk_27 (dk_at dksX4_redexAt_0 0 rfl rfl)
theorem dX4_redexAt_1 : decode cX4_redexAt 1 = .ok (.invokestatic 274, 3) := dk_184 1 18 (dk_at dksX4_redexAt_0 1 rfl rfl)
theorem dX4_redexAt_4 : decode cX4_redexAt 4 = .ok (.ifCond .eq 23, 3) := dk_153 0 23 (dk_at dksX4_redexAt_0 4 rfl rfl)
theorem dX4_redexAt_7 : decode cX4_redexAt 7 = .ok (.iload_n 2, 1) := dk_28 (dk_at dksX4_redexAt_0 7 rfl rfl)
theorem dX4_redexAt_8 : decode cX4_redexAt 8 = .ok (.ifCond .lt 19, 3) := dk_155 0 19 (dk_at dksX4_redexAt_0 8 rfl rfl)
theorem dX4_redexAt_11 : decode cX4_redexAt 11 = .ok (.aload_n 0, 1) := dk_42 (dk_at dksX4_redexAt_0 11 rfl rfl)
theorem dX4_redexAt_12 : decode cX4_redexAt 12 = .ok (.aload_n 0, 1) := dk_42 (dk_at dksX4_redexAt_0 12 rfl rfl)
theorem dX4_redexAt_13 : decode cX4_redexAt 13 = .ok (.getfield 22, 3) := dk_180 0 22 (dk_at dksX4_redexAt_0 13 rfl rfl)
theorem dX4_redexAt_16 : decode cX4_redexAt 16 = .ok (.bipush 96, 2) := dk_16 96 (dk_at dksX4_redexAt_0 16 rfl rfl)
theorem dX4_redexAt_18 : decode cX4_redexAt 18 = .ok (.iload_n 1, 1) := dk_27 (dk_at dksX4_redexAt_0 18 rfl rfl)
theorem dX4_redexAt_19 : decode cX4_redexAt 19 = .ok (.imul, 1) := dk_104 (dk_at dksX4_redexAt_0 19 rfl rfl)
theorem dX4_redexAt_20 : decode cX4_redexAt 20 = .ok (.iload_n 2, 1) := dk_28 (dk_at dksX4_redexAt_0 20 rfl rfl)
theorem dX4_redexAt_21 : decode cX4_redexAt 21 = .ok (.invokevirtual 298, 3) := dk_182 1 42 (dk_at dksX4_redexAt_0 21 rfl rfl)
theorem dX4_redexAt_24 : decode cX4_redexAt 24 = .ok (.goto 4, 3) := dk_167 0 4 (dk_at dksX4_redexAt_1 0 rfl rfl)
theorem dX4_redexAt_27 : decode cX4_redexAt 27 = .ok (.iconst (-1), 1) := dk_2 (dk_at dksX4_redexAt_1 3 rfl rfl)
theorem dX4_redexAt_28 : decode cX4_redexAt 28 = .ok (.ireturn, 1) := dk_172 (dk_at dksX4_redexAt_1 4 rfl rfl)
abbrev cX4_rewriteAt : ByteArray := prog_10_method_88_code
def yX4_rewriteAt : MethodName := ⟨RX4, "rewriteAt", "(II)I"⟩
def dkwX4_rewriteAt_2 : List UInt8 := [172]
abbrev dktX4_rewriteAt_2 : List UInt8 := dkwX4_rewriteAt_2 ++ []
def dkwX4_rewriteAt_1 : List UInt8 := [62, 29, 158, 0, 21, 42, 180, 0, 34, 3, 42, 180, 0, 22, 16, 96, 27, 104, 16, 96, 184, 0, 169, 29]
abbrev dktX4_rewriteAt_1 : List UInt8 := dkwX4_rewriteAt_1 ++ dktX4_rewriteAt_2
def dkwX4_rewriteAt_0 : List UInt8 := [42, 27, 28, 182, 1, 39, 154, 0, 5, 2, 172, 42, 42, 180, 0, 22, 16, 96, 27, 104, 28, 182, 1, 45]
abbrev dktX4_rewriteAt_0 : List UInt8 := dkwX4_rewriteAt_0 ++ dktX4_rewriteAt_1
theorem dksX4_rewriteAt_0 : cX4_rewriteAt.data.toList.drop 0 = dktX4_rewriteAt_0 := by decide +kernel
theorem dksX4_rewriteAt_1 : cX4_rewriteAt.data.toList.drop 24 = dktX4_rewriteAt_1 := dk_seg dksX4_rewriteAt_0 24 rfl rfl
theorem dksX4_rewriteAt_2 : cX4_rewriteAt.data.toList.drop 48 = dktX4_rewriteAt_2 := dk_seg dksX4_rewriteAt_1 24 rfl rfl
theorem dX4_rewriteAt_0 : decode cX4_rewriteAt 0 = .ok (.aload_n 0, 1) := dk_42 (dk_at dksX4_rewriteAt_0 0 rfl rfl)
theorem dX4_rewriteAt_1 : decode cX4_rewriteAt 1 = .ok (.iload_n 1, 1) := dk_27 (dk_at dksX4_rewriteAt_0 1 rfl rfl)
theorem dX4_rewriteAt_2 : decode cX4_rewriteAt 2 = .ok (.iload_n 2, 1) := dk_28 (dk_at dksX4_rewriteAt_0 2 rfl rfl)
theorem dX4_rewriteAt_3 : decode cX4_rewriteAt 3 = .ok (.invokevirtual 295, 3) := dk_182 1 39 (dk_at dksX4_rewriteAt_0 3 rfl rfl)
theorem dX4_rewriteAt_6 : decode cX4_rewriteAt 6 = .ok (.ifCond .ne 5, 3) := dk_154 0 5 (dk_at dksX4_rewriteAt_0 6 rfl rfl)
theorem dX4_rewriteAt_9 : decode cX4_rewriteAt 9 = .ok (.iconst (-1), 1) := dk_2 (dk_at dksX4_rewriteAt_0 9 rfl rfl)
theorem dX4_rewriteAt_10 : decode cX4_rewriteAt 10 = .ok (.ireturn, 1) := dk_172 (dk_at dksX4_rewriteAt_0 10 rfl rfl)
theorem dX4_rewriteAt_11 : decode cX4_rewriteAt 11 = .ok (.aload_n 0, 1) := dk_42 (dk_at dksX4_rewriteAt_0 11 rfl rfl)
theorem dX4_rewriteAt_12 : decode cX4_rewriteAt 12 = .ok (.aload_n 0, 1) := dk_42 (dk_at dksX4_rewriteAt_0 12 rfl rfl)
theorem dX4_rewriteAt_13 : decode cX4_rewriteAt 13 = .ok (.getfield 22, 3) := dk_180 0 22 (dk_at dksX4_rewriteAt_0 13 rfl rfl)
theorem dX4_rewriteAt_16 : decode cX4_rewriteAt 16 = .ok (.bipush 96, 2) := dk_16 96 (dk_at dksX4_rewriteAt_0 16 rfl rfl)
theorem dX4_rewriteAt_18 : decode cX4_rewriteAt 18 = .ok (.iload_n 1, 1) := dk_27 (dk_at dksX4_rewriteAt_0 18 rfl rfl)
theorem dX4_rewriteAt_19 : decode cX4_rewriteAt 19 = .ok (.imul, 1) := dk_104 (dk_at dksX4_rewriteAt_0 19 rfl rfl)
theorem dX4_rewriteAt_20 : decode cX4_rewriteAt 20 = .ok (.iload_n 2, 1) := dk_28 (dk_at dksX4_rewriteAt_0 20 rfl rfl)
theorem dX4_rewriteAt_21 : decode cX4_rewriteAt 21 = .ok (.invokevirtual 301, 3) := dk_182 1 45 (dk_at dksX4_rewriteAt_0 21 rfl rfl)
theorem dX4_rewriteAt_24 : decode cX4_rewriteAt 24 = .ok (.istore_n 3, 1) := dk_62 (dk_at dksX4_rewriteAt_1 0 rfl rfl)
theorem dX4_rewriteAt_25 : decode cX4_rewriteAt 25 = .ok (.iload_n 3, 1) := dk_29 (dk_at dksX4_rewriteAt_1 1 rfl rfl)
theorem dX4_rewriteAt_26 : decode cX4_rewriteAt 26 = .ok (.ifCond .le 21, 3) := dk_158 0 21 (dk_at dksX4_rewriteAt_1 2 rfl rfl)
theorem dX4_rewriteAt_29 : decode cX4_rewriteAt 29 = .ok (.aload_n 0, 1) := dk_42 (dk_at dksX4_rewriteAt_1 5 rfl rfl)
theorem dX4_rewriteAt_30 : decode cX4_rewriteAt 30 = .ok (.getfield 34, 3) := dk_180 0 34 (dk_at dksX4_rewriteAt_1 6 rfl rfl)
theorem dX4_rewriteAt_33 : decode cX4_rewriteAt 33 = .ok (.iconst 0, 1) := dk_3 (dk_at dksX4_rewriteAt_1 9 rfl rfl)
theorem dX4_rewriteAt_34 : decode cX4_rewriteAt 34 = .ok (.aload_n 0, 1) := dk_42 (dk_at dksX4_rewriteAt_1 10 rfl rfl)
theorem dX4_rewriteAt_35 : decode cX4_rewriteAt 35 = .ok (.getfield 22, 3) := dk_180 0 22 (dk_at dksX4_rewriteAt_1 11 rfl rfl)
theorem dX4_rewriteAt_38 : decode cX4_rewriteAt 38 = .ok (.bipush 96, 2) := dk_16 96 (dk_at dksX4_rewriteAt_1 14 rfl rfl)
theorem dX4_rewriteAt_40 : decode cX4_rewriteAt 40 = .ok (.iload_n 1, 1) := dk_27 (dk_at dksX4_rewriteAt_1 16 rfl rfl)
theorem dX4_rewriteAt_41 : decode cX4_rewriteAt 41 = .ok (.imul, 1) := dk_104 (dk_at dksX4_rewriteAt_1 17 rfl rfl)
theorem dX4_rewriteAt_42 : decode cX4_rewriteAt 42 = .ok (.bipush 96, 2) := dk_16 96 (dk_at dksX4_rewriteAt_1 18 rfl rfl)
theorem dX4_rewriteAt_44 : decode cX4_rewriteAt 44 = .ok (.invokestatic 169, 3) := dk_184 0 169 (dk_at dksX4_rewriteAt_1 20 rfl rfl)
theorem dX4_rewriteAt_47 : decode cX4_rewriteAt 47 = .ok (.iload_n 3, 1) := dk_29 (dk_at dksX4_rewriteAt_1 23 rfl rfl)
theorem dX4_rewriteAt_48 : decode cX4_rewriteAt 48 = .ok (.ireturn, 1) := dk_172 (dk_at dksX4_rewriteAt_2 0 rfl rfl)
abbrev cX4_rewrite : ByteArray := prog_10_method_19_code
def yX4_rewrite : MethodName := ⟨RX4, "rewrite", "([III)I"⟩
def dkwX4_rewrite_13 : List UInt8 := [79, 132, 8, 1, 132, 9, 1, 167, 255, 229, 42, 180, 0, 34, 3, 21, 7, 79, 21, 7, 172]
abbrev dktX4_rewrite_13 : List UInt8 := dkwX4_rewrite_13 ++ []
def dkwX4_rewrite_12 : List UInt8 := [21, 6, 54, 9, 21, 9, 28, 43, 28, 46, 96, 163, 0, 23, 42, 180, 0, 34, 21, 8, 43, 21, 9, 46]
abbrev dktX4_rewrite_12 : List UInt8 := dkwX4_rewrite_12 ++ dktX4_rewrite_13
def dkwX4_rewrite_11 : List UInt8 := [21, 11, 46, 21, 13, 96, 46, 79, 132, 8, 1, 132, 13, 1, 167, 255, 214, 132, 9, 1, 167, 255, 137]
abbrev dktX4_rewrite_11 : List UInt8 := dkwX4_rewrite_11 ++ dktX4_rewrite_12
def dkwX4_rewrite_10 : List UInt8 := [162, 0, 41, 42, 180, 0, 34, 21, 8, 21, 11, 156, 0, 8, 21, 10, 167, 0, 15, 43, 42, 180, 0, 28]
abbrev dktX4_rewrite_10 : List UInt8 := dkwX4_rewrite_10 ++ dktX4_rewrite_11
def dkwX4_rewrite_9 : List UInt8 := [156, 0, 7, 4, 167, 0, 10, 42, 180, 0, 31, 21, 11, 46, 54, 12, 3, 54, 13, 21, 13, 21, 12]
abbrev dktX4_rewrite_9 : List UInt8 := dkwX4_rewrite_9 ++ dktX4_rewrite_10
def dkwX4_rewrite_8 : List UInt8 := [21, 10, 184, 0, 128, 153, 0, 11, 21, 10, 184, 0, 131, 167, 0, 5, 16, 251, 54, 11, 21, 11]
abbrev dktX4_rewrite_8 : List UInt8 := dkwX4_rewrite_8 ++ dktX4_rewrite_9
def dkwX4_rewrite_7 : List UInt8 := [21, 5, 184, 0, 145, 46, 163, 0, 110, 42, 180, 0, 16, 21, 5, 184, 0, 145, 21, 9, 96, 46, 54, 10]
abbrev dktX4_rewrite_7 : List UInt8 := dkwX4_rewrite_7 ++ dktX4_rewrite_8
def dkwX4_rewrite_6 : List UInt8 := [43, 21, 9, 46, 79, 132, 8, 1, 132, 9, 1, 167, 255, 232, 4, 54, 9, 21, 9, 42, 180, 0, 16]
abbrev dktX4_rewrite_6 : List UInt8 := dkwX4_rewrite_6 ++ dktX4_rewrite_7
def dkwX4_rewrite_5 : List UInt8 := [16, 248, 172, 4, 54, 8, 28, 4, 96, 54, 9, 21, 9, 21, 4, 162, 0, 23, 42, 180, 0, 34, 21, 8]
abbrev dktX4_rewrite_5 : List UInt8 := dkwX4_rewrite_5 ++ dktX4_rewrite_6
def dkwX4_rewrite_4 : List UInt8 := [184, 0, 131, 46, 167, 0, 4, 4, 96, 54, 7, 132, 8, 1, 167, 255, 196, 21, 7, 16, 40, 164, 0, 6]
abbrev dktX4_rewrite_4 : List UInt8 := dkwX4_rewrite_4 ++ dktX4_rewrite_5
def dkwX4_rewrite_3 : List UInt8 := [21, 8, 96, 46, 54, 9, 21, 7, 21, 9, 184, 0, 128, 153, 0, 16, 42, 180, 0, 31, 21, 9]
abbrev dktX4_rewrite_3 : List UInt8 := dkwX4_rewrite_3 ++ dktX4_rewrite_4
def dkwX4_rewrite_2 : List UInt8 := [21, 8, 42, 180, 0, 16, 21, 5, 184, 0, 145, 46, 163, 0, 51, 42, 180, 0, 16, 21, 5, 184, 0, 145]
abbrev dktX4_rewrite_2 : List UInt8 := dkwX4_rewrite_2 ++ dktX4_rewrite_3
def dkwX4_rewrite_1 : List UInt8 := [42, 43, 21, 4, 182, 0, 117, 54, 6, 43, 28, 46, 21, 6, 21, 4, 100, 100, 54, 7, 4, 54, 8]
abbrev dktX4_rewrite_1 : List UInt8 := dkwX4_rewrite_1 ++ dktX4_rewrite_2
def dkwX4_rewrite_0 : List UInt8 := [28, 4, 96, 29, 96, 54, 4, 42, 43, 21, 4, 182, 0, 142, 54, 5, 21, 5, 156, 0, 6, 16, 251, 172]
abbrev dktX4_rewrite_0 : List UInt8 := dkwX4_rewrite_0 ++ dktX4_rewrite_1
theorem dksX4_rewrite_0 : cX4_rewrite.data.toList.drop 0 = dktX4_rewrite_0 := by decide +kernel
theorem dksX4_rewrite_1 : cX4_rewrite.data.toList.drop 24 = dktX4_rewrite_1 := dk_seg dksX4_rewrite_0 24 rfl rfl
theorem dksX4_rewrite_2 : cX4_rewrite.data.toList.drop 47 = dktX4_rewrite_2 := dk_seg dksX4_rewrite_1 23 rfl rfl
theorem dksX4_rewrite_3 : cX4_rewrite.data.toList.drop 71 = dktX4_rewrite_3 := dk_seg dksX4_rewrite_2 24 rfl rfl
theorem dksX4_rewrite_4 : cX4_rewrite.data.toList.drop 93 = dktX4_rewrite_4 := dk_seg dksX4_rewrite_3 22 rfl rfl
theorem dksX4_rewrite_5 : cX4_rewrite.data.toList.drop 117 = dktX4_rewrite_5 := dk_seg dksX4_rewrite_4 24 rfl rfl
theorem dksX4_rewrite_6 : cX4_rewrite.data.toList.drop 141 = dktX4_rewrite_6 := dk_seg dksX4_rewrite_5 24 rfl rfl
theorem dksX4_rewrite_7 : cX4_rewrite.data.toList.drop 164 = dktX4_rewrite_7 := dk_seg dksX4_rewrite_6 23 rfl rfl
theorem dksX4_rewrite_8 : cX4_rewrite.data.toList.drop 188 = dktX4_rewrite_8 := dk_seg dksX4_rewrite_7 24 rfl rfl
theorem dksX4_rewrite_9 : cX4_rewrite.data.toList.drop 210 = dktX4_rewrite_9 := dk_seg dksX4_rewrite_8 22 rfl rfl
theorem dksX4_rewrite_10 : cX4_rewrite.data.toList.drop 233 = dktX4_rewrite_10 := dk_seg dksX4_rewrite_9 23 rfl rfl
theorem dksX4_rewrite_11 : cX4_rewrite.data.toList.drop 257 = dktX4_rewrite_11 := dk_seg dksX4_rewrite_10 24 rfl rfl
theorem dksX4_rewrite_12 : cX4_rewrite.data.toList.drop 280 = dktX4_rewrite_12 := dk_seg dksX4_rewrite_11 23 rfl rfl
theorem dksX4_rewrite_13 : cX4_rewrite.data.toList.drop 304 = dktX4_rewrite_13 := dk_seg dksX4_rewrite_12 24 rfl rfl
theorem dX4_rewrite_0 : decode cX4_rewrite 0 = .ok (.iload_n 2, 1) := dk_28 (dk_at dksX4_rewrite_0 0 rfl rfl)
theorem dX4_rewrite_1 : decode cX4_rewrite 1 = .ok (.iconst 1, 1) := dk_4 (dk_at dksX4_rewrite_0 1 rfl rfl)
theorem dX4_rewrite_2 : decode cX4_rewrite 2 = .ok (.iadd, 1) := dk_96 (dk_at dksX4_rewrite_0 2 rfl rfl)
theorem dX4_rewrite_3 : decode cX4_rewrite 3 = .ok (.iload_n 3, 1) := dk_29 (dk_at dksX4_rewrite_0 3 rfl rfl)
theorem dX4_rewrite_4 : decode cX4_rewrite 4 = .ok (.iadd, 1) := dk_96 (dk_at dksX4_rewrite_0 4 rfl rfl)
theorem dX4_rewrite_5 : decode cX4_rewrite 5 = .ok (.istore 4, 2) := dk_54 4 (dk_at dksX4_rewrite_0 5 rfl rfl)
theorem dX4_rewrite_7 : decode cX4_rewrite 7 = .ok (.aload_n 0, 1) := dk_42 (dk_at dksX4_rewrite_0 7 rfl rfl)
theorem dX4_rewrite_8 : decode cX4_rewrite 8 = .ok (.aload_n 1, 1) := dk_43 (dk_at dksX4_rewrite_0 8 rfl rfl)
theorem dX4_rewrite_9 : decode cX4_rewrite 9 = .ok (.iload 4, 2) := dk_21 4 (dk_at dksX4_rewrite_0 9 rfl rfl)
theorem dX4_rewrite_11 : decode cX4_rewrite 11 = .ok (.invokevirtual 142, 3) := dk_182 0 142 (dk_at dksX4_rewrite_0 11 rfl rfl)
theorem dX4_rewrite_14 : decode cX4_rewrite 14 = .ok (.istore 5, 2) := dk_54 5 (dk_at dksX4_rewrite_0 14 rfl rfl)
theorem dX4_rewrite_16 : decode cX4_rewrite 16 = .ok (.iload 5, 2) := dk_21 5 (dk_at dksX4_rewrite_0 16 rfl rfl)
theorem dX4_rewrite_18 : decode cX4_rewrite 18 = .ok (.ifCond .ge 6, 3) := dk_156 0 6 (dk_at dksX4_rewrite_0 18 rfl rfl)
theorem dX4_rewrite_21 : decode cX4_rewrite 21 = .ok (.bipush (-5), 2) := dk_16 251 (dk_at dksX4_rewrite_0 21 rfl rfl)
theorem dX4_rewrite_23 : decode cX4_rewrite 23 = .ok (.ireturn, 1) := dk_172 (dk_at dksX4_rewrite_0 23 rfl rfl)
theorem dX4_rewrite_24 : decode cX4_rewrite 24 = .ok (.aload_n 0, 1) := dk_42 (dk_at dksX4_rewrite_1 0 rfl rfl)
theorem dX4_rewrite_25 : decode cX4_rewrite 25 = .ok (.aload_n 1, 1) := dk_43 (dk_at dksX4_rewrite_1 1 rfl rfl)
theorem dX4_rewrite_26 : decode cX4_rewrite 26 = .ok (.iload 4, 2) := dk_21 4 (dk_at dksX4_rewrite_1 2 rfl rfl)
theorem dX4_rewrite_28 : decode cX4_rewrite 28 = .ok (.invokevirtual 117, 3) := dk_182 0 117 (dk_at dksX4_rewrite_1 4 rfl rfl)
theorem dX4_rewrite_31 : decode cX4_rewrite 31 = .ok (.istore 6, 2) := dk_54 6 (dk_at dksX4_rewrite_1 7 rfl rfl)
theorem dX4_rewrite_33 : decode cX4_rewrite 33 = .ok (.aload_n 1, 1) := dk_43 (dk_at dksX4_rewrite_1 9 rfl rfl)
theorem dX4_rewrite_34 : decode cX4_rewrite 34 = .ok (.iload_n 2, 1) := dk_28 (dk_at dksX4_rewrite_1 10 rfl rfl)
theorem dX4_rewrite_35 : decode cX4_rewrite 35 = .ok (.iaload, 1) := dk_46 (dk_at dksX4_rewrite_1 11 rfl rfl)
theorem dX4_rewrite_36 : decode cX4_rewrite 36 = .ok (.iload 6, 2) := dk_21 6 (dk_at dksX4_rewrite_1 12 rfl rfl)
theorem dX4_rewrite_38 : decode cX4_rewrite 38 = .ok (.iload 4, 2) := dk_21 4 (dk_at dksX4_rewrite_1 14 rfl rfl)
theorem dX4_rewrite_40 : decode cX4_rewrite 40 = .ok (.isub, 1) := dk_100 (dk_at dksX4_rewrite_1 16 rfl rfl)
theorem dX4_rewrite_41 : decode cX4_rewrite 41 = .ok (.isub, 1) := dk_100 (dk_at dksX4_rewrite_1 17 rfl rfl)
theorem dX4_rewrite_42 : decode cX4_rewrite 42 = .ok (.istore 7, 2) := dk_54 7 (dk_at dksX4_rewrite_1 18 rfl rfl)
theorem dX4_rewrite_44 : decode cX4_rewrite 44 = .ok (.iconst 1, 1) := dk_4 (dk_at dksX4_rewrite_1 20 rfl rfl)
theorem dX4_rewrite_45 : decode cX4_rewrite 45 = .ok (.istore 8, 2) := dk_54 8 (dk_at dksX4_rewrite_1 21 rfl rfl)
theorem dX4_rewrite_47 : decode cX4_rewrite 47 = .ok (.iload 8, 2) := dk_21 8 (dk_at dksX4_rewrite_2 0 rfl rfl)
theorem dX4_rewrite_49 : decode cX4_rewrite 49 = .ok (.aload_n 0, 1) := dk_42 (dk_at dksX4_rewrite_2 2 rfl rfl)
theorem dX4_rewrite_50 : decode cX4_rewrite 50 = .ok (.getfield 16, 3) := dk_180 0 16 (dk_at dksX4_rewrite_2 3 rfl rfl)
theorem dX4_rewrite_53 : decode cX4_rewrite 53 = .ok (.iload 5, 2) := dk_21 5 (dk_at dksX4_rewrite_2 6 rfl rfl)
theorem dX4_rewrite_55 : decode cX4_rewrite 55 = .ok (.invokestatic 145, 3) := dk_184 0 145 (dk_at dksX4_rewrite_2 8 rfl rfl)
theorem dX4_rewrite_58 : decode cX4_rewrite 58 = .ok (.iaload, 1) := dk_46 (dk_at dksX4_rewrite_2 11 rfl rfl)
theorem dX4_rewrite_59 : decode cX4_rewrite 59 = .ok (.if_icmp .gt 51, 3) := dk_163 0 51 (dk_at dksX4_rewrite_2 12 rfl rfl)
theorem dX4_rewrite_62 : decode cX4_rewrite 62 = .ok (.aload_n 0, 1) := dk_42 (dk_at dksX4_rewrite_2 15 rfl rfl)
theorem dX4_rewrite_63 : decode cX4_rewrite 63 = .ok (.getfield 16, 3) := dk_180 0 16 (dk_at dksX4_rewrite_2 16 rfl rfl)
theorem dX4_rewrite_66 : decode cX4_rewrite 66 = .ok (.iload 5, 2) := dk_21 5 (dk_at dksX4_rewrite_2 19 rfl rfl)
theorem dX4_rewrite_68 : decode cX4_rewrite 68 = .ok (.invokestatic 145, 3) := dk_184 0 145 (dk_at dksX4_rewrite_2 21 rfl rfl)
theorem dX4_rewrite_71 : decode cX4_rewrite 71 = .ok (.iload 8, 2) := dk_21 8 (dk_at dksX4_rewrite_3 0 rfl rfl)
theorem dX4_rewrite_73 : decode cX4_rewrite 73 = .ok (.iadd, 1) := dk_96 (dk_at dksX4_rewrite_3 2 rfl rfl)
theorem dX4_rewrite_74 : decode cX4_rewrite 74 = .ok (.iaload, 1) := dk_46 (dk_at dksX4_rewrite_3 3 rfl rfl)
theorem dX4_rewrite_75 : decode cX4_rewrite 75 = .ok (.istore 9, 2) := dk_54 9 (dk_at dksX4_rewrite_3 4 rfl rfl)
theorem dX4_rewrite_77 : decode cX4_rewrite 77 = .ok (.iload 7, 2) := dk_21 7 (dk_at dksX4_rewrite_3 6 rfl rfl)
theorem dX4_rewrite_79 : decode cX4_rewrite 79 = .ok (.iload 9, 2) := dk_21 9 (dk_at dksX4_rewrite_3 8 rfl rfl)
theorem dX4_rewrite_81 : decode cX4_rewrite 81 = .ok (.invokestatic 128, 3) := dk_184 0 128 (dk_at dksX4_rewrite_3 10 rfl rfl)
theorem dX4_rewrite_84 : decode cX4_rewrite 84 = .ok (.ifCond .eq 16, 3) := dk_153 0 16 (dk_at dksX4_rewrite_3 13 rfl rfl)
theorem dX4_rewrite_87 : decode cX4_rewrite 87 = .ok (.aload_n 0, 1) := dk_42 (dk_at dksX4_rewrite_3 16 rfl rfl)
theorem dX4_rewrite_88 : decode cX4_rewrite 88 = .ok (.getfield 31, 3) := dk_180 0 31 (dk_at dksX4_rewrite_3 17 rfl rfl)
theorem dX4_rewrite_91 : decode cX4_rewrite 91 = .ok (.iload 9, 2) := dk_21 9 (dk_at dksX4_rewrite_3 20 rfl rfl)
theorem dX4_rewrite_93 : decode cX4_rewrite 93 = .ok (.invokestatic 131, 3) := dk_184 0 131 (dk_at dksX4_rewrite_4 0 rfl rfl)
theorem dX4_rewrite_96 : decode cX4_rewrite 96 = .ok (.iaload, 1) := dk_46 (dk_at dksX4_rewrite_4 3 rfl rfl)
theorem dX4_rewrite_97 : decode cX4_rewrite 97 = .ok (.goto 4, 3) := dk_167 0 4 (dk_at dksX4_rewrite_4 4 rfl rfl)
theorem dX4_rewrite_100 : decode cX4_rewrite 100 = .ok (.iconst 1, 1) := dk_4 (dk_at dksX4_rewrite_4 7 rfl rfl)
theorem dX4_rewrite_101 : decode cX4_rewrite 101 = .ok (.iadd, 1) := dk_96 (dk_at dksX4_rewrite_4 8 rfl rfl)
theorem dX4_rewrite_102 : decode cX4_rewrite 102 = .ok (.istore 7, 2) := dk_54 7 (dk_at dksX4_rewrite_4 9 rfl rfl)
theorem dX4_rewrite_104 : decode cX4_rewrite 104 = .ok (.iinc 8 1, 3) := dk_132 8 1 (dk_at dksX4_rewrite_4 11 rfl rfl)
theorem dX4_rewrite_107 : decode cX4_rewrite 107 = .ok (.goto (-60), 3) := dk_167 255 196 (dk_at dksX4_rewrite_4 14 rfl rfl)
theorem dX4_rewrite_110 : decode cX4_rewrite 110 = .ok (.iload 7, 2) := dk_21 7 (dk_at dksX4_rewrite_4 17 rfl rfl)
theorem dX4_rewrite_112 : decode cX4_rewrite 112 = .ok (.bipush 40, 2) := dk_16 40 (dk_at dksX4_rewrite_4 19 rfl rfl)
theorem dX4_rewrite_114 : decode cX4_rewrite 114 = .ok (.if_icmp .le 6, 3) := dk_164 0 6 (dk_at dksX4_rewrite_4 21 rfl rfl)
theorem dX4_rewrite_117 : decode cX4_rewrite 117 = .ok (.bipush (-8), 2) := dk_16 248 (dk_at dksX4_rewrite_5 0 rfl rfl)
theorem dX4_rewrite_119 : decode cX4_rewrite 119 = .ok (.ireturn, 1) := dk_172 (dk_at dksX4_rewrite_5 2 rfl rfl)
theorem dX4_rewrite_120 : decode cX4_rewrite 120 = .ok (.iconst 1, 1) := dk_4 (dk_at dksX4_rewrite_5 3 rfl rfl)
theorem dX4_rewrite_121 : decode cX4_rewrite 121 = .ok (.istore 8, 2) := dk_54 8 (dk_at dksX4_rewrite_5 4 rfl rfl)
theorem dX4_rewrite_123 : decode cX4_rewrite 123 = .ok (.iload_n 2, 1) := dk_28 (dk_at dksX4_rewrite_5 6 rfl rfl)
theorem dX4_rewrite_124 : decode cX4_rewrite 124 = .ok (.iconst 1, 1) := dk_4 (dk_at dksX4_rewrite_5 7 rfl rfl)
theorem dX4_rewrite_125 : decode cX4_rewrite 125 = .ok (.iadd, 1) := dk_96 (dk_at dksX4_rewrite_5 8 rfl rfl)
theorem dX4_rewrite_126 : decode cX4_rewrite 126 = .ok (.istore 9, 2) := dk_54 9 (dk_at dksX4_rewrite_5 9 rfl rfl)
theorem dX4_rewrite_128 : decode cX4_rewrite 128 = .ok (.iload 9, 2) := dk_21 9 (dk_at dksX4_rewrite_5 11 rfl rfl)
theorem dX4_rewrite_130 : decode cX4_rewrite 130 = .ok (.iload 4, 2) := dk_21 4 (dk_at dksX4_rewrite_5 13 rfl rfl)
theorem dX4_rewrite_132 : decode cX4_rewrite 132 = .ok (.if_icmp .ge 23, 3) := dk_162 0 23 (dk_at dksX4_rewrite_5 15 rfl rfl)
theorem dX4_rewrite_135 : decode cX4_rewrite 135 = .ok (.aload_n 0, 1) := dk_42 (dk_at dksX4_rewrite_5 18 rfl rfl)
theorem dX4_rewrite_136 : decode cX4_rewrite 136 = .ok (.getfield 34, 3) := dk_180 0 34 (dk_at dksX4_rewrite_5 19 rfl rfl)
theorem dX4_rewrite_139 : decode cX4_rewrite 139 = .ok (.iload 8, 2) := dk_21 8 (dk_at dksX4_rewrite_5 22 rfl rfl)
theorem dX4_rewrite_141 : decode cX4_rewrite 141 = .ok (.aload_n 1, 1) := dk_43 (dk_at dksX4_rewrite_6 0 rfl rfl)
theorem dX4_rewrite_142 : decode cX4_rewrite 142 = .ok (.iload 9, 2) := dk_21 9 (dk_at dksX4_rewrite_6 1 rfl rfl)
theorem dX4_rewrite_144 : decode cX4_rewrite 144 = .ok (.iaload, 1) := dk_46 (dk_at dksX4_rewrite_6 3 rfl rfl)
theorem dX4_rewrite_145 : decode cX4_rewrite 145 = .ok (.iastore, 1) := dk_79 (dk_at dksX4_rewrite_6 4 rfl rfl)
theorem dX4_rewrite_146 : decode cX4_rewrite 146 = .ok (.iinc 8 1, 3) := dk_132 8 1 (dk_at dksX4_rewrite_6 5 rfl rfl)
theorem dX4_rewrite_149 : decode cX4_rewrite 149 = .ok (.iinc 9 1, 3) := dk_132 9 1 (dk_at dksX4_rewrite_6 8 rfl rfl)
theorem dX4_rewrite_152 : decode cX4_rewrite 152 = .ok (.goto (-24), 3) := dk_167 255 232 (dk_at dksX4_rewrite_6 11 rfl rfl)
theorem dX4_rewrite_155 : decode cX4_rewrite 155 = .ok (.iconst 1, 1) := dk_4 (dk_at dksX4_rewrite_6 14 rfl rfl)
theorem dX4_rewrite_156 : decode cX4_rewrite 156 = .ok (.istore 9, 2) := dk_54 9 (dk_at dksX4_rewrite_6 15 rfl rfl)
theorem dX4_rewrite_158 : decode cX4_rewrite 158 = .ok (.iload 9, 2) := dk_21 9 (dk_at dksX4_rewrite_6 17 rfl rfl)
theorem dX4_rewrite_160 : decode cX4_rewrite 160 = .ok (.aload_n 0, 1) := dk_42 (dk_at dksX4_rewrite_6 19 rfl rfl)
theorem dX4_rewrite_161 : decode cX4_rewrite 161 = .ok (.getfield 16, 3) := dk_180 0 16 (dk_at dksX4_rewrite_6 20 rfl rfl)
theorem dX4_rewrite_164 : decode cX4_rewrite 164 = .ok (.iload 5, 2) := dk_21 5 (dk_at dksX4_rewrite_7 0 rfl rfl)
theorem dX4_rewrite_166 : decode cX4_rewrite 166 = .ok (.invokestatic 145, 3) := dk_184 0 145 (dk_at dksX4_rewrite_7 2 rfl rfl)
theorem dX4_rewrite_169 : decode cX4_rewrite 169 = .ok (.iaload, 1) := dk_46 (dk_at dksX4_rewrite_7 5 rfl rfl)
theorem dX4_rewrite_170 : decode cX4_rewrite 170 = .ok (.if_icmp .gt 110, 3) := dk_163 0 110 (dk_at dksX4_rewrite_7 6 rfl rfl)
theorem dX4_rewrite_173 : decode cX4_rewrite 173 = .ok (.aload_n 0, 1) := dk_42 (dk_at dksX4_rewrite_7 9 rfl rfl)
theorem dX4_rewrite_174 : decode cX4_rewrite 174 = .ok (.getfield 16, 3) := dk_180 0 16 (dk_at dksX4_rewrite_7 10 rfl rfl)
theorem dX4_rewrite_177 : decode cX4_rewrite 177 = .ok (.iload 5, 2) := dk_21 5 (dk_at dksX4_rewrite_7 13 rfl rfl)
theorem dX4_rewrite_179 : decode cX4_rewrite 179 = .ok (.invokestatic 145, 3) := dk_184 0 145 (dk_at dksX4_rewrite_7 15 rfl rfl)
theorem dX4_rewrite_182 : decode cX4_rewrite 182 = .ok (.iload 9, 2) := dk_21 9 (dk_at dksX4_rewrite_7 18 rfl rfl)
theorem dX4_rewrite_184 : decode cX4_rewrite 184 = .ok (.iadd, 1) := dk_96 (dk_at dksX4_rewrite_7 20 rfl rfl)
theorem dX4_rewrite_185 : decode cX4_rewrite 185 = .ok (.iaload, 1) := dk_46 (dk_at dksX4_rewrite_7 21 rfl rfl)
theorem dX4_rewrite_186 : decode cX4_rewrite 186 = .ok (.istore 10, 2) := dk_54 10 (dk_at dksX4_rewrite_7 22 rfl rfl)
theorem dX4_rewrite_188 : decode cX4_rewrite 188 = .ok (.iload 10, 2) := dk_21 10 (dk_at dksX4_rewrite_8 0 rfl rfl)
theorem dX4_rewrite_190 : decode cX4_rewrite 190 = .ok (.invokestatic 128, 3) := dk_184 0 128 (dk_at dksX4_rewrite_8 2 rfl rfl)
theorem dX4_rewrite_193 : decode cX4_rewrite 193 = .ok (.ifCond .eq 11, 3) := dk_153 0 11 (dk_at dksX4_rewrite_8 5 rfl rfl)
theorem dX4_rewrite_196 : decode cX4_rewrite 196 = .ok (.iload 10, 2) := dk_21 10 (dk_at dksX4_rewrite_8 8 rfl rfl)
theorem dX4_rewrite_198 : decode cX4_rewrite 198 = .ok (.invokestatic 131, 3) := dk_184 0 131 (dk_at dksX4_rewrite_8 10 rfl rfl)
theorem dX4_rewrite_201 : decode cX4_rewrite 201 = .ok (.goto 5, 3) := dk_167 0 5 (dk_at dksX4_rewrite_8 13 rfl rfl)
theorem dX4_rewrite_204 : decode cX4_rewrite 204 = .ok (.bipush (-5), 2) := dk_16 251 (dk_at dksX4_rewrite_8 16 rfl rfl)
theorem dX4_rewrite_206 : decode cX4_rewrite 206 = .ok (.istore 11, 2) := dk_54 11 (dk_at dksX4_rewrite_8 18 rfl rfl)
theorem dX4_rewrite_208 : decode cX4_rewrite 208 = .ok (.iload 11, 2) := dk_21 11 (dk_at dksX4_rewrite_8 20 rfl rfl)
theorem dX4_rewrite_210 : decode cX4_rewrite 210 = .ok (.ifCond .ge 7, 3) := dk_156 0 7 (dk_at dksX4_rewrite_9 0 rfl rfl)
theorem dX4_rewrite_213 : decode cX4_rewrite 213 = .ok (.iconst 1, 1) := dk_4 (dk_at dksX4_rewrite_9 3 rfl rfl)
theorem dX4_rewrite_214 : decode cX4_rewrite 214 = .ok (.goto 10, 3) := dk_167 0 10 (dk_at dksX4_rewrite_9 4 rfl rfl)
theorem dX4_rewrite_217 : decode cX4_rewrite 217 = .ok (.aload_n 0, 1) := dk_42 (dk_at dksX4_rewrite_9 7 rfl rfl)
theorem dX4_rewrite_218 : decode cX4_rewrite 218 = .ok (.getfield 31, 3) := dk_180 0 31 (dk_at dksX4_rewrite_9 8 rfl rfl)
theorem dX4_rewrite_221 : decode cX4_rewrite 221 = .ok (.iload 11, 2) := dk_21 11 (dk_at dksX4_rewrite_9 11 rfl rfl)
theorem dX4_rewrite_223 : decode cX4_rewrite 223 = .ok (.iaload, 1) := dk_46 (dk_at dksX4_rewrite_9 13 rfl rfl)
theorem dX4_rewrite_224 : decode cX4_rewrite 224 = .ok (.istore 12, 2) := dk_54 12 (dk_at dksX4_rewrite_9 14 rfl rfl)
theorem dX4_rewrite_226 : decode cX4_rewrite 226 = .ok (.iconst 0, 1) := dk_3 (dk_at dksX4_rewrite_9 16 rfl rfl)
theorem dX4_rewrite_227 : decode cX4_rewrite 227 = .ok (.istore 13, 2) := dk_54 13 (dk_at dksX4_rewrite_9 17 rfl rfl)
theorem dX4_rewrite_229 : decode cX4_rewrite 229 = .ok (.iload 13, 2) := dk_21 13 (dk_at dksX4_rewrite_9 19 rfl rfl)
theorem dX4_rewrite_231 : decode cX4_rewrite 231 = .ok (.iload 12, 2) := dk_21 12 (dk_at dksX4_rewrite_9 21 rfl rfl)
theorem dX4_rewrite_233 : decode cX4_rewrite 233 = .ok (.if_icmp .ge 41, 3) := dk_162 0 41 (dk_at dksX4_rewrite_10 0 rfl rfl)
theorem dX4_rewrite_236 : decode cX4_rewrite 236 = .ok (.aload_n 0, 1) := dk_42 (dk_at dksX4_rewrite_10 3 rfl rfl)
theorem dX4_rewrite_237 : decode cX4_rewrite 237 = .ok (.getfield 34, 3) := dk_180 0 34 (dk_at dksX4_rewrite_10 4 rfl rfl)
theorem dX4_rewrite_240 : decode cX4_rewrite 240 = .ok (.iload 8, 2) := dk_21 8 (dk_at dksX4_rewrite_10 7 rfl rfl)
theorem dX4_rewrite_242 : decode cX4_rewrite 242 = .ok (.iload 11, 2) := dk_21 11 (dk_at dksX4_rewrite_10 9 rfl rfl)
theorem dX4_rewrite_244 : decode cX4_rewrite 244 = .ok (.ifCond .ge 8, 3) := dk_156 0 8 (dk_at dksX4_rewrite_10 11 rfl rfl)
theorem dX4_rewrite_247 : decode cX4_rewrite 247 = .ok (.iload 10, 2) := dk_21 10 (dk_at dksX4_rewrite_10 14 rfl rfl)
theorem dX4_rewrite_249 : decode cX4_rewrite 249 = .ok (.goto 15, 3) := dk_167 0 15 (dk_at dksX4_rewrite_10 16 rfl rfl)
theorem dX4_rewrite_252 : decode cX4_rewrite 252 = .ok (.aload_n 1, 1) := dk_43 (dk_at dksX4_rewrite_10 19 rfl rfl)
theorem dX4_rewrite_253 : decode cX4_rewrite 253 = .ok (.aload_n 0, 1) := dk_42 (dk_at dksX4_rewrite_10 20 rfl rfl)
theorem dX4_rewrite_254 : decode cX4_rewrite 254 = .ok (.getfield 28, 3) := dk_180 0 28 (dk_at dksX4_rewrite_10 21 rfl rfl)
theorem dX4_rewrite_257 : decode cX4_rewrite 257 = .ok (.iload 11, 2) := dk_21 11 (dk_at dksX4_rewrite_11 0 rfl rfl)
theorem dX4_rewrite_259 : decode cX4_rewrite 259 = .ok (.iaload, 1) := dk_46 (dk_at dksX4_rewrite_11 2 rfl rfl)
theorem dX4_rewrite_260 : decode cX4_rewrite 260 = .ok (.iload 13, 2) := dk_21 13 (dk_at dksX4_rewrite_11 3 rfl rfl)
theorem dX4_rewrite_262 : decode cX4_rewrite 262 = .ok (.iadd, 1) := dk_96 (dk_at dksX4_rewrite_11 5 rfl rfl)
theorem dX4_rewrite_263 : decode cX4_rewrite 263 = .ok (.iaload, 1) := dk_46 (dk_at dksX4_rewrite_11 6 rfl rfl)
theorem dX4_rewrite_264 : decode cX4_rewrite 264 = .ok (.iastore, 1) := dk_79 (dk_at dksX4_rewrite_11 7 rfl rfl)
theorem dX4_rewrite_265 : decode cX4_rewrite 265 = .ok (.iinc 8 1, 3) := dk_132 8 1 (dk_at dksX4_rewrite_11 8 rfl rfl)
theorem dX4_rewrite_268 : decode cX4_rewrite 268 = .ok (.iinc 13 1, 3) := dk_132 13 1 (dk_at dksX4_rewrite_11 11 rfl rfl)
theorem dX4_rewrite_271 : decode cX4_rewrite 271 = .ok (.goto (-42), 3) := dk_167 255 214 (dk_at dksX4_rewrite_11 14 rfl rfl)
theorem dX4_rewrite_274 : decode cX4_rewrite 274 = .ok (.iinc 9 1, 3) := dk_132 9 1 (dk_at dksX4_rewrite_11 17 rfl rfl)
theorem dX4_rewrite_277 : decode cX4_rewrite 277 = .ok (.goto (-119), 3) := dk_167 255 137 (dk_at dksX4_rewrite_11 20 rfl rfl)
theorem dX4_rewrite_280 : decode cX4_rewrite 280 = .ok (.iload 6, 2) := dk_21 6 (dk_at dksX4_rewrite_12 0 rfl rfl)
theorem dX4_rewrite_282 : decode cX4_rewrite 282 = .ok (.istore 9, 2) := dk_54 9 (dk_at dksX4_rewrite_12 2 rfl rfl)
theorem dX4_rewrite_284 : decode cX4_rewrite 284 = .ok (.iload 9, 2) := dk_21 9 (dk_at dksX4_rewrite_12 4 rfl rfl)
theorem dX4_rewrite_286 : decode cX4_rewrite 286 = .ok (.iload_n 2, 1) := dk_28 (dk_at dksX4_rewrite_12 6 rfl rfl)
theorem dX4_rewrite_287 : decode cX4_rewrite 287 = .ok (.aload_n 1, 1) := dk_43 (dk_at dksX4_rewrite_12 7 rfl rfl)
theorem dX4_rewrite_288 : decode cX4_rewrite 288 = .ok (.iload_n 2, 1) := dk_28 (dk_at dksX4_rewrite_12 8 rfl rfl)
theorem dX4_rewrite_289 : decode cX4_rewrite 289 = .ok (.iaload, 1) := dk_46 (dk_at dksX4_rewrite_12 9 rfl rfl)
theorem dX4_rewrite_290 : decode cX4_rewrite 290 = .ok (.iadd, 1) := dk_96 (dk_at dksX4_rewrite_12 10 rfl rfl)
theorem dX4_rewrite_291 : decode cX4_rewrite 291 = .ok (.if_icmp .gt 23, 3) := dk_163 0 23 (dk_at dksX4_rewrite_12 11 rfl rfl)
theorem dX4_rewrite_294 : decode cX4_rewrite 294 = .ok (.aload_n 0, 1) := dk_42 (dk_at dksX4_rewrite_12 14 rfl rfl)
theorem dX4_rewrite_295 : decode cX4_rewrite 295 = .ok (.getfield 34, 3) := dk_180 0 34 (dk_at dksX4_rewrite_12 15 rfl rfl)
theorem dX4_rewrite_298 : decode cX4_rewrite 298 = .ok (.iload 8, 2) := dk_21 8 (dk_at dksX4_rewrite_12 18 rfl rfl)
theorem dX4_rewrite_300 : decode cX4_rewrite 300 = .ok (.aload_n 1, 1) := dk_43 (dk_at dksX4_rewrite_12 20 rfl rfl)
theorem dX4_rewrite_301 : decode cX4_rewrite 301 = .ok (.iload 9, 2) := dk_21 9 (dk_at dksX4_rewrite_12 21 rfl rfl)
theorem dX4_rewrite_303 : decode cX4_rewrite 303 = .ok (.iaload, 1) := dk_46 (dk_at dksX4_rewrite_12 23 rfl rfl)
theorem dX4_rewrite_304 : decode cX4_rewrite 304 = .ok (.iastore, 1) := dk_79 (dk_at dksX4_rewrite_13 0 rfl rfl)
theorem dX4_rewrite_305 : decode cX4_rewrite 305 = .ok (.iinc 8 1, 3) := dk_132 8 1 (dk_at dksX4_rewrite_13 1 rfl rfl)
theorem dX4_rewrite_308 : decode cX4_rewrite 308 = .ok (.iinc 9 1, 3) := dk_132 9 1 (dk_at dksX4_rewrite_13 4 rfl rfl)
theorem dX4_rewrite_311 : decode cX4_rewrite 311 = .ok (.goto (-27), 3) := dk_167 255 229 (dk_at dksX4_rewrite_13 7 rfl rfl)
theorem dX4_rewrite_314 : decode cX4_rewrite 314 = .ok (.aload_n 0, 1) := dk_42 (dk_at dksX4_rewrite_13 10 rfl rfl)
theorem dX4_rewrite_315 : decode cX4_rewrite 315 = .ok (.getfield 34, 3) := dk_180 0 34 (dk_at dksX4_rewrite_13 11 rfl rfl)
theorem dX4_rewrite_318 : decode cX4_rewrite 318 = .ok (.iconst 0, 1) := dk_3 (dk_at dksX4_rewrite_13 14 rfl rfl)
theorem dX4_rewrite_319 : decode cX4_rewrite 319 = .ok (.iload 7, 2) := dk_21 7 (dk_at dksX4_rewrite_13 15 rfl rfl)
theorem dX4_rewrite_321 : decode cX4_rewrite 321 = .ok (.iastore, 1) := dk_79 (dk_at dksX4_rewrite_13 17 rfl rfl)
theorem dX4_rewrite_322 : decode cX4_rewrite 322 = .ok (.iload 7, 2) := dk_21 7 (dk_at dksX4_rewrite_13 18 rfl rfl)
theorem dX4_rewrite_324 : decode cX4_rewrite 324 = .ok (.ireturn, 1) := dk_172 (dk_at dksX4_rewrite_13 20 rfl rfl)
abbrev cX4_rewriteOutermost : ByteArray := prog_10_method_89_code
def yX4_rewriteOutermost : MethodName := ⟨RX4, "rewriteOutermost", "(II)I"⟩
def dkwX4_rewriteOutermost_3 : List UInt8 := [3, 54, 4, 29, 21, 4, 153, 0, 7, 4, 167, 0, 4, 3, 96, 62, 167, 255, 196, 29, 172]
abbrev dktX4_rewriteOutermost_3 : List UInt8 := dkwX4_rewriteOutermost_3 ++ []
def dkwX4_rewriteOutermost_2 : List UInt8 := [182, 1, 42, 54, 5, 21, 5, 155, 0, 17, 42, 27, 21, 5, 182, 1, 48, 158, 0, 7, 4, 167, 0, 4]
abbrev dktX4_rewriteOutermost_2 : List UInt8 := dkwX4_rewriteOutermost_2 ++ dktX4_rewriteOutermost_3
def dkwX4_rewriteOutermost_1 : List UInt8 := [4, 54, 4, 21, 4, 153, 0, 61, 29, 28, 162, 0, 56, 42, 42, 180, 0, 22, 16, 96, 27, 104, 3]
abbrev dktX4_rewriteOutermost_1 : List UInt8 := dkwX4_rewriteOutermost_1 ++ dktX4_rewriteOutermost_2
def dkwX4_rewriteOutermost_0 : List UInt8 := [27, 184, 1, 18, 154, 0, 5, 2, 172, 28, 3, 16, 100, 184, 0, 105, 154, 0, 6, 16, 254, 172, 3, 62]
abbrev dktX4_rewriteOutermost_0 : List UInt8 := dkwX4_rewriteOutermost_0 ++ dktX4_rewriteOutermost_1
theorem dksX4_rewriteOutermost_0 : cX4_rewriteOutermost.data.toList.drop 0 = dktX4_rewriteOutermost_0 := by decide +kernel
theorem dksX4_rewriteOutermost_1 : cX4_rewriteOutermost.data.toList.drop 24 = dktX4_rewriteOutermost_1 := dk_seg dksX4_rewriteOutermost_0 24 rfl rfl
theorem dksX4_rewriteOutermost_2 : cX4_rewriteOutermost.data.toList.drop 47 = dktX4_rewriteOutermost_2 := dk_seg dksX4_rewriteOutermost_1 23 rfl rfl
theorem dksX4_rewriteOutermost_3 : cX4_rewriteOutermost.data.toList.drop 71 = dktX4_rewriteOutermost_3 := dk_seg dksX4_rewriteOutermost_2 24 rfl rfl
theorem dX4_rewriteOutermost_0 : decode cX4_rewriteOutermost 0 = .ok (.iload_n 1, 1) := dk_27 (dk_at dksX4_rewriteOutermost_0 0 rfl rfl)
theorem dX4_rewriteOutermost_1 : decode cX4_rewriteOutermost 1 = .ok (.invokestatic 274, 3) := dk_184 1 18 (dk_at dksX4_rewriteOutermost_0 1 rfl rfl)
theorem dX4_rewriteOutermost_4 : decode cX4_rewriteOutermost 4 = .ok (.ifCond .ne 5, 3) := dk_154 0 5 (dk_at dksX4_rewriteOutermost_0 4 rfl rfl)
theorem dX4_rewriteOutermost_7 : decode cX4_rewriteOutermost 7 = .ok (.iconst (-1), 1) := dk_2 (dk_at dksX4_rewriteOutermost_0 7 rfl rfl)
theorem dX4_rewriteOutermost_8 : decode cX4_rewriteOutermost 8 = .ok (.ireturn, 1) := dk_172 (dk_at dksX4_rewriteOutermost_0 8 rfl rfl)
theorem dX4_rewriteOutermost_9 : decode cX4_rewriteOutermost 9 = .ok (.iload_n 2, 1) := dk_28 (dk_at dksX4_rewriteOutermost_0 9 rfl rfl)
theorem dX4_rewriteOutermost_10 : decode cX4_rewriteOutermost 10 = .ok (.iconst 0, 1) := dk_3 (dk_at dksX4_rewriteOutermost_0 10 rfl rfl)
theorem dX4_rewriteOutermost_11 : decode cX4_rewriteOutermost 11 = .ok (.bipush 100, 2) := dk_16 100 (dk_at dksX4_rewriteOutermost_0 11 rfl rfl)
theorem dX4_rewriteOutermost_13 : decode cX4_rewriteOutermost 13 = .ok (.invokestatic 105, 3) := dk_184 0 105 (dk_at dksX4_rewriteOutermost_0 13 rfl rfl)
theorem dX4_rewriteOutermost_16 : decode cX4_rewriteOutermost 16 = .ok (.ifCond .ne 6, 3) := dk_154 0 6 (dk_at dksX4_rewriteOutermost_0 16 rfl rfl)
theorem dX4_rewriteOutermost_19 : decode cX4_rewriteOutermost 19 = .ok (.bipush (-2), 2) := dk_16 254 (dk_at dksX4_rewriteOutermost_0 19 rfl rfl)
theorem dX4_rewriteOutermost_21 : decode cX4_rewriteOutermost 21 = .ok (.ireturn, 1) := dk_172 (dk_at dksX4_rewriteOutermost_0 21 rfl rfl)
theorem dX4_rewriteOutermost_22 : decode cX4_rewriteOutermost 22 = .ok (.iconst 0, 1) := dk_3 (dk_at dksX4_rewriteOutermost_0 22 rfl rfl)
theorem dX4_rewriteOutermost_23 : decode cX4_rewriteOutermost 23 = .ok (.istore_n 3, 1) := dk_62 (dk_at dksX4_rewriteOutermost_0 23 rfl rfl)
theorem dX4_rewriteOutermost_24 : decode cX4_rewriteOutermost 24 = .ok (.iconst 1, 1) := dk_4 (dk_at dksX4_rewriteOutermost_1 0 rfl rfl)
theorem dX4_rewriteOutermost_25 : decode cX4_rewriteOutermost 25 = .ok (.istore 4, 2) := dk_54 4 (dk_at dksX4_rewriteOutermost_1 1 rfl rfl)
theorem dX4_rewriteOutermost_27 : decode cX4_rewriteOutermost 27 = .ok (.iload 4, 2) := dk_21 4 (dk_at dksX4_rewriteOutermost_1 3 rfl rfl)
theorem dX4_rewriteOutermost_29 : decode cX4_rewriteOutermost 29 = .ok (.ifCond .eq 61, 3) := dk_153 0 61 (dk_at dksX4_rewriteOutermost_1 5 rfl rfl)
theorem dX4_rewriteOutermost_32 : decode cX4_rewriteOutermost 32 = .ok (.iload_n 3, 1) := dk_29 (dk_at dksX4_rewriteOutermost_1 8 rfl rfl)
theorem dX4_rewriteOutermost_33 : decode cX4_rewriteOutermost 33 = .ok (.iload_n 2, 1) := dk_28 (dk_at dksX4_rewriteOutermost_1 9 rfl rfl)
theorem dX4_rewriteOutermost_34 : decode cX4_rewriteOutermost 34 = .ok (.if_icmp .ge 56, 3) := dk_162 0 56 (dk_at dksX4_rewriteOutermost_1 10 rfl rfl)
theorem dX4_rewriteOutermost_37 : decode cX4_rewriteOutermost 37 = .ok (.aload_n 0, 1) := dk_42 (dk_at dksX4_rewriteOutermost_1 13 rfl rfl)
theorem dX4_rewriteOutermost_38 : decode cX4_rewriteOutermost 38 = .ok (.aload_n 0, 1) := dk_42 (dk_at dksX4_rewriteOutermost_1 14 rfl rfl)
theorem dX4_rewriteOutermost_39 : decode cX4_rewriteOutermost 39 = .ok (.getfield 22, 3) := dk_180 0 22 (dk_at dksX4_rewriteOutermost_1 15 rfl rfl)
theorem dX4_rewriteOutermost_42 : decode cX4_rewriteOutermost 42 = .ok (.bipush 96, 2) := dk_16 96 (dk_at dksX4_rewriteOutermost_1 18 rfl rfl)
theorem dX4_rewriteOutermost_44 : decode cX4_rewriteOutermost 44 = .ok (.iload_n 1, 1) := dk_27 (dk_at dksX4_rewriteOutermost_1 20 rfl rfl)
theorem dX4_rewriteOutermost_45 : decode cX4_rewriteOutermost 45 = .ok (.imul, 1) := dk_104 (dk_at dksX4_rewriteOutermost_1 21 rfl rfl)
theorem dX4_rewriteOutermost_46 : decode cX4_rewriteOutermost 46 = .ok (.iconst 0, 1) := dk_3 (dk_at dksX4_rewriteOutermost_1 22 rfl rfl)
theorem dX4_rewriteOutermost_47 : decode cX4_rewriteOutermost 47 = .ok (.invokevirtual 298, 3) := dk_182 1 42 (dk_at dksX4_rewriteOutermost_2 0 rfl rfl)
theorem dX4_rewriteOutermost_50 : decode cX4_rewriteOutermost 50 = .ok (.istore 5, 2) := dk_54 5 (dk_at dksX4_rewriteOutermost_2 3 rfl rfl)
theorem dX4_rewriteOutermost_52 : decode cX4_rewriteOutermost 52 = .ok (.iload 5, 2) := dk_21 5 (dk_at dksX4_rewriteOutermost_2 5 rfl rfl)
theorem dX4_rewriteOutermost_54 : decode cX4_rewriteOutermost 54 = .ok (.ifCond .lt 17, 3) := dk_155 0 17 (dk_at dksX4_rewriteOutermost_2 7 rfl rfl)
theorem dX4_rewriteOutermost_57 : decode cX4_rewriteOutermost 57 = .ok (.aload_n 0, 1) := dk_42 (dk_at dksX4_rewriteOutermost_2 10 rfl rfl)
theorem dX4_rewriteOutermost_58 : decode cX4_rewriteOutermost 58 = .ok (.iload_n 1, 1) := dk_27 (dk_at dksX4_rewriteOutermost_2 11 rfl rfl)
theorem dX4_rewriteOutermost_59 : decode cX4_rewriteOutermost 59 = .ok (.iload 5, 2) := dk_21 5 (dk_at dksX4_rewriteOutermost_2 12 rfl rfl)
theorem dX4_rewriteOutermost_61 : decode cX4_rewriteOutermost 61 = .ok (.invokevirtual 304, 3) := dk_182 1 48 (dk_at dksX4_rewriteOutermost_2 14 rfl rfl)
theorem dX4_rewriteOutermost_64 : decode cX4_rewriteOutermost 64 = .ok (.ifCond .le 7, 3) := dk_158 0 7 (dk_at dksX4_rewriteOutermost_2 17 rfl rfl)
theorem dX4_rewriteOutermost_67 : decode cX4_rewriteOutermost 67 = .ok (.iconst 1, 1) := dk_4 (dk_at dksX4_rewriteOutermost_2 20 rfl rfl)
theorem dX4_rewriteOutermost_68 : decode cX4_rewriteOutermost 68 = .ok (.goto 4, 3) := dk_167 0 4 (dk_at dksX4_rewriteOutermost_2 21 rfl rfl)
theorem dX4_rewriteOutermost_71 : decode cX4_rewriteOutermost 71 = .ok (.iconst 0, 1) := dk_3 (dk_at dksX4_rewriteOutermost_3 0 rfl rfl)
theorem dX4_rewriteOutermost_72 : decode cX4_rewriteOutermost 72 = .ok (.istore 4, 2) := dk_54 4 (dk_at dksX4_rewriteOutermost_3 1 rfl rfl)
theorem dX4_rewriteOutermost_74 : decode cX4_rewriteOutermost 74 = .ok (.iload_n 3, 1) := dk_29 (dk_at dksX4_rewriteOutermost_3 3 rfl rfl)
theorem dX4_rewriteOutermost_75 : decode cX4_rewriteOutermost 75 = .ok (.iload 4, 2) := dk_21 4 (dk_at dksX4_rewriteOutermost_3 4 rfl rfl)
theorem dX4_rewriteOutermost_77 : decode cX4_rewriteOutermost 77 = .ok (.ifCond .eq 7, 3) := dk_153 0 7 (dk_at dksX4_rewriteOutermost_3 6 rfl rfl)
theorem dX4_rewriteOutermost_80 : decode cX4_rewriteOutermost 80 = .ok (.iconst 1, 1) := dk_4 (dk_at dksX4_rewriteOutermost_3 9 rfl rfl)
theorem dX4_rewriteOutermost_81 : decode cX4_rewriteOutermost 81 = .ok (.goto 4, 3) := dk_167 0 4 (dk_at dksX4_rewriteOutermost_3 10 rfl rfl)
theorem dX4_rewriteOutermost_84 : decode cX4_rewriteOutermost 84 = .ok (.iconst 0, 1) := dk_3 (dk_at dksX4_rewriteOutermost_3 13 rfl rfl)
theorem dX4_rewriteOutermost_85 : decode cX4_rewriteOutermost 85 = .ok (.iadd, 1) := dk_96 (dk_at dksX4_rewriteOutermost_3 14 rfl rfl)
theorem dX4_rewriteOutermost_86 : decode cX4_rewriteOutermost 86 = .ok (.istore_n 3, 1) := dk_62 (dk_at dksX4_rewriteOutermost_3 15 rfl rfl)
theorem dX4_rewriteOutermost_87 : decode cX4_rewriteOutermost 87 = .ok (.goto (-60), 3) := dk_167 255 196 (dk_at dksX4_rewriteOutermost_3 16 rfl rfl)
theorem dX4_rewriteOutermost_90 : decode cX4_rewriteOutermost 90 = .ok (.iload_n 3, 1) := dk_29 (dk_at dksX4_rewriteOutermost_3 19 rfl rfl)
theorem dX4_rewriteOutermost_91 : decode cX4_rewriteOutermost 91 = .ok (.ireturn, 1) := dk_172 (dk_at dksX4_rewriteOutermost_3 20 rfl rfl)
abbrev cX4_findLoop : ByteArray := prog_10_method_92_code
def yX4_findLoop : MethodName := ⟨RX4, "findLoop", "(II)I"⟩
def dkwX4_findLoop_5 : List UInt8 := [16, 251, 172]
abbrev dktX4_findLoop_5 : List UInt8 := dkwX4_findLoop_5 ++ []
def dkwX4_findLoop_4 : List UInt8 := [182, 1, 58, 153, 0, 5, 29, 172, 42, 42, 180, 0, 34, 3, 182, 1, 54, 132, 3, 1, 167, 255, 183]
abbrev dktX4_findLoop_4 : List UInt8 := dkwX4_findLoop_4 ++ dktX4_findLoop_5
def dkwX4_findLoop_3 : List UInt8 := [155, 0, 18, 42, 42, 180, 0, 95, 21, 4, 21, 5, 182, 1, 45, 156, 0, 6, 16, 251, 172, 42]
abbrev dktX4_findLoop_3 : List UInt8 := dkwX4_findLoop_3 ++ dktX4_findLoop_4
def dkwX4_findLoop_2 : List UInt8 := [42, 180, 1, 51, 4, 100, 104, 54, 4, 42, 42, 180, 0, 95, 21, 4, 3, 182, 1, 42, 54, 5, 21, 5]
abbrev dktX4_findLoop_2 : List UInt8 := dkwX4_findLoop_2 ++ dktX4_findLoop_3
def dkwX4_findLoop_1 : List UInt8 := [181, 1, 51, 42, 42, 180, 0, 22, 16, 96, 27, 104, 182, 1, 54, 4, 62, 29, 28, 163, 0, 74, 16, 96]
abbrev dktX4_findLoop_1 : List UInt8 := dkwX4_findLoop_1 ++ dktX4_findLoop_2
def dkwX4_findLoop_0 : List UInt8 := [27, 184, 1, 18, 154, 0, 5, 2, 172, 28, 4, 16, 100, 184, 0, 105, 154, 0, 6, 16, 254, 172, 42, 3]
abbrev dktX4_findLoop_0 : List UInt8 := dkwX4_findLoop_0 ++ dktX4_findLoop_1
theorem dksX4_findLoop_0 : cX4_findLoop.data.toList.drop 0 = dktX4_findLoop_0 := by decide +kernel
theorem dksX4_findLoop_1 : cX4_findLoop.data.toList.drop 24 = dktX4_findLoop_1 := dk_seg dksX4_findLoop_0 24 rfl rfl
theorem dksX4_findLoop_2 : cX4_findLoop.data.toList.drop 48 = dktX4_findLoop_2 := dk_seg dksX4_findLoop_1 24 rfl rfl
theorem dksX4_findLoop_3 : cX4_findLoop.data.toList.drop 72 = dktX4_findLoop_3 := dk_seg dksX4_findLoop_2 24 rfl rfl
theorem dksX4_findLoop_4 : cX4_findLoop.data.toList.drop 94 = dktX4_findLoop_4 := dk_seg dksX4_findLoop_3 22 rfl rfl
theorem dksX4_findLoop_5 : cX4_findLoop.data.toList.drop 117 = dktX4_findLoop_5 := dk_seg dksX4_findLoop_4 23 rfl rfl
theorem dX4_findLoop_0 : decode cX4_findLoop 0 = .ok (.iload_n 1, 1) := dk_27 (dk_at dksX4_findLoop_0 0 rfl rfl)
theorem dX4_findLoop_1 : decode cX4_findLoop 1 = .ok (.invokestatic 274, 3) := dk_184 1 18 (dk_at dksX4_findLoop_0 1 rfl rfl)
theorem dX4_findLoop_4 : decode cX4_findLoop 4 = .ok (.ifCond .ne 5, 3) := dk_154 0 5 (dk_at dksX4_findLoop_0 4 rfl rfl)
theorem dX4_findLoop_7 : decode cX4_findLoop 7 = .ok (.iconst (-1), 1) := dk_2 (dk_at dksX4_findLoop_0 7 rfl rfl)
theorem dX4_findLoop_8 : decode cX4_findLoop 8 = .ok (.ireturn, 1) := dk_172 (dk_at dksX4_findLoop_0 8 rfl rfl)
theorem dX4_findLoop_9 : decode cX4_findLoop 9 = .ok (.iload_n 2, 1) := dk_28 (dk_at dksX4_findLoop_0 9 rfl rfl)
theorem dX4_findLoop_10 : decode cX4_findLoop 10 = .ok (.iconst 1, 1) := dk_4 (dk_at dksX4_findLoop_0 10 rfl rfl)
theorem dX4_findLoop_11 : decode cX4_findLoop 11 = .ok (.bipush 100, 2) := dk_16 100 (dk_at dksX4_findLoop_0 11 rfl rfl)
theorem dX4_findLoop_13 : decode cX4_findLoop 13 = .ok (.invokestatic 105, 3) := dk_184 0 105 (dk_at dksX4_findLoop_0 13 rfl rfl)
theorem dX4_findLoop_16 : decode cX4_findLoop 16 = .ok (.ifCond .ne 6, 3) := dk_154 0 6 (dk_at dksX4_findLoop_0 16 rfl rfl)
theorem dX4_findLoop_19 : decode cX4_findLoop 19 = .ok (.bipush (-2), 2) := dk_16 254 (dk_at dksX4_findLoop_0 19 rfl rfl)
theorem dX4_findLoop_21 : decode cX4_findLoop 21 = .ok (.ireturn, 1) := dk_172 (dk_at dksX4_findLoop_0 21 rfl rfl)
theorem dX4_findLoop_22 : decode cX4_findLoop 22 = .ok (.aload_n 0, 1) := dk_42 (dk_at dksX4_findLoop_0 22 rfl rfl)
theorem dX4_findLoop_23 : decode cX4_findLoop 23 = .ok (.iconst 0, 1) := dk_3 (dk_at dksX4_findLoop_0 23 rfl rfl)
theorem dX4_findLoop_24 : decode cX4_findLoop 24 = .ok (.putfield 307, 3) := dk_181 1 51 (dk_at dksX4_findLoop_1 0 rfl rfl)
theorem dX4_findLoop_27 : decode cX4_findLoop 27 = .ok (.aload_n 0, 1) := dk_42 (dk_at dksX4_findLoop_1 3 rfl rfl)
theorem dX4_findLoop_28 : decode cX4_findLoop 28 = .ok (.aload_n 0, 1) := dk_42 (dk_at dksX4_findLoop_1 4 rfl rfl)
theorem dX4_findLoop_29 : decode cX4_findLoop 29 = .ok (.getfield 22, 3) := dk_180 0 22 (dk_at dksX4_findLoop_1 5 rfl rfl)
theorem dX4_findLoop_32 : decode cX4_findLoop 32 = .ok (.bipush 96, 2) := dk_16 96 (dk_at dksX4_findLoop_1 8 rfl rfl)
theorem dX4_findLoop_34 : decode cX4_findLoop 34 = .ok (.iload_n 1, 1) := dk_27 (dk_at dksX4_findLoop_1 10 rfl rfl)
theorem dX4_findLoop_35 : decode cX4_findLoop 35 = .ok (.imul, 1) := dk_104 (dk_at dksX4_findLoop_1 11 rfl rfl)
theorem dX4_findLoop_36 : decode cX4_findLoop 36 = .ok (.invokevirtual 310, 3) := dk_182 1 54 (dk_at dksX4_findLoop_1 12 rfl rfl)
theorem dX4_findLoop_39 : decode cX4_findLoop 39 = .ok (.iconst 1, 1) := dk_4 (dk_at dksX4_findLoop_1 15 rfl rfl)
theorem dX4_findLoop_40 : decode cX4_findLoop 40 = .ok (.istore_n 3, 1) := dk_62 (dk_at dksX4_findLoop_1 16 rfl rfl)
theorem dX4_findLoop_41 : decode cX4_findLoop 41 = .ok (.iload_n 3, 1) := dk_29 (dk_at dksX4_findLoop_1 17 rfl rfl)
theorem dX4_findLoop_42 : decode cX4_findLoop 42 = .ok (.iload_n 2, 1) := dk_28 (dk_at dksX4_findLoop_1 18 rfl rfl)
theorem dX4_findLoop_43 : decode cX4_findLoop 43 = .ok (.if_icmp .gt 74, 3) := dk_163 0 74 (dk_at dksX4_findLoop_1 19 rfl rfl)
theorem dX4_findLoop_46 : decode cX4_findLoop 46 = .ok (.bipush 96, 2) := dk_16 96 (dk_at dksX4_findLoop_1 22 rfl rfl)
theorem dX4_findLoop_48 : decode cX4_findLoop 48 = .ok (.aload_n 0, 1) := dk_42 (dk_at dksX4_findLoop_2 0 rfl rfl)
theorem dX4_findLoop_49 : decode cX4_findLoop 49 = .ok (.getfield 307, 3) := dk_180 1 51 (dk_at dksX4_findLoop_2 1 rfl rfl)
theorem dX4_findLoop_52 : decode cX4_findLoop 52 = .ok (.iconst 1, 1) := dk_4 (dk_at dksX4_findLoop_2 4 rfl rfl)
theorem dX4_findLoop_53 : decode cX4_findLoop 53 = .ok (.isub, 1) := dk_100 (dk_at dksX4_findLoop_2 5 rfl rfl)
theorem dX4_findLoop_54 : decode cX4_findLoop 54 = .ok (.imul, 1) := dk_104 (dk_at dksX4_findLoop_2 6 rfl rfl)
theorem dX4_findLoop_55 : decode cX4_findLoop 55 = .ok (.istore 4, 2) := dk_54 4 (dk_at dksX4_findLoop_2 7 rfl rfl)
theorem dX4_findLoop_57 : decode cX4_findLoop 57 = .ok (.aload_n 0, 1) := dk_42 (dk_at dksX4_findLoop_2 9 rfl rfl)
theorem dX4_findLoop_58 : decode cX4_findLoop 58 = .ok (.aload_n 0, 1) := dk_42 (dk_at dksX4_findLoop_2 10 rfl rfl)
theorem dX4_findLoop_59 : decode cX4_findLoop 59 = .ok (.getfield 95, 3) := dk_180 0 95 (dk_at dksX4_findLoop_2 11 rfl rfl)
theorem dX4_findLoop_62 : decode cX4_findLoop 62 = .ok (.iload 4, 2) := dk_21 4 (dk_at dksX4_findLoop_2 14 rfl rfl)
theorem dX4_findLoop_64 : decode cX4_findLoop 64 = .ok (.iconst 0, 1) := dk_3 (dk_at dksX4_findLoop_2 16 rfl rfl)
theorem dX4_findLoop_65 : decode cX4_findLoop 65 = .ok (.invokevirtual 298, 3) := dk_182 1 42 (dk_at dksX4_findLoop_2 17 rfl rfl)
theorem dX4_findLoop_68 : decode cX4_findLoop 68 = .ok (.istore 5, 2) := dk_54 5 (dk_at dksX4_findLoop_2 20 rfl rfl)
theorem dX4_findLoop_70 : decode cX4_findLoop 70 = .ok (.iload 5, 2) := dk_21 5 (dk_at dksX4_findLoop_2 22 rfl rfl)
theorem dX4_findLoop_72 : decode cX4_findLoop 72 = .ok (.ifCond .lt 18, 3) := dk_155 0 18 (dk_at dksX4_findLoop_3 0 rfl rfl)
theorem dX4_findLoop_75 : decode cX4_findLoop 75 = .ok (.aload_n 0, 1) := dk_42 (dk_at dksX4_findLoop_3 3 rfl rfl)
theorem dX4_findLoop_76 : decode cX4_findLoop 76 = .ok (.aload_n 0, 1) := dk_42 (dk_at dksX4_findLoop_3 4 rfl rfl)
theorem dX4_findLoop_77 : decode cX4_findLoop 77 = .ok (.getfield 95, 3) := dk_180 0 95 (dk_at dksX4_findLoop_3 5 rfl rfl)
theorem dX4_findLoop_80 : decode cX4_findLoop 80 = .ok (.iload 4, 2) := dk_21 4 (dk_at dksX4_findLoop_3 8 rfl rfl)
theorem dX4_findLoop_82 : decode cX4_findLoop 82 = .ok (.iload 5, 2) := dk_21 5 (dk_at dksX4_findLoop_3 10 rfl rfl)
theorem dX4_findLoop_84 : decode cX4_findLoop 84 = .ok (.invokevirtual 301, 3) := dk_182 1 45 (dk_at dksX4_findLoop_3 12 rfl rfl)
theorem dX4_findLoop_87 : decode cX4_findLoop 87 = .ok (.ifCond .ge 6, 3) := dk_156 0 6 (dk_at dksX4_findLoop_3 15 rfl rfl)
theorem dX4_findLoop_90 : decode cX4_findLoop 90 = .ok (.bipush (-5), 2) := dk_16 251 (dk_at dksX4_findLoop_3 18 rfl rfl)
theorem dX4_findLoop_92 : decode cX4_findLoop 92 = .ok (.ireturn, 1) := dk_172 (dk_at dksX4_findLoop_3 20 rfl rfl)
theorem dX4_findLoop_93 : decode cX4_findLoop 93 = .ok (.aload_n 0, 1) := dk_42 (dk_at dksX4_findLoop_3 21 rfl rfl)
theorem dX4_findLoop_94 : decode cX4_findLoop 94 = .ok (.invokevirtual 314, 3) := dk_182 1 58 (dk_at dksX4_findLoop_4 0 rfl rfl)
theorem dX4_findLoop_97 : decode cX4_findLoop 97 = .ok (.ifCond .eq 5, 3) := dk_153 0 5 (dk_at dksX4_findLoop_4 3 rfl rfl)
theorem dX4_findLoop_100 : decode cX4_findLoop 100 = .ok (.iload_n 3, 1) := dk_29 (dk_at dksX4_findLoop_4 6 rfl rfl)
theorem dX4_findLoop_101 : decode cX4_findLoop 101 = .ok (.ireturn, 1) := dk_172 (dk_at dksX4_findLoop_4 7 rfl rfl)
theorem dX4_findLoop_102 : decode cX4_findLoop 102 = .ok (.aload_n 0, 1) := dk_42 (dk_at dksX4_findLoop_4 8 rfl rfl)
theorem dX4_findLoop_103 : decode cX4_findLoop 103 = .ok (.aload_n 0, 1) := dk_42 (dk_at dksX4_findLoop_4 9 rfl rfl)
theorem dX4_findLoop_104 : decode cX4_findLoop 104 = .ok (.getfield 34, 3) := dk_180 0 34 (dk_at dksX4_findLoop_4 10 rfl rfl)
theorem dX4_findLoop_107 : decode cX4_findLoop 107 = .ok (.iconst 0, 1) := dk_3 (dk_at dksX4_findLoop_4 13 rfl rfl)
theorem dX4_findLoop_108 : decode cX4_findLoop 108 = .ok (.invokevirtual 310, 3) := dk_182 1 54 (dk_at dksX4_findLoop_4 14 rfl rfl)
theorem dX4_findLoop_111 : decode cX4_findLoop 111 = .ok (.iinc 3 1, 3) := dk_132 3 1 (dk_at dksX4_findLoop_4 17 rfl rfl)
theorem dX4_findLoop_114 : decode cX4_findLoop 114 = .ok (.goto (-73), 3) := dk_167 255 183 (dk_at dksX4_findLoop_4 20 rfl rfl)
theorem dX4_findLoop_117 : decode cX4_findLoop 117 = .ok (.bipush (-5), 2) := dk_16 251 (dk_at dksX4_findLoop_5 0 rfl rfl)
theorem dX4_findLoop_119 : decode cX4_findLoop 119 = .ok (.ireturn, 1) := dk_172 (dk_at dksX4_findLoop_5 2 rfl rfl)
abbrev cX4_meet : ByteArray := prog_10_method_91_code
def yX4_meet : MethodName := ⟨RX4, "meet", "([II)V"⟩
def dkwX4_meet_1 : List UInt8 := [180, 1, 51, 3, 84, 42, 89, 180, 1, 51, 4, 96, 181, 1, 51, 177]
abbrev dktX4_meet_1 : List UInt8 := dkwX4_meet_1 ++ []
def dkwX4_meet_0 : List UInt8 := [43, 28, 42, 180, 0, 95, 16, 96, 42, 180, 1, 51, 104, 16, 96, 184, 0, 169, 42, 180, 0, 98, 42]
abbrev dktX4_meet_0 : List UInt8 := dkwX4_meet_0 ++ dktX4_meet_1
theorem dksX4_meet_0 : cX4_meet.data.toList.drop 0 = dktX4_meet_0 := by decide +kernel
theorem dksX4_meet_1 : cX4_meet.data.toList.drop 23 = dktX4_meet_1 := dk_seg dksX4_meet_0 23 rfl rfl
theorem dX4_meet_0 : decode cX4_meet 0 = .ok (.aload_n 1, 1) := dk_43 (dk_at dksX4_meet_0 0 rfl rfl)
theorem dX4_meet_1 : decode cX4_meet 1 = .ok (.iload_n 2, 1) := dk_28 (dk_at dksX4_meet_0 1 rfl rfl)
theorem dX4_meet_2 : decode cX4_meet 2 = .ok (.aload_n 0, 1) := dk_42 (dk_at dksX4_meet_0 2 rfl rfl)
theorem dX4_meet_3 : decode cX4_meet 3 = .ok (.getfield 95, 3) := dk_180 0 95 (dk_at dksX4_meet_0 3 rfl rfl)
theorem dX4_meet_6 : decode cX4_meet 6 = .ok (.bipush 96, 2) := dk_16 96 (dk_at dksX4_meet_0 6 rfl rfl)
theorem dX4_meet_8 : decode cX4_meet 8 = .ok (.aload_n 0, 1) := dk_42 (dk_at dksX4_meet_0 8 rfl rfl)
theorem dX4_meet_9 : decode cX4_meet 9 = .ok (.getfield 307, 3) := dk_180 1 51 (dk_at dksX4_meet_0 9 rfl rfl)
theorem dX4_meet_12 : decode cX4_meet 12 = .ok (.imul, 1) := dk_104 (dk_at dksX4_meet_0 12 rfl rfl)
theorem dX4_meet_13 : decode cX4_meet 13 = .ok (.bipush 96, 2) := dk_16 96 (dk_at dksX4_meet_0 13 rfl rfl)
theorem dX4_meet_15 : decode cX4_meet 15 = .ok (.invokestatic 169, 3) := dk_184 0 169 (dk_at dksX4_meet_0 15 rfl rfl)
theorem dX4_meet_18 : decode cX4_meet 18 = .ok (.aload_n 0, 1) := dk_42 (dk_at dksX4_meet_0 18 rfl rfl)
theorem dX4_meet_19 : decode cX4_meet 19 = .ok (.getfield 98, 3) := dk_180 0 98 (dk_at dksX4_meet_0 19 rfl rfl)
theorem dX4_meet_22 : decode cX4_meet 22 = .ok (.aload_n 0, 1) := dk_42 (dk_at dksX4_meet_0 22 rfl rfl)
theorem dX4_meet_23 : decode cX4_meet 23 = .ok (.getfield 307, 3) := dk_180 1 51 (dk_at dksX4_meet_1 0 rfl rfl)
theorem dX4_meet_26 : decode cX4_meet 26 = .ok (.iconst 0, 1) := dk_3 (dk_at dksX4_meet_1 3 rfl rfl)
theorem dX4_meet_27 : decode cX4_meet 27 = .ok (.bastore, 1) := dk_84 (dk_at dksX4_meet_1 4 rfl rfl)
theorem dX4_meet_28 : decode cX4_meet 28 = .ok (.aload_n 0, 1) := dk_42 (dk_at dksX4_meet_1 5 rfl rfl)
theorem dX4_meet_29 : decode cX4_meet 29 = .ok (.dup, 1) := dk_89 (dk_at dksX4_meet_1 6 rfl rfl)
theorem dX4_meet_30 : decode cX4_meet 30 = .ok (.getfield 307, 3) := dk_180 1 51 (dk_at dksX4_meet_1 7 rfl rfl)
theorem dX4_meet_33 : decode cX4_meet 33 = .ok (.iconst 1, 1) := dk_4 (dk_at dksX4_meet_1 10 rfl rfl)
theorem dX4_meet_34 : decode cX4_meet 34 = .ok (.iadd, 1) := dk_96 (dk_at dksX4_meet_1 11 rfl rfl)
theorem dX4_meet_35 : decode cX4_meet 35 = .ok (.putfield 307, 3) := dk_181 1 51 (dk_at dksX4_meet_1 12 rfl rfl)
theorem dX4_meet_38 : decode cX4_meet 38 = .ok (.return_, 1) := dk_177 (dk_at dksX4_meet_1 15 rfl rfl)
abbrev cX4_isMet : ByteArray := prog_10_method_90_code
def yX4_isMet : MethodName := ⟨RX4, "isMet", "()Z"⟩
def dkwX4_isMet_2 : List UInt8 := [172]
abbrev dktX4_isMet_2 : List UInt8 := dkwX4_isMet_2 ++ []
def dkwX4_isMet_1 : List UInt8 := [42, 180, 0, 34, 3, 184, 1, 32, 154, 0, 7, 4, 167, 0, 4, 3, 60, 132, 2, 1, 167, 255, 216, 27]
abbrev dktX4_isMet_1 : List UInt8 := dkwX4_isMet_1 ++ dktX4_isMet_2
def dkwX4_isMet_0 : List UInt8 := [3, 60, 3, 61, 28, 42, 180, 1, 51, 162, 0, 38, 27, 154, 0, 34, 42, 180, 0, 95, 16, 96, 28, 104]
abbrev dktX4_isMet_0 : List UInt8 := dkwX4_isMet_0 ++ dktX4_isMet_1
theorem dksX4_isMet_0 : cX4_isMet.data.toList.drop 0 = dktX4_isMet_0 := by decide +kernel
theorem dksX4_isMet_1 : cX4_isMet.data.toList.drop 24 = dktX4_isMet_1 := dk_seg dksX4_isMet_0 24 rfl rfl
theorem dksX4_isMet_2 : cX4_isMet.data.toList.drop 48 = dktX4_isMet_2 := dk_seg dksX4_isMet_1 24 rfl rfl
theorem dX4_isMet_0 : decode cX4_isMet 0 = .ok (.iconst 0, 1) := dk_3 (dk_at dksX4_isMet_0 0 rfl rfl)
theorem dX4_isMet_1 : decode cX4_isMet 1 = .ok (.istore_n 1, 1) := dk_60 (dk_at dksX4_isMet_0 1 rfl rfl)
theorem dX4_isMet_2 : decode cX4_isMet 2 = .ok (.iconst 0, 1) := dk_3 (dk_at dksX4_isMet_0 2 rfl rfl)
theorem dX4_isMet_3 : decode cX4_isMet 3 = .ok (.istore_n 2, 1) := dk_61 (dk_at dksX4_isMet_0 3 rfl rfl)
theorem dX4_isMet_4 : decode cX4_isMet 4 = .ok (.iload_n 2, 1) := dk_28 (dk_at dksX4_isMet_0 4 rfl rfl)
theorem dX4_isMet_5 : decode cX4_isMet 5 = .ok (.aload_n 0, 1) := dk_42 (dk_at dksX4_isMet_0 5 rfl rfl)
theorem dX4_isMet_6 : decode cX4_isMet 6 = .ok (.getfield 307, 3) := dk_180 1 51 (dk_at dksX4_isMet_0 6 rfl rfl)
theorem dX4_isMet_9 : decode cX4_isMet 9 = .ok (.if_icmp .ge 38, 3) := dk_162 0 38 (dk_at dksX4_isMet_0 9 rfl rfl)
theorem dX4_isMet_12 : decode cX4_isMet 12 = .ok (.iload_n 1, 1) := dk_27 (dk_at dksX4_isMet_0 12 rfl rfl)
theorem dX4_isMet_13 : decode cX4_isMet 13 = .ok (.ifCond .ne 34, 3) := dk_154 0 34 (dk_at dksX4_isMet_0 13 rfl rfl)
theorem dX4_isMet_16 : decode cX4_isMet 16 = .ok (.aload_n 0, 1) := dk_42 (dk_at dksX4_isMet_0 16 rfl rfl)
theorem dX4_isMet_17 : decode cX4_isMet 17 = .ok (.getfield 95, 3) := dk_180 0 95 (dk_at dksX4_isMet_0 17 rfl rfl)
theorem dX4_isMet_20 : decode cX4_isMet 20 = .ok (.bipush 96, 2) := dk_16 96 (dk_at dksX4_isMet_0 20 rfl rfl)
theorem dX4_isMet_22 : decode cX4_isMet 22 = .ok (.iload_n 2, 1) := dk_28 (dk_at dksX4_isMet_0 22 rfl rfl)
theorem dX4_isMet_23 : decode cX4_isMet 23 = .ok (.imul, 1) := dk_104 (dk_at dksX4_isMet_0 23 rfl rfl)
theorem dX4_isMet_24 : decode cX4_isMet 24 = .ok (.aload_n 0, 1) := dk_42 (dk_at dksX4_isMet_1 0 rfl rfl)
theorem dX4_isMet_25 : decode cX4_isMet 25 = .ok (.getfield 34, 3) := dk_180 0 34 (dk_at dksX4_isMet_1 1 rfl rfl)
theorem dX4_isMet_28 : decode cX4_isMet 28 = .ok (.iconst 0, 1) := dk_3 (dk_at dksX4_isMet_1 4 rfl rfl)
theorem dX4_isMet_29 : decode cX4_isMet 29 = .ok (.invokestatic 288, 3) := dk_184 1 32 (dk_at dksX4_isMet_1 5 rfl rfl)
theorem dX4_isMet_32 : decode cX4_isMet 32 = .ok (.ifCond .ne 7, 3) := dk_154 0 7 (dk_at dksX4_isMet_1 8 rfl rfl)
theorem dX4_isMet_35 : decode cX4_isMet 35 = .ok (.iconst 1, 1) := dk_4 (dk_at dksX4_isMet_1 11 rfl rfl)
theorem dX4_isMet_36 : decode cX4_isMet 36 = .ok (.goto 4, 3) := dk_167 0 4 (dk_at dksX4_isMet_1 12 rfl rfl)
theorem dX4_isMet_39 : decode cX4_isMet 39 = .ok (.iconst 0, 1) := dk_3 (dk_at dksX4_isMet_1 15 rfl rfl)
theorem dX4_isMet_40 : decode cX4_isMet 40 = .ok (.istore_n 1, 1) := dk_60 (dk_at dksX4_isMet_1 16 rfl rfl)
theorem dX4_isMet_41 : decode cX4_isMet 41 = .ok (.iinc 2 1, 3) := dk_132 2 1 (dk_at dksX4_isMet_1 17 rfl rfl)
theorem dX4_isMet_44 : decode cX4_isMet 44 = .ok (.goto (-40), 3) := dk_167 255 216 (dk_at dksX4_isMet_1 20 rfl rfl)
theorem dX4_isMet_47 : decode cX4_isMet 47 = .ok (.iload_n 1, 1) := dk_27 (dk_at dksX4_isMet_1 23 rfl rfl)
theorem dX4_isMet_48 : decode cX4_isMet 48 = .ok (.ireturn, 1) := dk_172 (dk_at dksX4_isMet_2 0 rfl rfl)
abbrev cX4_exploredCount : ByteArray := prog_10_method_96_code
def yX4_exploredCount : MethodName := ⟨RX4, "exploredCount", "(II)I"⟩
def dkwX4_exploredCount_0 : List UInt8 := [42, 27, 28, 182, 1, 70, 62, 29, 156, 0, 5, 29, 172, 42, 27, 28, 182, 1, 73, 42, 180, 1, 61, 172]
abbrev dktX4_exploredCount_0 : List UInt8 := dkwX4_exploredCount_0 ++ []
theorem dksX4_exploredCount_0 : cX4_exploredCount.data.toList.drop 0 = dktX4_exploredCount_0 := by decide +kernel
theorem dX4_exploredCount_0 : decode cX4_exploredCount 0 = .ok (.aload_n 0, 1) := dk_42 (dk_at dksX4_exploredCount_0 0 rfl rfl)
theorem dX4_exploredCount_1 : decode cX4_exploredCount 1 = .ok (.iload_n 1, 1) := dk_27 (dk_at dksX4_exploredCount_0 1 rfl rfl)
theorem dX4_exploredCount_2 : decode cX4_exploredCount 2 = .ok (.iload_n 2, 1) := dk_28 (dk_at dksX4_exploredCount_0 2 rfl rfl)
theorem dX4_exploredCount_3 : decode cX4_exploredCount 3 = .ok (.invokevirtual 326, 3) := dk_182 1 70 (dk_at dksX4_exploredCount_0 3 rfl rfl)
theorem dX4_exploredCount_6 : decode cX4_exploredCount 6 = .ok (.istore_n 3, 1) := dk_62 (dk_at dksX4_exploredCount_0 6 rfl rfl)
theorem dX4_exploredCount_7 : decode cX4_exploredCount 7 = .ok (.iload_n 3, 1) := dk_29 (dk_at dksX4_exploredCount_0 7 rfl rfl)
theorem dX4_exploredCount_8 : decode cX4_exploredCount 8 = .ok (.ifCond .ge 5, 3) := dk_156 0 5 (dk_at dksX4_exploredCount_0 8 rfl rfl)
theorem dX4_exploredCount_11 : decode cX4_exploredCount 11 = .ok (.iload_n 3, 1) := dk_29 (dk_at dksX4_exploredCount_0 11 rfl rfl)
theorem dX4_exploredCount_12 : decode cX4_exploredCount 12 = .ok (.ireturn, 1) := dk_172 (dk_at dksX4_exploredCount_0 12 rfl rfl)
theorem dX4_exploredCount_13 : decode cX4_exploredCount 13 = .ok (.aload_n 0, 1) := dk_42 (dk_at dksX4_exploredCount_0 13 rfl rfl)
theorem dX4_exploredCount_14 : decode cX4_exploredCount 14 = .ok (.iload_n 1, 1) := dk_27 (dk_at dksX4_exploredCount_0 14 rfl rfl)
theorem dX4_exploredCount_15 : decode cX4_exploredCount 15 = .ok (.iload_n 2, 1) := dk_28 (dk_at dksX4_exploredCount_0 15 rfl rfl)
theorem dX4_exploredCount_16 : decode cX4_exploredCount 16 = .ok (.invokevirtual 329, 3) := dk_182 1 73 (dk_at dksX4_exploredCount_0 16 rfl rfl)
theorem dX4_exploredCount_19 : decode cX4_exploredCount 19 = .ok (.aload_n 0, 1) := dk_42 (dk_at dksX4_exploredCount_0 19 rfl rfl)
theorem dX4_exploredCount_20 : decode cX4_exploredCount 20 = .ok (.getfield 317, 3) := dk_180 1 61 (dk_at dksX4_exploredCount_0 20 rfl rfl)
theorem dX4_exploredCount_23 : decode cX4_exploredCount 23 = .ok (.ireturn, 1) := dk_172 (dk_at dksX4_exploredCount_0 23 rfl rfl)
abbrev cX4_wrongExploration : ByteArray := prog_10_method_95_code
def yX4_wrongExploration : MethodName := ⟨RX4, "wrongExploration", "(II)I"⟩
def dkwX4_wrongExploration_1 : List UInt8 := [167, 0, 5, 16, 254, 172]
abbrev dktX4_wrongExploration_1 : List UInt8 := dkwX4_wrongExploration_1 ++ []
def dkwX4_wrongExploration_0 : List UInt8 := [27, 184, 1, 18, 154, 0, 7, 2, 167, 0, 19, 28, 4, 16, 30, 184, 0, 105, 153, 0, 7, 3]
abbrev dktX4_wrongExploration_0 : List UInt8 := dkwX4_wrongExploration_0 ++ dktX4_wrongExploration_1
theorem dksX4_wrongExploration_0 : cX4_wrongExploration.data.toList.drop 0 = dktX4_wrongExploration_0 := by decide +kernel
theorem dksX4_wrongExploration_1 : cX4_wrongExploration.data.toList.drop 22 = dktX4_wrongExploration_1 := dk_seg dksX4_wrongExploration_0 22 rfl rfl
theorem dX4_wrongExploration_0 : decode cX4_wrongExploration 0 = .ok (.iload_n 1, 1) := dk_27 (dk_at dksX4_wrongExploration_0 0 rfl rfl)
theorem dX4_wrongExploration_1 : decode cX4_wrongExploration 1 = .ok (.invokestatic 274, 3) := dk_184 1 18 (dk_at dksX4_wrongExploration_0 1 rfl rfl)
theorem dX4_wrongExploration_4 : decode cX4_wrongExploration 4 = .ok (.ifCond .ne 7, 3) := dk_154 0 7 (dk_at dksX4_wrongExploration_0 4 rfl rfl)
theorem dX4_wrongExploration_7 : decode cX4_wrongExploration 7 = .ok (.iconst (-1), 1) := dk_2 (dk_at dksX4_wrongExploration_0 7 rfl rfl)
theorem dX4_wrongExploration_8 : decode cX4_wrongExploration 8 = .ok (.goto 19, 3) := dk_167 0 19 (dk_at dksX4_wrongExploration_0 8 rfl rfl)
theorem dX4_wrongExploration_11 : decode cX4_wrongExploration 11 = .ok (.iload_n 2, 1) := dk_28 (dk_at dksX4_wrongExploration_0 11 rfl rfl)
theorem dX4_wrongExploration_12 : decode cX4_wrongExploration 12 = .ok (.iconst 1, 1) := dk_4 (dk_at dksX4_wrongExploration_0 12 rfl rfl)
theorem dX4_wrongExploration_13 : decode cX4_wrongExploration 13 = .ok (.bipush 30, 2) := dk_16 30 (dk_at dksX4_wrongExploration_0 13 rfl rfl)
theorem dX4_wrongExploration_15 : decode cX4_wrongExploration 15 = .ok (.invokestatic 105, 3) := dk_184 0 105 (dk_at dksX4_wrongExploration_0 15 rfl rfl)
theorem dX4_wrongExploration_18 : decode cX4_wrongExploration 18 = .ok (.ifCond .eq 7, 3) := dk_153 0 7 (dk_at dksX4_wrongExploration_0 18 rfl rfl)
theorem dX4_wrongExploration_21 : decode cX4_wrongExploration 21 = .ok (.iconst 0, 1) := dk_3 (dk_at dksX4_wrongExploration_0 21 rfl rfl)
theorem dX4_wrongExploration_22 : decode cX4_wrongExploration 22 = .ok (.goto 5, 3) := dk_167 0 5 (dk_at dksX4_wrongExploration_1 0 rfl rfl)
theorem dX4_wrongExploration_25 : decode cX4_wrongExploration 25 = .ok (.bipush (-2), 2) := dk_16 254 (dk_at dksX4_wrongExploration_1 3 rfl rfl)
theorem dX4_wrongExploration_27 : decode cX4_wrongExploration 27 = .ok (.ireturn, 1) := dk_172 (dk_at dksX4_wrongExploration_1 5 rfl rfl)
abbrev cX4_explore : ByteArray := prog_10_method_94_code
def yX4_explore : MethodName := ⟨RX4, "explore", "(II)V"⟩
def dkwX4_explore_5 : List UInt8 := [167, 255, 161, 177]
abbrev dktX4_explore_5 : List UInt8 := dkwX4_explore_5 ++ []
def dkwX4_explore_4 : List UInt8 := [154, 0, 12, 42, 42, 180, 0, 34, 3, 182, 1, 54, 132, 4, 1, 167, 255, 206, 42, 182, 1, 67, 62]
abbrev dktX4_explore_4 : List UInt8 := dkwX4_explore_4 ++ dktX4_explore_5
def dkwX4_explore_3 : List UInt8 := [162, 0, 42, 42, 42, 180, 0, 95, 16, 96, 29, 104, 21, 4, 182, 1, 45, 158, 0, 19, 42, 182, 1, 58]
abbrev dktX4_explore_3 : List UInt8 := dkwX4_explore_3 ++ dktX4_explore_4
def dkwX4_explore_2 : List UInt8 := [4, 96, 181, 1, 61, 42, 29, 181, 1, 64, 3, 54, 4, 21, 4, 42, 180, 0, 95, 16, 96, 29, 104, 46]
abbrev dktX4_explore_2 : List UInt8 := dkwX4_explore_2 ++ dktX4_explore_3
def dkwX4_explore_1 : List UInt8 := [29, 155, 0, 97, 42, 180, 1, 61, 28, 162, 0, 89, 42, 180, 0, 98, 29, 4, 84, 42, 89, 180, 1, 61]
abbrev dktX4_explore_1 : List UInt8 := dkwX4_explore_1 ++ dktX4_explore_2
def dkwX4_explore_0 : List UInt8 := [42, 3, 181, 1, 51, 42, 3, 181, 1, 61, 42, 42, 180, 0, 22, 16, 96, 27, 104, 182, 1, 54, 3, 62]
abbrev dktX4_explore_0 : List UInt8 := dkwX4_explore_0 ++ dktX4_explore_1
theorem dksX4_explore_0 : cX4_explore.data.toList.drop 0 = dktX4_explore_0 := by decide +kernel
theorem dksX4_explore_1 : cX4_explore.data.toList.drop 24 = dktX4_explore_1 := dk_seg dksX4_explore_0 24 rfl rfl
theorem dksX4_explore_2 : cX4_explore.data.toList.drop 48 = dktX4_explore_2 := dk_seg dksX4_explore_1 24 rfl rfl
theorem dksX4_explore_3 : cX4_explore.data.toList.drop 72 = dktX4_explore_3 := dk_seg dksX4_explore_2 24 rfl rfl
theorem dksX4_explore_4 : cX4_explore.data.toList.drop 96 = dktX4_explore_4 := dk_seg dksX4_explore_3 24 rfl rfl
theorem dksX4_explore_5 : cX4_explore.data.toList.drop 119 = dktX4_explore_5 := dk_seg dksX4_explore_4 23 rfl rfl
theorem dX4_explore_0 : decode cX4_explore 0 = .ok (.aload_n 0, 1) := dk_42 (dk_at dksX4_explore_0 0 rfl rfl)
theorem dX4_explore_1 : decode cX4_explore 1 = .ok (.iconst 0, 1) := dk_3 (dk_at dksX4_explore_0 1 rfl rfl)
theorem dX4_explore_2 : decode cX4_explore 2 = .ok (.putfield 307, 3) := dk_181 1 51 (dk_at dksX4_explore_0 2 rfl rfl)
theorem dX4_explore_5 : decode cX4_explore 5 = .ok (.aload_n 0, 1) := dk_42 (dk_at dksX4_explore_0 5 rfl rfl)
theorem dX4_explore_6 : decode cX4_explore 6 = .ok (.iconst 0, 1) := dk_3 (dk_at dksX4_explore_0 6 rfl rfl)
theorem dX4_explore_7 : decode cX4_explore 7 = .ok (.putfield 317, 3) := dk_181 1 61 (dk_at dksX4_explore_0 7 rfl rfl)
theorem dX4_explore_10 : decode cX4_explore 10 = .ok (.aload_n 0, 1) := dk_42 (dk_at dksX4_explore_0 10 rfl rfl)
theorem dX4_explore_11 : decode cX4_explore 11 = .ok (.aload_n 0, 1) := dk_42 (dk_at dksX4_explore_0 11 rfl rfl)
theorem dX4_explore_12 : decode cX4_explore 12 = .ok (.getfield 22, 3) := dk_180 0 22 (dk_at dksX4_explore_0 12 rfl rfl)
theorem dX4_explore_15 : decode cX4_explore 15 = .ok (.bipush 96, 2) := dk_16 96 (dk_at dksX4_explore_0 15 rfl rfl)
theorem dX4_explore_17 : decode cX4_explore 17 = .ok (.iload_n 1, 1) := dk_27 (dk_at dksX4_explore_0 17 rfl rfl)
theorem dX4_explore_18 : decode cX4_explore 18 = .ok (.imul, 1) := dk_104 (dk_at dksX4_explore_0 18 rfl rfl)
theorem dX4_explore_19 : decode cX4_explore 19 = .ok (.invokevirtual 310, 3) := dk_182 1 54 (dk_at dksX4_explore_0 19 rfl rfl)
theorem dX4_explore_22 : decode cX4_explore 22 = .ok (.iconst 0, 1) := dk_3 (dk_at dksX4_explore_0 22 rfl rfl)
theorem dX4_explore_23 : decode cX4_explore 23 = .ok (.istore_n 3, 1) := dk_62 (dk_at dksX4_explore_0 23 rfl rfl)
theorem dX4_explore_24 : decode cX4_explore 24 = .ok (.iload_n 3, 1) := dk_29 (dk_at dksX4_explore_1 0 rfl rfl)
theorem dX4_explore_25 : decode cX4_explore 25 = .ok (.ifCond .lt 97, 3) := dk_155 0 97 (dk_at dksX4_explore_1 1 rfl rfl)
theorem dX4_explore_28 : decode cX4_explore 28 = .ok (.aload_n 0, 1) := dk_42 (dk_at dksX4_explore_1 4 rfl rfl)
theorem dX4_explore_29 : decode cX4_explore 29 = .ok (.getfield 317, 3) := dk_180 1 61 (dk_at dksX4_explore_1 5 rfl rfl)
theorem dX4_explore_32 : decode cX4_explore 32 = .ok (.iload_n 2, 1) := dk_28 (dk_at dksX4_explore_1 8 rfl rfl)
theorem dX4_explore_33 : decode cX4_explore 33 = .ok (.if_icmp .ge 89, 3) := dk_162 0 89 (dk_at dksX4_explore_1 9 rfl rfl)
theorem dX4_explore_36 : decode cX4_explore 36 = .ok (.aload_n 0, 1) := dk_42 (dk_at dksX4_explore_1 12 rfl rfl)
theorem dX4_explore_37 : decode cX4_explore 37 = .ok (.getfield 98, 3) := dk_180 0 98 (dk_at dksX4_explore_1 13 rfl rfl)
theorem dX4_explore_40 : decode cX4_explore 40 = .ok (.iload_n 3, 1) := dk_29 (dk_at dksX4_explore_1 16 rfl rfl)
theorem dX4_explore_41 : decode cX4_explore 41 = .ok (.iconst 1, 1) := dk_4 (dk_at dksX4_explore_1 17 rfl rfl)
theorem dX4_explore_42 : decode cX4_explore 42 = .ok (.bastore, 1) := dk_84 (dk_at dksX4_explore_1 18 rfl rfl)
theorem dX4_explore_43 : decode cX4_explore 43 = .ok (.aload_n 0, 1) := dk_42 (dk_at dksX4_explore_1 19 rfl rfl)
theorem dX4_explore_44 : decode cX4_explore 44 = .ok (.dup, 1) := dk_89 (dk_at dksX4_explore_1 20 rfl rfl)
theorem dX4_explore_45 : decode cX4_explore 45 = .ok (.getfield 317, 3) := dk_180 1 61 (dk_at dksX4_explore_1 21 rfl rfl)
theorem dX4_explore_48 : decode cX4_explore 48 = .ok (.iconst 1, 1) := dk_4 (dk_at dksX4_explore_2 0 rfl rfl)
theorem dX4_explore_49 : decode cX4_explore 49 = .ok (.iadd, 1) := dk_96 (dk_at dksX4_explore_2 1 rfl rfl)
theorem dX4_explore_50 : decode cX4_explore 50 = .ok (.putfield 317, 3) := dk_181 1 61 (dk_at dksX4_explore_2 2 rfl rfl)
theorem dX4_explore_53 : decode cX4_explore 53 = .ok (.aload_n 0, 1) := dk_42 (dk_at dksX4_explore_2 5 rfl rfl)
theorem dX4_explore_54 : decode cX4_explore 54 = .ok (.iload_n 3, 1) := dk_29 (dk_at dksX4_explore_2 6 rfl rfl)
theorem dX4_explore_55 : decode cX4_explore 55 = .ok (.putfield 320, 3) := dk_181 1 64 (dk_at dksX4_explore_2 7 rfl rfl)
theorem dX4_explore_58 : decode cX4_explore 58 = .ok (.iconst 0, 1) := dk_3 (dk_at dksX4_explore_2 10 rfl rfl)
theorem dX4_explore_59 : decode cX4_explore 59 = .ok (.istore 4, 2) := dk_54 4 (dk_at dksX4_explore_2 11 rfl rfl)
theorem dX4_explore_61 : decode cX4_explore 61 = .ok (.iload 4, 2) := dk_21 4 (dk_at dksX4_explore_2 13 rfl rfl)
theorem dX4_explore_63 : decode cX4_explore 63 = .ok (.aload_n 0, 1) := dk_42 (dk_at dksX4_explore_2 15 rfl rfl)
theorem dX4_explore_64 : decode cX4_explore 64 = .ok (.getfield 95, 3) := dk_180 0 95 (dk_at dksX4_explore_2 16 rfl rfl)
theorem dX4_explore_67 : decode cX4_explore 67 = .ok (.bipush 96, 2) := dk_16 96 (dk_at dksX4_explore_2 19 rfl rfl)
theorem dX4_explore_69 : decode cX4_explore 69 = .ok (.iload_n 3, 1) := dk_29 (dk_at dksX4_explore_2 21 rfl rfl)
theorem dX4_explore_70 : decode cX4_explore 70 = .ok (.imul, 1) := dk_104 (dk_at dksX4_explore_2 22 rfl rfl)
theorem dX4_explore_71 : decode cX4_explore 71 = .ok (.iaload, 1) := dk_46 (dk_at dksX4_explore_2 23 rfl rfl)
theorem dX4_explore_72 : decode cX4_explore 72 = .ok (.if_icmp .ge 42, 3) := dk_162 0 42 (dk_at dksX4_explore_3 0 rfl rfl)
theorem dX4_explore_75 : decode cX4_explore 75 = .ok (.aload_n 0, 1) := dk_42 (dk_at dksX4_explore_3 3 rfl rfl)
theorem dX4_explore_76 : decode cX4_explore 76 = .ok (.aload_n 0, 1) := dk_42 (dk_at dksX4_explore_3 4 rfl rfl)
theorem dX4_explore_77 : decode cX4_explore 77 = .ok (.getfield 95, 3) := dk_180 0 95 (dk_at dksX4_explore_3 5 rfl rfl)
theorem dX4_explore_80 : decode cX4_explore 80 = .ok (.bipush 96, 2) := dk_16 96 (dk_at dksX4_explore_3 8 rfl rfl)
theorem dX4_explore_82 : decode cX4_explore 82 = .ok (.iload_n 3, 1) := dk_29 (dk_at dksX4_explore_3 10 rfl rfl)
theorem dX4_explore_83 : decode cX4_explore 83 = .ok (.imul, 1) := dk_104 (dk_at dksX4_explore_3 11 rfl rfl)
theorem dX4_explore_84 : decode cX4_explore 84 = .ok (.iload 4, 2) := dk_21 4 (dk_at dksX4_explore_3 12 rfl rfl)
theorem dX4_explore_86 : decode cX4_explore 86 = .ok (.invokevirtual 301, 3) := dk_182 1 45 (dk_at dksX4_explore_3 14 rfl rfl)
theorem dX4_explore_89 : decode cX4_explore 89 = .ok (.ifCond .le 19, 3) := dk_158 0 19 (dk_at dksX4_explore_3 17 rfl rfl)
theorem dX4_explore_92 : decode cX4_explore 92 = .ok (.aload_n 0, 1) := dk_42 (dk_at dksX4_explore_3 20 rfl rfl)
theorem dX4_explore_93 : decode cX4_explore 93 = .ok (.invokevirtual 314, 3) := dk_182 1 58 (dk_at dksX4_explore_3 21 rfl rfl)
theorem dX4_explore_96 : decode cX4_explore 96 = .ok (.ifCond .ne 12, 3) := dk_154 0 12 (dk_at dksX4_explore_4 0 rfl rfl)
theorem dX4_explore_99 : decode cX4_explore 99 = .ok (.aload_n 0, 1) := dk_42 (dk_at dksX4_explore_4 3 rfl rfl)
theorem dX4_explore_100 : decode cX4_explore 100 = .ok (.aload_n 0, 1) := dk_42 (dk_at dksX4_explore_4 4 rfl rfl)
theorem dX4_explore_101 : decode cX4_explore 101 = .ok (.getfield 34, 3) := dk_180 0 34 (dk_at dksX4_explore_4 5 rfl rfl)
theorem dX4_explore_104 : decode cX4_explore 104 = .ok (.iconst 0, 1) := dk_3 (dk_at dksX4_explore_4 8 rfl rfl)
theorem dX4_explore_105 : decode cX4_explore 105 = .ok (.invokevirtual 310, 3) := dk_182 1 54 (dk_at dksX4_explore_4 9 rfl rfl)
theorem dX4_explore_108 : decode cX4_explore 108 = .ok (.iinc 4 1, 3) := dk_132 4 1 (dk_at dksX4_explore_4 12 rfl rfl)
theorem dX4_explore_111 : decode cX4_explore 111 = .ok (.goto (-50), 3) := dk_167 255 206 (dk_at dksX4_explore_4 15 rfl rfl)
theorem dX4_explore_114 : decode cX4_explore 114 = .ok (.aload_n 0, 1) := dk_42 (dk_at dksX4_explore_4 18 rfl rfl)
theorem dX4_explore_115 : decode cX4_explore 115 = .ok (.invokevirtual 323, 3) := dk_182 1 67 (dk_at dksX4_explore_4 19 rfl rfl)
theorem dX4_explore_118 : decode cX4_explore 118 = .ok (.istore_n 3, 1) := dk_62 (dk_at dksX4_explore_4 22 rfl rfl)
theorem dX4_explore_119 : decode cX4_explore 119 = .ok (.goto (-95), 3) := dk_167 255 161 (dk_at dksX4_explore_5 0 rfl rfl)
theorem dX4_explore_122 : decode cX4_explore 122 = .ok (.return_, 1) := dk_177 (dk_at dksX4_explore_5 3 rfl rfl)
abbrev cX4_lowestUnexpanded : ByteArray := prog_10_method_93_code
def yX4_lowestUnexpanded : MethodName := ⟨RX4, "lowestUnexpanded", "()I"⟩
def dkwX4_lowestUnexpanded_2 : List UInt8 := [156, 0, 5, 28, 60, 132, 2, 1, 167, 255, 208, 27, 172]
abbrev dktX4_lowestUnexpanded_2 : List UInt8 := dkwX4_lowestUnexpanded_2 ++ []
def dkwX4_lowestUnexpanded_1 : List UInt8 := [155, 0, 25, 42, 180, 0, 95, 16, 96, 28, 104, 42, 180, 0, 95, 16, 96, 27, 104, 184, 1, 32]
abbrev dktX4_lowestUnexpanded_1 : List UInt8 := dkwX4_lowestUnexpanded_1 ++ dktX4_lowestUnexpanded_2
def dkwX4_lowestUnexpanded_0 : List UInt8 := [16, 251, 60, 3, 61, 28, 42, 180, 1, 51, 162, 0, 46, 42, 180, 0, 98, 28, 51, 154, 0, 31, 27]
abbrev dktX4_lowestUnexpanded_0 : List UInt8 := dkwX4_lowestUnexpanded_0 ++ dktX4_lowestUnexpanded_1
theorem dksX4_lowestUnexpanded_0 : cX4_lowestUnexpanded.data.toList.drop 0 = dktX4_lowestUnexpanded_0 := by decide +kernel
theorem dksX4_lowestUnexpanded_1 : cX4_lowestUnexpanded.data.toList.drop 23 = dktX4_lowestUnexpanded_1 := dk_seg dksX4_lowestUnexpanded_0 23 rfl rfl
theorem dksX4_lowestUnexpanded_2 : cX4_lowestUnexpanded.data.toList.drop 45 = dktX4_lowestUnexpanded_2 := dk_seg dksX4_lowestUnexpanded_1 22 rfl rfl
theorem dX4_lowestUnexpanded_0 : decode cX4_lowestUnexpanded 0 = .ok (.bipush (-5), 2) := dk_16 251 (dk_at dksX4_lowestUnexpanded_0 0 rfl rfl)
theorem dX4_lowestUnexpanded_2 : decode cX4_lowestUnexpanded 2 = .ok (.istore_n 1, 1) := dk_60 (dk_at dksX4_lowestUnexpanded_0 2 rfl rfl)
theorem dX4_lowestUnexpanded_3 : decode cX4_lowestUnexpanded 3 = .ok (.iconst 0, 1) := dk_3 (dk_at dksX4_lowestUnexpanded_0 3 rfl rfl)
theorem dX4_lowestUnexpanded_4 : decode cX4_lowestUnexpanded 4 = .ok (.istore_n 2, 1) := dk_61 (dk_at dksX4_lowestUnexpanded_0 4 rfl rfl)
theorem dX4_lowestUnexpanded_5 : decode cX4_lowestUnexpanded 5 = .ok (.iload_n 2, 1) := dk_28 (dk_at dksX4_lowestUnexpanded_0 5 rfl rfl)
theorem dX4_lowestUnexpanded_6 : decode cX4_lowestUnexpanded 6 = .ok (.aload_n 0, 1) := dk_42 (dk_at dksX4_lowestUnexpanded_0 6 rfl rfl)
theorem dX4_lowestUnexpanded_7 : decode cX4_lowestUnexpanded 7 = .ok (.getfield 307, 3) := dk_180 1 51 (dk_at dksX4_lowestUnexpanded_0 7 rfl rfl)
theorem dX4_lowestUnexpanded_10 : decode cX4_lowestUnexpanded 10 = .ok (.if_icmp .ge 46, 3) := dk_162 0 46 (dk_at dksX4_lowestUnexpanded_0 10 rfl rfl)
theorem dX4_lowestUnexpanded_13 : decode cX4_lowestUnexpanded 13 = .ok (.aload_n 0, 1) := dk_42 (dk_at dksX4_lowestUnexpanded_0 13 rfl rfl)
theorem dX4_lowestUnexpanded_14 : decode cX4_lowestUnexpanded 14 = .ok (.getfield 98, 3) := dk_180 0 98 (dk_at dksX4_lowestUnexpanded_0 14 rfl rfl)
theorem dX4_lowestUnexpanded_17 : decode cX4_lowestUnexpanded 17 = .ok (.iload_n 2, 1) := dk_28 (dk_at dksX4_lowestUnexpanded_0 17 rfl rfl)
theorem dX4_lowestUnexpanded_18 : decode cX4_lowestUnexpanded 18 = .ok (.baload, 1) := dk_51 (dk_at dksX4_lowestUnexpanded_0 18 rfl rfl)
theorem dX4_lowestUnexpanded_19 : decode cX4_lowestUnexpanded 19 = .ok (.ifCond .ne 31, 3) := dk_154 0 31 (dk_at dksX4_lowestUnexpanded_0 19 rfl rfl)
theorem dX4_lowestUnexpanded_22 : decode cX4_lowestUnexpanded 22 = .ok (.iload_n 1, 1) := dk_27 (dk_at dksX4_lowestUnexpanded_0 22 rfl rfl)
theorem dX4_lowestUnexpanded_23 : decode cX4_lowestUnexpanded 23 = .ok (.ifCond .lt 25, 3) := dk_155 0 25 (dk_at dksX4_lowestUnexpanded_1 0 rfl rfl)
theorem dX4_lowestUnexpanded_26 : decode cX4_lowestUnexpanded 26 = .ok (.aload_n 0, 1) := dk_42 (dk_at dksX4_lowestUnexpanded_1 3 rfl rfl)
theorem dX4_lowestUnexpanded_27 : decode cX4_lowestUnexpanded 27 = .ok (.getfield 95, 3) := dk_180 0 95 (dk_at dksX4_lowestUnexpanded_1 4 rfl rfl)
theorem dX4_lowestUnexpanded_30 : decode cX4_lowestUnexpanded 30 = .ok (.bipush 96, 2) := dk_16 96 (dk_at dksX4_lowestUnexpanded_1 7 rfl rfl)
theorem dX4_lowestUnexpanded_32 : decode cX4_lowestUnexpanded 32 = .ok (.iload_n 2, 1) := dk_28 (dk_at dksX4_lowestUnexpanded_1 9 rfl rfl)
theorem dX4_lowestUnexpanded_33 : decode cX4_lowestUnexpanded 33 = .ok (.imul, 1) := dk_104 (dk_at dksX4_lowestUnexpanded_1 10 rfl rfl)
theorem dX4_lowestUnexpanded_34 : decode cX4_lowestUnexpanded 34 = .ok (.aload_n 0, 1) := dk_42 (dk_at dksX4_lowestUnexpanded_1 11 rfl rfl)
theorem dX4_lowestUnexpanded_35 : decode cX4_lowestUnexpanded 35 = .ok (.getfield 95, 3) := dk_180 0 95 (dk_at dksX4_lowestUnexpanded_1 12 rfl rfl)
theorem dX4_lowestUnexpanded_38 : decode cX4_lowestUnexpanded 38 = .ok (.bipush 96, 2) := dk_16 96 (dk_at dksX4_lowestUnexpanded_1 15 rfl rfl)
theorem dX4_lowestUnexpanded_40 : decode cX4_lowestUnexpanded 40 = .ok (.iload_n 1, 1) := dk_27 (dk_at dksX4_lowestUnexpanded_1 17 rfl rfl)
theorem dX4_lowestUnexpanded_41 : decode cX4_lowestUnexpanded 41 = .ok (.imul, 1) := dk_104 (dk_at dksX4_lowestUnexpanded_1 18 rfl rfl)
theorem dX4_lowestUnexpanded_42 : decode cX4_lowestUnexpanded 42 = .ok (.invokestatic 288, 3) := dk_184 1 32 (dk_at dksX4_lowestUnexpanded_1 19 rfl rfl)
theorem dX4_lowestUnexpanded_45 : decode cX4_lowestUnexpanded 45 = .ok (.ifCond .ge 5, 3) := dk_156 0 5 (dk_at dksX4_lowestUnexpanded_2 0 rfl rfl)
theorem dX4_lowestUnexpanded_48 : decode cX4_lowestUnexpanded 48 = .ok (.iload_n 2, 1) := dk_28 (dk_at dksX4_lowestUnexpanded_2 3 rfl rfl)
theorem dX4_lowestUnexpanded_49 : decode cX4_lowestUnexpanded 49 = .ok (.istore_n 1, 1) := dk_60 (dk_at dksX4_lowestUnexpanded_2 4 rfl rfl)
theorem dX4_lowestUnexpanded_50 : decode cX4_lowestUnexpanded 50 = .ok (.iinc 2 1, 3) := dk_132 2 1 (dk_at dksX4_lowestUnexpanded_2 5 rfl rfl)
theorem dX4_lowestUnexpanded_53 : decode cX4_lowestUnexpanded 53 = .ok (.goto (-48), 3) := dk_167 255 208 (dk_at dksX4_lowestUnexpanded_2 8 rfl rfl)
theorem dX4_lowestUnexpanded_56 : decode cX4_lowestUnexpanded 56 = .ok (.iload_n 1, 1) := dk_27 (dk_at dksX4_lowestUnexpanded_2 11 rfl rfl)
theorem dX4_lowestUnexpanded_57 : decode cX4_lowestUnexpanded 57 = .ok (.ireturn, 1) := dk_172 (dk_at dksX4_lowestUnexpanded_2 12 rfl rfl)
abbrev cX4_exploredNormalForms : ByteArray := prog_10_method_98_code
def yX4_exploredNormalForms : MethodName := ⟨RX4, "exploredNormalForms", "(II)I"⟩
def dkwX4_exploredNormalForms_3 : List UInt8 := [132, 5, 1, 167, 255, 208, 21, 4, 172]
abbrev dktX4_exploredNormalForms_3 : List UInt8 := dkwX4_exploredNormalForms_3 ++ []
def dkwX4_exploredNormalForms_2 : List UInt8 := [42, 180, 0, 95, 16, 96, 21, 5, 104, 182, 1, 77, 153, 0, 7, 4, 167, 0, 4, 3, 96, 54, 4]
abbrev dktX4_exploredNormalForms_2 : List UInt8 := dkwX4_exploredNormalForms_2 ++ dktX4_exploredNormalForms_3
def dkwX4_exploredNormalForms_1 : List UInt8 := [54, 5, 21, 5, 42, 180, 1, 51, 162, 0, 45, 21, 4, 42, 180, 0, 98, 21, 5, 51, 153, 0, 23, 42]
abbrev dktX4_exploredNormalForms_1 : List UInt8 := dkwX4_exploredNormalForms_1 ++ dktX4_exploredNormalForms_2
def dkwX4_exploredNormalForms_0 : List UInt8 := [42, 27, 28, 182, 1, 70, 62, 29, 156, 0, 5, 29, 172, 42, 27, 28, 182, 1, 73, 3, 54, 4, 3]
abbrev dktX4_exploredNormalForms_0 : List UInt8 := dkwX4_exploredNormalForms_0 ++ dktX4_exploredNormalForms_1
theorem dksX4_exploredNormalForms_0 : cX4_exploredNormalForms.data.toList.drop 0 = dktX4_exploredNormalForms_0 := by decide +kernel
theorem dksX4_exploredNormalForms_1 : cX4_exploredNormalForms.data.toList.drop 23 = dktX4_exploredNormalForms_1 := dk_seg dksX4_exploredNormalForms_0 23 rfl rfl
theorem dksX4_exploredNormalForms_2 : cX4_exploredNormalForms.data.toList.drop 47 = dktX4_exploredNormalForms_2 := dk_seg dksX4_exploredNormalForms_1 24 rfl rfl
theorem dksX4_exploredNormalForms_3 : cX4_exploredNormalForms.data.toList.drop 70 = dktX4_exploredNormalForms_3 := dk_seg dksX4_exploredNormalForms_2 23 rfl rfl
theorem dX4_exploredNormalForms_0 : decode cX4_exploredNormalForms 0 = .ok (.aload_n 0, 1) := dk_42 (dk_at dksX4_exploredNormalForms_0 0 rfl rfl)
theorem dX4_exploredNormalForms_1 : decode cX4_exploredNormalForms 1 = .ok (.iload_n 1, 1) := dk_27 (dk_at dksX4_exploredNormalForms_0 1 rfl rfl)
theorem dX4_exploredNormalForms_2 : decode cX4_exploredNormalForms 2 = .ok (.iload_n 2, 1) := dk_28 (dk_at dksX4_exploredNormalForms_0 2 rfl rfl)
theorem dX4_exploredNormalForms_3 : decode cX4_exploredNormalForms 3 = .ok (.invokevirtual 326, 3) := dk_182 1 70 (dk_at dksX4_exploredNormalForms_0 3 rfl rfl)
theorem dX4_exploredNormalForms_6 : decode cX4_exploredNormalForms 6 = .ok (.istore_n 3, 1) := dk_62 (dk_at dksX4_exploredNormalForms_0 6 rfl rfl)
theorem dX4_exploredNormalForms_7 : decode cX4_exploredNormalForms 7 = .ok (.iload_n 3, 1) := dk_29 (dk_at dksX4_exploredNormalForms_0 7 rfl rfl)
theorem dX4_exploredNormalForms_8 : decode cX4_exploredNormalForms 8 = .ok (.ifCond .ge 5, 3) := dk_156 0 5 (dk_at dksX4_exploredNormalForms_0 8 rfl rfl)
theorem dX4_exploredNormalForms_11 : decode cX4_exploredNormalForms 11 = .ok (.iload_n 3, 1) := dk_29 (dk_at dksX4_exploredNormalForms_0 11 rfl rfl)
theorem dX4_exploredNormalForms_12 : decode cX4_exploredNormalForms 12 = .ok (.ireturn, 1) := dk_172 (dk_at dksX4_exploredNormalForms_0 12 rfl rfl)
theorem dX4_exploredNormalForms_13 : decode cX4_exploredNormalForms 13 = .ok (.aload_n 0, 1) := dk_42 (dk_at dksX4_exploredNormalForms_0 13 rfl rfl)
theorem dX4_exploredNormalForms_14 : decode cX4_exploredNormalForms 14 = .ok (.iload_n 1, 1) := dk_27 (dk_at dksX4_exploredNormalForms_0 14 rfl rfl)
theorem dX4_exploredNormalForms_15 : decode cX4_exploredNormalForms 15 = .ok (.iload_n 2, 1) := dk_28 (dk_at dksX4_exploredNormalForms_0 15 rfl rfl)
theorem dX4_exploredNormalForms_16 : decode cX4_exploredNormalForms 16 = .ok (.invokevirtual 329, 3) := dk_182 1 73 (dk_at dksX4_exploredNormalForms_0 16 rfl rfl)
theorem dX4_exploredNormalForms_19 : decode cX4_exploredNormalForms 19 = .ok (.iconst 0, 1) := dk_3 (dk_at dksX4_exploredNormalForms_0 19 rfl rfl)
theorem dX4_exploredNormalForms_20 : decode cX4_exploredNormalForms 20 = .ok (.istore 4, 2) := dk_54 4 (dk_at dksX4_exploredNormalForms_0 20 rfl rfl)
theorem dX4_exploredNormalForms_22 : decode cX4_exploredNormalForms 22 = .ok (.iconst 0, 1) := dk_3 (dk_at dksX4_exploredNormalForms_0 22 rfl rfl)
theorem dX4_exploredNormalForms_23 : decode cX4_exploredNormalForms 23 = .ok (.istore 5, 2) := dk_54 5 (dk_at dksX4_exploredNormalForms_1 0 rfl rfl)
theorem dX4_exploredNormalForms_25 : decode cX4_exploredNormalForms 25 = .ok (.iload 5, 2) := dk_21 5 (dk_at dksX4_exploredNormalForms_1 2 rfl rfl)
theorem dX4_exploredNormalForms_27 : decode cX4_exploredNormalForms 27 = .ok (.aload_n 0, 1) := dk_42 (dk_at dksX4_exploredNormalForms_1 4 rfl rfl)
theorem dX4_exploredNormalForms_28 : decode cX4_exploredNormalForms 28 = .ok (.getfield 307, 3) := dk_180 1 51 (dk_at dksX4_exploredNormalForms_1 5 rfl rfl)
theorem dX4_exploredNormalForms_31 : decode cX4_exploredNormalForms 31 = .ok (.if_icmp .ge 45, 3) := dk_162 0 45 (dk_at dksX4_exploredNormalForms_1 8 rfl rfl)
theorem dX4_exploredNormalForms_34 : decode cX4_exploredNormalForms 34 = .ok (.iload 4, 2) := dk_21 4 (dk_at dksX4_exploredNormalForms_1 11 rfl rfl)
theorem dX4_exploredNormalForms_36 : decode cX4_exploredNormalForms 36 = .ok (.aload_n 0, 1) := dk_42 (dk_at dksX4_exploredNormalForms_1 13 rfl rfl)
theorem dX4_exploredNormalForms_37 : decode cX4_exploredNormalForms 37 = .ok (.getfield 98, 3) := dk_180 0 98 (dk_at dksX4_exploredNormalForms_1 14 rfl rfl)
theorem dX4_exploredNormalForms_40 : decode cX4_exploredNormalForms 40 = .ok (.iload 5, 2) := dk_21 5 (dk_at dksX4_exploredNormalForms_1 17 rfl rfl)
theorem dX4_exploredNormalForms_42 : decode cX4_exploredNormalForms 42 = .ok (.baload, 1) := dk_51 (dk_at dksX4_exploredNormalForms_1 19 rfl rfl)
theorem dX4_exploredNormalForms_43 : decode cX4_exploredNormalForms 43 = .ok (.ifCond .eq 23, 3) := dk_153 0 23 (dk_at dksX4_exploredNormalForms_1 20 rfl rfl)
theorem dX4_exploredNormalForms_46 : decode cX4_exploredNormalForms 46 = .ok (.aload_n 0, 1) := dk_42 (dk_at dksX4_exploredNormalForms_1 23 rfl rfl)
theorem dX4_exploredNormalForms_47 : decode cX4_exploredNormalForms 47 = .ok (.aload_n 0, 1) := dk_42 (dk_at dksX4_exploredNormalForms_2 0 rfl rfl)
theorem dX4_exploredNormalForms_48 : decode cX4_exploredNormalForms 48 = .ok (.getfield 95, 3) := dk_180 0 95 (dk_at dksX4_exploredNormalForms_2 1 rfl rfl)
theorem dX4_exploredNormalForms_51 : decode cX4_exploredNormalForms 51 = .ok (.bipush 96, 2) := dk_16 96 (dk_at dksX4_exploredNormalForms_2 4 rfl rfl)
theorem dX4_exploredNormalForms_53 : decode cX4_exploredNormalForms 53 = .ok (.iload 5, 2) := dk_21 5 (dk_at dksX4_exploredNormalForms_2 6 rfl rfl)
theorem dX4_exploredNormalForms_55 : decode cX4_exploredNormalForms 55 = .ok (.imul, 1) := dk_104 (dk_at dksX4_exploredNormalForms_2 8 rfl rfl)
theorem dX4_exploredNormalForms_56 : decode cX4_exploredNormalForms 56 = .ok (.invokevirtual 333, 3) := dk_182 1 77 (dk_at dksX4_exploredNormalForms_2 9 rfl rfl)
theorem dX4_exploredNormalForms_59 : decode cX4_exploredNormalForms 59 = .ok (.ifCond .eq 7, 3) := dk_153 0 7 (dk_at dksX4_exploredNormalForms_2 12 rfl rfl)
theorem dX4_exploredNormalForms_62 : decode cX4_exploredNormalForms 62 = .ok (.iconst 1, 1) := dk_4 (dk_at dksX4_exploredNormalForms_2 15 rfl rfl)
theorem dX4_exploredNormalForms_63 : decode cX4_exploredNormalForms 63 = .ok (.goto 4, 3) := dk_167 0 4 (dk_at dksX4_exploredNormalForms_2 16 rfl rfl)
theorem dX4_exploredNormalForms_66 : decode cX4_exploredNormalForms 66 = .ok (.iconst 0, 1) := dk_3 (dk_at dksX4_exploredNormalForms_2 19 rfl rfl)
theorem dX4_exploredNormalForms_67 : decode cX4_exploredNormalForms 67 = .ok (.iadd, 1) := dk_96 (dk_at dksX4_exploredNormalForms_2 20 rfl rfl)
theorem dX4_exploredNormalForms_68 : decode cX4_exploredNormalForms 68 = .ok (.istore 4, 2) := dk_54 4 (dk_at dksX4_exploredNormalForms_2 21 rfl rfl)
theorem dX4_exploredNormalForms_70 : decode cX4_exploredNormalForms 70 = .ok (.iinc 5 1, 3) := dk_132 5 1 (dk_at dksX4_exploredNormalForms_3 0 rfl rfl)
theorem dX4_exploredNormalForms_73 : decode cX4_exploredNormalForms 73 = .ok (.goto (-48), 3) := dk_167 255 208 (dk_at dksX4_exploredNormalForms_3 3 rfl rfl)
theorem dX4_exploredNormalForms_76 : decode cX4_exploredNormalForms 76 = .ok (.iload 4, 2) := dk_21 4 (dk_at dksX4_exploredNormalForms_3 6 rfl rfl)
theorem dX4_exploredNormalForms_78 : decode cX4_exploredNormalForms 78 = .ok (.ireturn, 1) := dk_172 (dk_at dksX4_exploredNormalForms_3 8 rfl rfl)
abbrev cX4_isNormalForm : ByteArray := prog_10_method_97_code
def yX4_isNormalForm : MethodName := ⟨RX4, "isNormalForm", "([II)Z"⟩
def dkwX4_isNormalForm_0 : List UInt8 := [42, 43, 28, 2, 182, 1, 42, 154, 0, 7, 4, 167, 0, 4, 3, 172]
abbrev dktX4_isNormalForm_0 : List UInt8 := dkwX4_isNormalForm_0 ++ []
theorem dksX4_isNormalForm_0 : cX4_isNormalForm.data.toList.drop 0 = dktX4_isNormalForm_0 := by decide +kernel
theorem dX4_isNormalForm_0 : decode cX4_isNormalForm 0 = .ok (.aload_n 0, 1) := dk_42 (dk_at dksX4_isNormalForm_0 0 rfl rfl)
theorem dX4_isNormalForm_1 : decode cX4_isNormalForm 1 = .ok (.aload_n 1, 1) := dk_43 (dk_at dksX4_isNormalForm_0 1 rfl rfl)
theorem dX4_isNormalForm_2 : decode cX4_isNormalForm 2 = .ok (.iload_n 2, 1) := dk_28 (dk_at dksX4_isNormalForm_0 2 rfl rfl)
theorem dX4_isNormalForm_3 : decode cX4_isNormalForm 3 = .ok (.iconst (-1), 1) := dk_2 (dk_at dksX4_isNormalForm_0 3 rfl rfl)
theorem dX4_isNormalForm_4 : decode cX4_isNormalForm 4 = .ok (.invokevirtual 298, 3) := dk_182 1 42 (dk_at dksX4_isNormalForm_0 4 rfl rfl)
theorem dX4_isNormalForm_7 : decode cX4_isNormalForm 7 = .ok (.ifCond .ne 7, 3) := dk_154 0 7 (dk_at dksX4_isNormalForm_0 7 rfl rfl)
theorem dX4_isNormalForm_10 : decode cX4_isNormalForm 10 = .ok (.iconst 1, 1) := dk_4 (dk_at dksX4_isNormalForm_0 10 rfl rfl)
theorem dX4_isNormalForm_11 : decode cX4_isNormalForm 11 = .ok (.goto 4, 3) := dk_167 0 4 (dk_at dksX4_isNormalForm_0 11 rfl rfl)
theorem dX4_isNormalForm_14 : decode cX4_isNormalForm 14 = .ok (.iconst 0, 1) := dk_3 (dk_at dksX4_isNormalForm_0 14 rfl rfl)
theorem dX4_isNormalForm_15 : decode cX4_isNormalForm 15 = .ok (.ireturn, 1) := dk_172 (dk_at dksX4_isNormalForm_0 15 rfl rfl)
abbrev cX4_lastExploredSize : ByteArray := prog_10_method_99_code
def yX4_lastExploredSize : MethodName := ⟨RX4, "lastExploredSize", "(II)I"⟩
def dkwX4_lastExploredSize_1 : List UInt8 := [16, 96, 42, 180, 1, 64, 104, 46, 172]
abbrev dktX4_lastExploredSize_1 : List UInt8 := dkwX4_lastExploredSize_1 ++ []
def dkwX4_lastExploredSize_0 : List UInt8 := [42, 27, 28, 182, 1, 70, 62, 29, 156, 0, 5, 29, 172, 42, 27, 28, 182, 1, 73, 42, 180, 0, 95]
abbrev dktX4_lastExploredSize_0 : List UInt8 := dkwX4_lastExploredSize_0 ++ dktX4_lastExploredSize_1
theorem dksX4_lastExploredSize_0 : cX4_lastExploredSize.data.toList.drop 0 = dktX4_lastExploredSize_0 := by decide +kernel
theorem dksX4_lastExploredSize_1 : cX4_lastExploredSize.data.toList.drop 23 = dktX4_lastExploredSize_1 := dk_seg dksX4_lastExploredSize_0 23 rfl rfl
theorem dX4_lastExploredSize_0 : decode cX4_lastExploredSize 0 = .ok (.aload_n 0, 1) := dk_42 (dk_at dksX4_lastExploredSize_0 0 rfl rfl)
theorem dX4_lastExploredSize_1 : decode cX4_lastExploredSize 1 = .ok (.iload_n 1, 1) := dk_27 (dk_at dksX4_lastExploredSize_0 1 rfl rfl)
theorem dX4_lastExploredSize_2 : decode cX4_lastExploredSize 2 = .ok (.iload_n 2, 1) := dk_28 (dk_at dksX4_lastExploredSize_0 2 rfl rfl)
theorem dX4_lastExploredSize_3 : decode cX4_lastExploredSize 3 = .ok (.invokevirtual 326, 3) := dk_182 1 70 (dk_at dksX4_lastExploredSize_0 3 rfl rfl)
theorem dX4_lastExploredSize_6 : decode cX4_lastExploredSize 6 = .ok (.istore_n 3, 1) := dk_62 (dk_at dksX4_lastExploredSize_0 6 rfl rfl)
theorem dX4_lastExploredSize_7 : decode cX4_lastExploredSize 7 = .ok (.iload_n 3, 1) := dk_29 (dk_at dksX4_lastExploredSize_0 7 rfl rfl)
theorem dX4_lastExploredSize_8 : decode cX4_lastExploredSize 8 = .ok (.ifCond .ge 5, 3) := dk_156 0 5 (dk_at dksX4_lastExploredSize_0 8 rfl rfl)
theorem dX4_lastExploredSize_11 : decode cX4_lastExploredSize 11 = .ok (.iload_n 3, 1) := dk_29 (dk_at dksX4_lastExploredSize_0 11 rfl rfl)
theorem dX4_lastExploredSize_12 : decode cX4_lastExploredSize 12 = .ok (.ireturn, 1) := dk_172 (dk_at dksX4_lastExploredSize_0 12 rfl rfl)
theorem dX4_lastExploredSize_13 : decode cX4_lastExploredSize 13 = .ok (.aload_n 0, 1) := dk_42 (dk_at dksX4_lastExploredSize_0 13 rfl rfl)
theorem dX4_lastExploredSize_14 : decode cX4_lastExploredSize 14 = .ok (.iload_n 1, 1) := dk_27 (dk_at dksX4_lastExploredSize_0 14 rfl rfl)
theorem dX4_lastExploredSize_15 : decode cX4_lastExploredSize 15 = .ok (.iload_n 2, 1) := dk_28 (dk_at dksX4_lastExploredSize_0 15 rfl rfl)
theorem dX4_lastExploredSize_16 : decode cX4_lastExploredSize 16 = .ok (.invokevirtual 329, 3) := dk_182 1 73 (dk_at dksX4_lastExploredSize_0 16 rfl rfl)
theorem dX4_lastExploredSize_19 : decode cX4_lastExploredSize 19 = .ok (.aload_n 0, 1) := dk_42 (dk_at dksX4_lastExploredSize_0 19 rfl rfl)
theorem dX4_lastExploredSize_20 : decode cX4_lastExploredSize 20 = .ok (.getfield 95, 3) := dk_180 0 95 (dk_at dksX4_lastExploredSize_0 20 rfl rfl)
theorem dX4_lastExploredSize_23 : decode cX4_lastExploredSize 23 = .ok (.bipush 96, 2) := dk_16 96 (dk_at dksX4_lastExploredSize_1 0 rfl rfl)
theorem dX4_lastExploredSize_25 : decode cX4_lastExploredSize 25 = .ok (.aload_n 0, 1) := dk_42 (dk_at dksX4_lastExploredSize_1 2 rfl rfl)
theorem dX4_lastExploredSize_26 : decode cX4_lastExploredSize 26 = .ok (.getfield 320, 3) := dk_180 1 64 (dk_at dksX4_lastExploredSize_1 3 rfl rfl)
theorem dX4_lastExploredSize_29 : decode cX4_lastExploredSize 29 = .ok (.imul, 1) := dk_104 (dk_at dksX4_lastExploredSize_1 6 rfl rfl)
theorem dX4_lastExploredSize_30 : decode cX4_lastExploredSize 30 = .ok (.iaload, 1) := dk_46 (dk_at dksX4_lastExploredSize_1 7 rfl rfl)
theorem dX4_lastExploredSize_31 : decode cX4_lastExploredSize 31 = .ok (.ireturn, 1) := dk_172 (dk_at dksX4_lastExploredSize_1 8 rfl rfl)
abbrev cX4_loadNormalForm : ByteArray := prog_10_method_100_code
def yX4_loadNormalForm : MethodName := ⟨RX4, "loadNormalForm", "(III)I"⟩
def dkwX4_loadNormalForm_7 : List UInt8 := [180, 0, 95, 16, 96, 21, 5, 104, 46, 172]
abbrev dktX4_loadNormalForm_7 : List UInt8 := dkwX4_loadNormalForm_7 ++ []
def dkwX4_loadNormalForm_6 : List UInt8 := [180, 0, 95, 16, 96, 21, 5, 104, 42, 180, 0, 22, 16, 96, 29, 104, 16, 96, 184, 0, 169, 42]
abbrev dktX4_loadNormalForm_6 : List UInt8 := dkwX4_loadNormalForm_6 ++ dktX4_loadNormalForm_7
def dkwX4_loadNormalForm_5 : List UInt8 := [21, 6, 167, 0, 5, 21, 5, 54, 5, 132, 6, 1, 167, 255, 168, 21, 5, 156, 0, 6, 16, 251, 172, 42]
abbrev dktX4_loadNormalForm_5 : List UInt8 := dkwX4_loadNormalForm_5 ++ dktX4_loadNormalForm_6
def dkwX4_loadNormalForm_4 : List UInt8 := [180, 0, 95, 16, 96, 21, 6, 104, 42, 180, 0, 95, 16, 96, 21, 5, 104, 184, 1, 32, 156, 0, 8]
abbrev dktX4_loadNormalForm_4 : List UInt8 := dkwX4_loadNormalForm_4 ++ dktX4_loadNormalForm_5
def dkwX4_loadNormalForm_3 : List UInt8 := [182, 1, 77, 153, 0, 7, 4, 167, 0, 4, 3, 54, 7, 21, 7, 153, 0, 37, 21, 5, 155, 0, 27, 42]
abbrev dktX4_loadNormalForm_3 : List UInt8 := dkwX4_loadNormalForm_3 ++ dktX4_loadNormalForm_4
def dkwX4_loadNormalForm_2 : List UInt8 := [162, 0, 85, 42, 180, 0, 98, 21, 6, 51, 153, 0, 23, 42, 42, 180, 0, 95, 16, 96, 21, 6, 104]
abbrev dktX4_loadNormalForm_2 : List UInt8 := dkwX4_loadNormalForm_2 ++ dktX4_loadNormalForm_3
def dkwX4_loadNormalForm_1 : List UInt8 := [21, 4, 172, 42, 27, 28, 182, 1, 73, 16, 251, 54, 5, 3, 54, 6, 21, 6, 42, 180, 1, 51]
abbrev dktX4_loadNormalForm_1 : List UInt8 := dkwX4_loadNormalForm_1 ++ dktX4_loadNormalForm_2
def dkwX4_loadNormalForm_0 : List UInt8 := [29, 184, 1, 18, 153, 0, 12, 42, 27, 28, 182, 1, 70, 167, 0, 4, 2, 54, 4, 21, 4, 156, 0, 6]
abbrev dktX4_loadNormalForm_0 : List UInt8 := dkwX4_loadNormalForm_0 ++ dktX4_loadNormalForm_1
theorem dksX4_loadNormalForm_0 : cX4_loadNormalForm.data.toList.drop 0 = dktX4_loadNormalForm_0 := by decide +kernel
theorem dksX4_loadNormalForm_1 : cX4_loadNormalForm.data.toList.drop 24 = dktX4_loadNormalForm_1 := dk_seg dksX4_loadNormalForm_0 24 rfl rfl
theorem dksX4_loadNormalForm_2 : cX4_loadNormalForm.data.toList.drop 46 = dktX4_loadNormalForm_2 := dk_seg dksX4_loadNormalForm_1 22 rfl rfl
theorem dksX4_loadNormalForm_3 : cX4_loadNormalForm.data.toList.drop 69 = dktX4_loadNormalForm_3 := dk_seg dksX4_loadNormalForm_2 23 rfl rfl
theorem dksX4_loadNormalForm_4 : cX4_loadNormalForm.data.toList.drop 93 = dktX4_loadNormalForm_4 := dk_seg dksX4_loadNormalForm_3 24 rfl rfl
theorem dksX4_loadNormalForm_5 : cX4_loadNormalForm.data.toList.drop 116 = dktX4_loadNormalForm_5 := dk_seg dksX4_loadNormalForm_4 23 rfl rfl
theorem dksX4_loadNormalForm_6 : cX4_loadNormalForm.data.toList.drop 140 = dktX4_loadNormalForm_6 := dk_seg dksX4_loadNormalForm_5 24 rfl rfl
theorem dksX4_loadNormalForm_7 : cX4_loadNormalForm.data.toList.drop 162 = dktX4_loadNormalForm_7 := dk_seg dksX4_loadNormalForm_6 22 rfl rfl
theorem dX4_loadNormalForm_0 : decode cX4_loadNormalForm 0 = .ok (.iload_n 3, 1) := dk_29 (dk_at dksX4_loadNormalForm_0 0 rfl rfl)
theorem dX4_loadNormalForm_1 : decode cX4_loadNormalForm 1 = .ok (.invokestatic 274, 3) := dk_184 1 18 (dk_at dksX4_loadNormalForm_0 1 rfl rfl)
theorem dX4_loadNormalForm_4 : decode cX4_loadNormalForm 4 = .ok (.ifCond .eq 12, 3) := dk_153 0 12 (dk_at dksX4_loadNormalForm_0 4 rfl rfl)
theorem dX4_loadNormalForm_7 : decode cX4_loadNormalForm 7 = .ok (.aload_n 0, 1) := dk_42 (dk_at dksX4_loadNormalForm_0 7 rfl rfl)
theorem dX4_loadNormalForm_8 : decode cX4_loadNormalForm 8 = .ok (.iload_n 1, 1) := dk_27 (dk_at dksX4_loadNormalForm_0 8 rfl rfl)
theorem dX4_loadNormalForm_9 : decode cX4_loadNormalForm 9 = .ok (.iload_n 2, 1) := dk_28 (dk_at dksX4_loadNormalForm_0 9 rfl rfl)
theorem dX4_loadNormalForm_10 : decode cX4_loadNormalForm 10 = .ok (.invokevirtual 326, 3) := dk_182 1 70 (dk_at dksX4_loadNormalForm_0 10 rfl rfl)
theorem dX4_loadNormalForm_13 : decode cX4_loadNormalForm 13 = .ok (.goto 4, 3) := dk_167 0 4 (dk_at dksX4_loadNormalForm_0 13 rfl rfl)
theorem dX4_loadNormalForm_16 : decode cX4_loadNormalForm 16 = .ok (.iconst (-1), 1) := dk_2 (dk_at dksX4_loadNormalForm_0 16 rfl rfl)
theorem dX4_loadNormalForm_17 : decode cX4_loadNormalForm 17 = .ok (.istore 4, 2) := dk_54 4 (dk_at dksX4_loadNormalForm_0 17 rfl rfl)
theorem dX4_loadNormalForm_19 : decode cX4_loadNormalForm 19 = .ok (.iload 4, 2) := dk_21 4 (dk_at dksX4_loadNormalForm_0 19 rfl rfl)
theorem dX4_loadNormalForm_21 : decode cX4_loadNormalForm 21 = .ok (.ifCond .ge 6, 3) := dk_156 0 6 (dk_at dksX4_loadNormalForm_0 21 rfl rfl)
theorem dX4_loadNormalForm_24 : decode cX4_loadNormalForm 24 = .ok (.iload 4, 2) := dk_21 4 (dk_at dksX4_loadNormalForm_1 0 rfl rfl)
theorem dX4_loadNormalForm_26 : decode cX4_loadNormalForm 26 = .ok (.ireturn, 1) := dk_172 (dk_at dksX4_loadNormalForm_1 2 rfl rfl)
theorem dX4_loadNormalForm_27 : decode cX4_loadNormalForm 27 = .ok (.aload_n 0, 1) := dk_42 (dk_at dksX4_loadNormalForm_1 3 rfl rfl)
theorem dX4_loadNormalForm_28 : decode cX4_loadNormalForm 28 = .ok (.iload_n 1, 1) := dk_27 (dk_at dksX4_loadNormalForm_1 4 rfl rfl)
theorem dX4_loadNormalForm_29 : decode cX4_loadNormalForm 29 = .ok (.iload_n 2, 1) := dk_28 (dk_at dksX4_loadNormalForm_1 5 rfl rfl)
theorem dX4_loadNormalForm_30 : decode cX4_loadNormalForm 30 = .ok (.invokevirtual 329, 3) := dk_182 1 73 (dk_at dksX4_loadNormalForm_1 6 rfl rfl)
theorem dX4_loadNormalForm_33 : decode cX4_loadNormalForm 33 = .ok (.bipush (-5), 2) := dk_16 251 (dk_at dksX4_loadNormalForm_1 9 rfl rfl)
theorem dX4_loadNormalForm_35 : decode cX4_loadNormalForm 35 = .ok (.istore 5, 2) := dk_54 5 (dk_at dksX4_loadNormalForm_1 11 rfl rfl)
theorem dX4_loadNormalForm_37 : decode cX4_loadNormalForm 37 = .ok (.iconst 0, 1) := dk_3 (dk_at dksX4_loadNormalForm_1 13 rfl rfl)
theorem dX4_loadNormalForm_38 : decode cX4_loadNormalForm 38 = .ok (.istore 6, 2) := dk_54 6 (dk_at dksX4_loadNormalForm_1 14 rfl rfl)
theorem dX4_loadNormalForm_40 : decode cX4_loadNormalForm 40 = .ok (.iload 6, 2) := dk_21 6 (dk_at dksX4_loadNormalForm_1 16 rfl rfl)
theorem dX4_loadNormalForm_42 : decode cX4_loadNormalForm 42 = .ok (.aload_n 0, 1) := dk_42 (dk_at dksX4_loadNormalForm_1 18 rfl rfl)
theorem dX4_loadNormalForm_43 : decode cX4_loadNormalForm 43 = .ok (.getfield 307, 3) := dk_180 1 51 (dk_at dksX4_loadNormalForm_1 19 rfl rfl)
theorem dX4_loadNormalForm_46 : decode cX4_loadNormalForm 46 = .ok (.if_icmp .ge 85, 3) := dk_162 0 85 (dk_at dksX4_loadNormalForm_2 0 rfl rfl)
theorem dX4_loadNormalForm_49 : decode cX4_loadNormalForm 49 = .ok (.aload_n 0, 1) := dk_42 (dk_at dksX4_loadNormalForm_2 3 rfl rfl)
theorem dX4_loadNormalForm_50 : decode cX4_loadNormalForm 50 = .ok (.getfield 98, 3) := dk_180 0 98 (dk_at dksX4_loadNormalForm_2 4 rfl rfl)
theorem dX4_loadNormalForm_53 : decode cX4_loadNormalForm 53 = .ok (.iload 6, 2) := dk_21 6 (dk_at dksX4_loadNormalForm_2 7 rfl rfl)
theorem dX4_loadNormalForm_55 : decode cX4_loadNormalForm 55 = .ok (.baload, 1) := dk_51 (dk_at dksX4_loadNormalForm_2 9 rfl rfl)
theorem dX4_loadNormalForm_56 : decode cX4_loadNormalForm 56 = .ok (.ifCond .eq 23, 3) := dk_153 0 23 (dk_at dksX4_loadNormalForm_2 10 rfl rfl)
theorem dX4_loadNormalForm_59 : decode cX4_loadNormalForm 59 = .ok (.aload_n 0, 1) := dk_42 (dk_at dksX4_loadNormalForm_2 13 rfl rfl)
theorem dX4_loadNormalForm_60 : decode cX4_loadNormalForm 60 = .ok (.aload_n 0, 1) := dk_42 (dk_at dksX4_loadNormalForm_2 14 rfl rfl)
theorem dX4_loadNormalForm_61 : decode cX4_loadNormalForm 61 = .ok (.getfield 95, 3) := dk_180 0 95 (dk_at dksX4_loadNormalForm_2 15 rfl rfl)
theorem dX4_loadNormalForm_64 : decode cX4_loadNormalForm 64 = .ok (.bipush 96, 2) := dk_16 96 (dk_at dksX4_loadNormalForm_2 18 rfl rfl)
theorem dX4_loadNormalForm_66 : decode cX4_loadNormalForm 66 = .ok (.iload 6, 2) := dk_21 6 (dk_at dksX4_loadNormalForm_2 20 rfl rfl)
theorem dX4_loadNormalForm_68 : decode cX4_loadNormalForm 68 = .ok (.imul, 1) := dk_104 (dk_at dksX4_loadNormalForm_2 22 rfl rfl)
theorem dX4_loadNormalForm_69 : decode cX4_loadNormalForm 69 = .ok (.invokevirtual 333, 3) := dk_182 1 77 (dk_at dksX4_loadNormalForm_3 0 rfl rfl)
theorem dX4_loadNormalForm_72 : decode cX4_loadNormalForm 72 = .ok (.ifCond .eq 7, 3) := dk_153 0 7 (dk_at dksX4_loadNormalForm_3 3 rfl rfl)
theorem dX4_loadNormalForm_75 : decode cX4_loadNormalForm 75 = .ok (.iconst 1, 1) := dk_4 (dk_at dksX4_loadNormalForm_3 6 rfl rfl)
theorem dX4_loadNormalForm_76 : decode cX4_loadNormalForm 76 = .ok (.goto 4, 3) := dk_167 0 4 (dk_at dksX4_loadNormalForm_3 7 rfl rfl)
theorem dX4_loadNormalForm_79 : decode cX4_loadNormalForm 79 = .ok (.iconst 0, 1) := dk_3 (dk_at dksX4_loadNormalForm_3 10 rfl rfl)
theorem dX4_loadNormalForm_80 : decode cX4_loadNormalForm 80 = .ok (.istore 7, 2) := dk_54 7 (dk_at dksX4_loadNormalForm_3 11 rfl rfl)
theorem dX4_loadNormalForm_82 : decode cX4_loadNormalForm 82 = .ok (.iload 7, 2) := dk_21 7 (dk_at dksX4_loadNormalForm_3 13 rfl rfl)
theorem dX4_loadNormalForm_84 : decode cX4_loadNormalForm 84 = .ok (.ifCond .eq 37, 3) := dk_153 0 37 (dk_at dksX4_loadNormalForm_3 15 rfl rfl)
theorem dX4_loadNormalForm_87 : decode cX4_loadNormalForm 87 = .ok (.iload 5, 2) := dk_21 5 (dk_at dksX4_loadNormalForm_3 18 rfl rfl)
theorem dX4_loadNormalForm_89 : decode cX4_loadNormalForm 89 = .ok (.ifCond .lt 27, 3) := dk_155 0 27 (dk_at dksX4_loadNormalForm_3 20 rfl rfl)
theorem dX4_loadNormalForm_92 : decode cX4_loadNormalForm 92 = .ok (.aload_n 0, 1) := dk_42 (dk_at dksX4_loadNormalForm_3 23 rfl rfl)
theorem dX4_loadNormalForm_93 : decode cX4_loadNormalForm 93 = .ok (.getfield 95, 3) := dk_180 0 95 (dk_at dksX4_loadNormalForm_4 0 rfl rfl)
theorem dX4_loadNormalForm_96 : decode cX4_loadNormalForm 96 = .ok (.bipush 96, 2) := dk_16 96 (dk_at dksX4_loadNormalForm_4 3 rfl rfl)
theorem dX4_loadNormalForm_98 : decode cX4_loadNormalForm 98 = .ok (.iload 6, 2) := dk_21 6 (dk_at dksX4_loadNormalForm_4 5 rfl rfl)
theorem dX4_loadNormalForm_100 : decode cX4_loadNormalForm 100 = .ok (.imul, 1) := dk_104 (dk_at dksX4_loadNormalForm_4 7 rfl rfl)
theorem dX4_loadNormalForm_101 : decode cX4_loadNormalForm 101 = .ok (.aload_n 0, 1) := dk_42 (dk_at dksX4_loadNormalForm_4 8 rfl rfl)
theorem dX4_loadNormalForm_102 : decode cX4_loadNormalForm 102 = .ok (.getfield 95, 3) := dk_180 0 95 (dk_at dksX4_loadNormalForm_4 9 rfl rfl)
theorem dX4_loadNormalForm_105 : decode cX4_loadNormalForm 105 = .ok (.bipush 96, 2) := dk_16 96 (dk_at dksX4_loadNormalForm_4 12 rfl rfl)
theorem dX4_loadNormalForm_107 : decode cX4_loadNormalForm 107 = .ok (.iload 5, 2) := dk_21 5 (dk_at dksX4_loadNormalForm_4 14 rfl rfl)
theorem dX4_loadNormalForm_109 : decode cX4_loadNormalForm 109 = .ok (.imul, 1) := dk_104 (dk_at dksX4_loadNormalForm_4 16 rfl rfl)
theorem dX4_loadNormalForm_110 : decode cX4_loadNormalForm 110 = .ok (.invokestatic 288, 3) := dk_184 1 32 (dk_at dksX4_loadNormalForm_4 17 rfl rfl)
theorem dX4_loadNormalForm_113 : decode cX4_loadNormalForm 113 = .ok (.ifCond .ge 8, 3) := dk_156 0 8 (dk_at dksX4_loadNormalForm_4 20 rfl rfl)
theorem dX4_loadNormalForm_116 : decode cX4_loadNormalForm 116 = .ok (.iload 6, 2) := dk_21 6 (dk_at dksX4_loadNormalForm_5 0 rfl rfl)
theorem dX4_loadNormalForm_118 : decode cX4_loadNormalForm 118 = .ok (.goto 5, 3) := dk_167 0 5 (dk_at dksX4_loadNormalForm_5 2 rfl rfl)
theorem dX4_loadNormalForm_121 : decode cX4_loadNormalForm 121 = .ok (.iload 5, 2) := dk_21 5 (dk_at dksX4_loadNormalForm_5 5 rfl rfl)
theorem dX4_loadNormalForm_123 : decode cX4_loadNormalForm 123 = .ok (.istore 5, 2) := dk_54 5 (dk_at dksX4_loadNormalForm_5 7 rfl rfl)
theorem dX4_loadNormalForm_125 : decode cX4_loadNormalForm 125 = .ok (.iinc 6 1, 3) := dk_132 6 1 (dk_at dksX4_loadNormalForm_5 9 rfl rfl)
theorem dX4_loadNormalForm_128 : decode cX4_loadNormalForm 128 = .ok (.goto (-88), 3) := dk_167 255 168 (dk_at dksX4_loadNormalForm_5 12 rfl rfl)
theorem dX4_loadNormalForm_131 : decode cX4_loadNormalForm 131 = .ok (.iload 5, 2) := dk_21 5 (dk_at dksX4_loadNormalForm_5 15 rfl rfl)
theorem dX4_loadNormalForm_133 : decode cX4_loadNormalForm 133 = .ok (.ifCond .ge 6, 3) := dk_156 0 6 (dk_at dksX4_loadNormalForm_5 17 rfl rfl)
theorem dX4_loadNormalForm_136 : decode cX4_loadNormalForm 136 = .ok (.bipush (-5), 2) := dk_16 251 (dk_at dksX4_loadNormalForm_5 20 rfl rfl)
theorem dX4_loadNormalForm_138 : decode cX4_loadNormalForm 138 = .ok (.ireturn, 1) := dk_172 (dk_at dksX4_loadNormalForm_5 22 rfl rfl)
theorem dX4_loadNormalForm_139 : decode cX4_loadNormalForm 139 = .ok (.aload_n 0, 1) := dk_42 (dk_at dksX4_loadNormalForm_5 23 rfl rfl)
theorem dX4_loadNormalForm_140 : decode cX4_loadNormalForm 140 = .ok (.getfield 95, 3) := dk_180 0 95 (dk_at dksX4_loadNormalForm_6 0 rfl rfl)
theorem dX4_loadNormalForm_143 : decode cX4_loadNormalForm 143 = .ok (.bipush 96, 2) := dk_16 96 (dk_at dksX4_loadNormalForm_6 3 rfl rfl)
theorem dX4_loadNormalForm_145 : decode cX4_loadNormalForm 145 = .ok (.iload 5, 2) := dk_21 5 (dk_at dksX4_loadNormalForm_6 5 rfl rfl)
theorem dX4_loadNormalForm_147 : decode cX4_loadNormalForm 147 = .ok (.imul, 1) := dk_104 (dk_at dksX4_loadNormalForm_6 7 rfl rfl)
theorem dX4_loadNormalForm_148 : decode cX4_loadNormalForm 148 = .ok (.aload_n 0, 1) := dk_42 (dk_at dksX4_loadNormalForm_6 8 rfl rfl)
theorem dX4_loadNormalForm_149 : decode cX4_loadNormalForm 149 = .ok (.getfield 22, 3) := dk_180 0 22 (dk_at dksX4_loadNormalForm_6 9 rfl rfl)
theorem dX4_loadNormalForm_152 : decode cX4_loadNormalForm 152 = .ok (.bipush 96, 2) := dk_16 96 (dk_at dksX4_loadNormalForm_6 12 rfl rfl)
theorem dX4_loadNormalForm_154 : decode cX4_loadNormalForm 154 = .ok (.iload_n 3, 1) := dk_29 (dk_at dksX4_loadNormalForm_6 14 rfl rfl)
theorem dX4_loadNormalForm_155 : decode cX4_loadNormalForm 155 = .ok (.imul, 1) := dk_104 (dk_at dksX4_loadNormalForm_6 15 rfl rfl)
theorem dX4_loadNormalForm_156 : decode cX4_loadNormalForm 156 = .ok (.bipush 96, 2) := dk_16 96 (dk_at dksX4_loadNormalForm_6 16 rfl rfl)
theorem dX4_loadNormalForm_158 : decode cX4_loadNormalForm 158 = .ok (.invokestatic 169, 3) := dk_184 0 169 (dk_at dksX4_loadNormalForm_6 18 rfl rfl)
theorem dX4_loadNormalForm_161 : decode cX4_loadNormalForm 161 = .ok (.aload_n 0, 1) := dk_42 (dk_at dksX4_loadNormalForm_6 21 rfl rfl)
theorem dX4_loadNormalForm_162 : decode cX4_loadNormalForm 162 = .ok (.getfield 95, 3) := dk_180 0 95 (dk_at dksX4_loadNormalForm_7 0 rfl rfl)
theorem dX4_loadNormalForm_165 : decode cX4_loadNormalForm 165 = .ok (.bipush 96, 2) := dk_16 96 (dk_at dksX4_loadNormalForm_7 3 rfl rfl)
theorem dX4_loadNormalForm_167 : decode cX4_loadNormalForm 167 = .ok (.iload 5, 2) := dk_21 5 (dk_at dksX4_loadNormalForm_7 5 rfl rfl)
theorem dX4_loadNormalForm_169 : decode cX4_loadNormalForm 169 = .ok (.imul, 1) := dk_104 (dk_at dksX4_loadNormalForm_7 7 rfl rfl)
theorem dX4_loadNormalForm_170 : decode cX4_loadNormalForm 170 = .ok (.iaload, 1) := dk_46 (dk_at dksX4_loadNormalForm_7 8 rfl rfl)
theorem dX4_loadNormalForm_171 : decode cX4_loadNormalForm 171 = .ok (.ireturn, 1) := dk_172 (dk_at dksX4_loadNormalForm_7 9 rfl rfl)
abbrev cX4_normalFormRegisterCount : ByteArray := prog_10_method_101_code
def yX4_normalFormRegisterCount : MethodName := ⟨RX4, "normalFormRegisterCount", "()I"⟩
def dkwX4_normalFormRegisterCount_1 : List UInt8 := [153, 0, 7, 4, 167, 0, 4, 3, 96, 60, 132, 2, 1, 167, 255, 225, 27, 172]
abbrev dktX4_normalFormRegisterCount_1 : List UInt8 := dkwX4_normalFormRegisterCount_1 ++ []
def dkwX4_normalFormRegisterCount_0 : List UInt8 := [3, 60, 3, 61, 28, 7, 162, 0, 32, 27, 42, 42, 180, 0, 22, 16, 96, 28, 104, 182, 1, 77]
abbrev dktX4_normalFormRegisterCount_0 : List UInt8 := dkwX4_normalFormRegisterCount_0 ++ dktX4_normalFormRegisterCount_1
theorem dksX4_normalFormRegisterCount_0 : cX4_normalFormRegisterCount.data.toList.drop 0 = dktX4_normalFormRegisterCount_0 := by decide +kernel
theorem dksX4_normalFormRegisterCount_1 : cX4_normalFormRegisterCount.data.toList.drop 22 = dktX4_normalFormRegisterCount_1 := dk_seg dksX4_normalFormRegisterCount_0 22 rfl rfl
theorem dX4_normalFormRegisterCount_0 : decode cX4_normalFormRegisterCount 0 = .ok (.iconst 0, 1) := dk_3 (dk_at dksX4_normalFormRegisterCount_0 0 rfl rfl)
theorem dX4_normalFormRegisterCount_1 : decode cX4_normalFormRegisterCount 1 = .ok (.istore_n 1, 1) := dk_60 (dk_at dksX4_normalFormRegisterCount_0 1 rfl rfl)
theorem dX4_normalFormRegisterCount_2 : decode cX4_normalFormRegisterCount 2 = .ok (.iconst 0, 1) := dk_3 (dk_at dksX4_normalFormRegisterCount_0 2 rfl rfl)
theorem dX4_normalFormRegisterCount_3 : decode cX4_normalFormRegisterCount 3 = .ok (.istore_n 2, 1) := dk_61 (dk_at dksX4_normalFormRegisterCount_0 3 rfl rfl)
theorem dX4_normalFormRegisterCount_4 : decode cX4_normalFormRegisterCount 4 = .ok (.iload_n 2, 1) := dk_28 (dk_at dksX4_normalFormRegisterCount_0 4 rfl rfl)
theorem dX4_normalFormRegisterCount_5 : decode cX4_normalFormRegisterCount 5 = .ok (.iconst 4, 1) := dk_7 (dk_at dksX4_normalFormRegisterCount_0 5 rfl rfl)
theorem dX4_normalFormRegisterCount_6 : decode cX4_normalFormRegisterCount 6 = .ok (.if_icmp .ge 32, 3) := dk_162 0 32 (dk_at dksX4_normalFormRegisterCount_0 6 rfl rfl)
theorem dX4_normalFormRegisterCount_9 : decode cX4_normalFormRegisterCount 9 = .ok (.iload_n 1, 1) := dk_27 (dk_at dksX4_normalFormRegisterCount_0 9 rfl rfl)
theorem dX4_normalFormRegisterCount_10 : decode cX4_normalFormRegisterCount 10 = .ok (.aload_n 0, 1) := dk_42 (dk_at dksX4_normalFormRegisterCount_0 10 rfl rfl)
theorem dX4_normalFormRegisterCount_11 : decode cX4_normalFormRegisterCount 11 = .ok (.aload_n 0, 1) := dk_42 (dk_at dksX4_normalFormRegisterCount_0 11 rfl rfl)
theorem dX4_normalFormRegisterCount_12 : decode cX4_normalFormRegisterCount 12 = .ok (.getfield 22, 3) := dk_180 0 22 (dk_at dksX4_normalFormRegisterCount_0 12 rfl rfl)
theorem dX4_normalFormRegisterCount_15 : decode cX4_normalFormRegisterCount 15 = .ok (.bipush 96, 2) := dk_16 96 (dk_at dksX4_normalFormRegisterCount_0 15 rfl rfl)
theorem dX4_normalFormRegisterCount_17 : decode cX4_normalFormRegisterCount 17 = .ok (.iload_n 2, 1) := dk_28 (dk_at dksX4_normalFormRegisterCount_0 17 rfl rfl)
theorem dX4_normalFormRegisterCount_18 : decode cX4_normalFormRegisterCount 18 = .ok (.imul, 1) := dk_104 (dk_at dksX4_normalFormRegisterCount_0 18 rfl rfl)
theorem dX4_normalFormRegisterCount_19 : decode cX4_normalFormRegisterCount 19 = .ok (.invokevirtual 333, 3) := dk_182 1 77 (dk_at dksX4_normalFormRegisterCount_0 19 rfl rfl)
theorem dX4_normalFormRegisterCount_22 : decode cX4_normalFormRegisterCount 22 = .ok (.ifCond .eq 7, 3) := dk_153 0 7 (dk_at dksX4_normalFormRegisterCount_1 0 rfl rfl)
theorem dX4_normalFormRegisterCount_25 : decode cX4_normalFormRegisterCount 25 = .ok (.iconst 1, 1) := dk_4 (dk_at dksX4_normalFormRegisterCount_1 3 rfl rfl)
theorem dX4_normalFormRegisterCount_26 : decode cX4_normalFormRegisterCount 26 = .ok (.goto 4, 3) := dk_167 0 4 (dk_at dksX4_normalFormRegisterCount_1 4 rfl rfl)
theorem dX4_normalFormRegisterCount_29 : decode cX4_normalFormRegisterCount 29 = .ok (.iconst 0, 1) := dk_3 (dk_at dksX4_normalFormRegisterCount_1 7 rfl rfl)
theorem dX4_normalFormRegisterCount_30 : decode cX4_normalFormRegisterCount 30 = .ok (.iadd, 1) := dk_96 (dk_at dksX4_normalFormRegisterCount_1 8 rfl rfl)
theorem dX4_normalFormRegisterCount_31 : decode cX4_normalFormRegisterCount 31 = .ok (.istore_n 1, 1) := dk_60 (dk_at dksX4_normalFormRegisterCount_1 9 rfl rfl)
theorem dX4_normalFormRegisterCount_32 : decode cX4_normalFormRegisterCount 32 = .ok (.iinc 2 1, 3) := dk_132 2 1 (dk_at dksX4_normalFormRegisterCount_1 10 rfl rfl)
theorem dX4_normalFormRegisterCount_35 : decode cX4_normalFormRegisterCount 35 = .ok (.goto (-31), 3) := dk_167 255 225 (dk_at dksX4_normalFormRegisterCount_1 13 rfl rfl)
theorem dX4_normalFormRegisterCount_38 : decode cX4_normalFormRegisterCount 38 = .ok (.iload_n 1, 1) := dk_27 (dk_at dksX4_normalFormRegisterCount_1 16 rfl rfl)
theorem dX4_normalFormRegisterCount_39 : decode cX4_normalFormRegisterCount 39 = .ok (.ireturn, 1) := dk_172 (dk_at dksX4_normalFormRegisterCount_1 17 rfl rfl)
abbrev cX4_appendCharacter : ByteArray := prog_10_method_102_code
def yX4_appendCharacter : MethodName := ⟨RX4, "appendCharacter", "(I)I"⟩
def dkwX4_appendCharacter_2 : List UInt8 := [180, 0, 151, 172]
abbrev dktX4_appendCharacter_2 : List UInt8 := dkwX4_appendCharacter_2 ++ []
def dkwX4_appendCharacter_1 : List UInt8 := [16, 252, 172, 42, 180, 0, 37, 42, 180, 0, 151, 27, 79, 42, 89, 180, 0, 151, 4, 96, 181, 0, 151, 42]
abbrev dktX4_appendCharacter_1 : List UInt8 := dkwX4_appendCharacter_1 ++ dktX4_appendCharacter_2
def dkwX4_appendCharacter_0 : List UInt8 := [27, 16, 32, 16, 126, 184, 0, 105, 154, 0, 6, 16, 254, 172, 42, 180, 0, 151, 16, 80, 160, 0, 6]
abbrev dktX4_appendCharacter_0 : List UInt8 := dkwX4_appendCharacter_0 ++ dktX4_appendCharacter_1
theorem dksX4_appendCharacter_0 : cX4_appendCharacter.data.toList.drop 0 = dktX4_appendCharacter_0 := by decide +kernel
theorem dksX4_appendCharacter_1 : cX4_appendCharacter.data.toList.drop 23 = dktX4_appendCharacter_1 := dk_seg dksX4_appendCharacter_0 23 rfl rfl
theorem dksX4_appendCharacter_2 : cX4_appendCharacter.data.toList.drop 47 = dktX4_appendCharacter_2 := dk_seg dksX4_appendCharacter_1 24 rfl rfl
theorem dX4_appendCharacter_0 : decode cX4_appendCharacter 0 = .ok (.iload_n 1, 1) := dk_27 (dk_at dksX4_appendCharacter_0 0 rfl rfl)
theorem dX4_appendCharacter_1 : decode cX4_appendCharacter 1 = .ok (.bipush 32, 2) := dk_16 32 (dk_at dksX4_appendCharacter_0 1 rfl rfl)
theorem dX4_appendCharacter_3 : decode cX4_appendCharacter 3 = .ok (.bipush 126, 2) := dk_16 126 (dk_at dksX4_appendCharacter_0 3 rfl rfl)
theorem dX4_appendCharacter_5 : decode cX4_appendCharacter 5 = .ok (.invokestatic 105, 3) := dk_184 0 105 (dk_at dksX4_appendCharacter_0 5 rfl rfl)
theorem dX4_appendCharacter_8 : decode cX4_appendCharacter 8 = .ok (.ifCond .ne 6, 3) := dk_154 0 6 (dk_at dksX4_appendCharacter_0 8 rfl rfl)
theorem dX4_appendCharacter_11 : decode cX4_appendCharacter 11 = .ok (.bipush (-2), 2) := dk_16 254 (dk_at dksX4_appendCharacter_0 11 rfl rfl)
theorem dX4_appendCharacter_13 : decode cX4_appendCharacter 13 = .ok (.ireturn, 1) := dk_172 (dk_at dksX4_appendCharacter_0 13 rfl rfl)
theorem dX4_appendCharacter_14 : decode cX4_appendCharacter 14 = .ok (.aload_n 0, 1) := dk_42 (dk_at dksX4_appendCharacter_0 14 rfl rfl)
theorem dX4_appendCharacter_15 : decode cX4_appendCharacter 15 = .ok (.getfield 151, 3) := dk_180 0 151 (dk_at dksX4_appendCharacter_0 15 rfl rfl)
theorem dX4_appendCharacter_18 : decode cX4_appendCharacter 18 = .ok (.bipush 80, 2) := dk_16 80 (dk_at dksX4_appendCharacter_0 18 rfl rfl)
theorem dX4_appendCharacter_20 : decode cX4_appendCharacter 20 = .ok (.if_icmp .ne 6, 3) := dk_160 0 6 (dk_at dksX4_appendCharacter_0 20 rfl rfl)
theorem dX4_appendCharacter_23 : decode cX4_appendCharacter 23 = .ok (.bipush (-4), 2) := dk_16 252 (dk_at dksX4_appendCharacter_1 0 rfl rfl)
theorem dX4_appendCharacter_25 : decode cX4_appendCharacter 25 = .ok (.ireturn, 1) := dk_172 (dk_at dksX4_appendCharacter_1 2 rfl rfl)
theorem dX4_appendCharacter_26 : decode cX4_appendCharacter 26 = .ok (.aload_n 0, 1) := dk_42 (dk_at dksX4_appendCharacter_1 3 rfl rfl)
theorem dX4_appendCharacter_27 : decode cX4_appendCharacter 27 = .ok (.getfield 37, 3) := dk_180 0 37 (dk_at dksX4_appendCharacter_1 4 rfl rfl)
theorem dX4_appendCharacter_30 : decode cX4_appendCharacter 30 = .ok (.aload_n 0, 1) := dk_42 (dk_at dksX4_appendCharacter_1 7 rfl rfl)
theorem dX4_appendCharacter_31 : decode cX4_appendCharacter 31 = .ok (.getfield 151, 3) := dk_180 0 151 (dk_at dksX4_appendCharacter_1 8 rfl rfl)
theorem dX4_appendCharacter_34 : decode cX4_appendCharacter 34 = .ok (.iload_n 1, 1) := dk_27 (dk_at dksX4_appendCharacter_1 11 rfl rfl)
theorem dX4_appendCharacter_35 : decode cX4_appendCharacter 35 = .ok (.iastore, 1) := dk_79 (dk_at dksX4_appendCharacter_1 12 rfl rfl)
theorem dX4_appendCharacter_36 : decode cX4_appendCharacter 36 = .ok (.aload_n 0, 1) := dk_42 (dk_at dksX4_appendCharacter_1 13 rfl rfl)
theorem dX4_appendCharacter_37 : decode cX4_appendCharacter 37 = .ok (.dup, 1) := dk_89 (dk_at dksX4_appendCharacter_1 14 rfl rfl)
theorem dX4_appendCharacter_38 : decode cX4_appendCharacter 38 = .ok (.getfield 151, 3) := dk_180 0 151 (dk_at dksX4_appendCharacter_1 15 rfl rfl)
theorem dX4_appendCharacter_41 : decode cX4_appendCharacter 41 = .ok (.iconst 1, 1) := dk_4 (dk_at dksX4_appendCharacter_1 18 rfl rfl)
theorem dX4_appendCharacter_42 : decode cX4_appendCharacter 42 = .ok (.iadd, 1) := dk_96 (dk_at dksX4_appendCharacter_1 19 rfl rfl)
theorem dX4_appendCharacter_43 : decode cX4_appendCharacter 43 = .ok (.putfield 151, 3) := dk_181 0 151 (dk_at dksX4_appendCharacter_1 20 rfl rfl)
theorem dX4_appendCharacter_46 : decode cX4_appendCharacter 46 = .ok (.aload_n 0, 1) := dk_42 (dk_at dksX4_appendCharacter_1 23 rfl rfl)
theorem dX4_appendCharacter_47 : decode cX4_appendCharacter 47 = .ok (.getfield 151, 3) := dk_180 0 151 (dk_at dksX4_appendCharacter_2 0 rfl rfl)
theorem dX4_appendCharacter_50 : decode cX4_appendCharacter 50 = .ok (.ireturn, 1) := dk_172 (dk_at dksX4_appendCharacter_2 3 rfl rfl)
abbrev cX4_clearText : ByteArray := prog_10_method_103_code
def yX4_clearText : MethodName := ⟨RX4, "clearText", "()I"⟩
def dkwX4_clearText_0 : List UInt8 := [42, 180, 0, 151, 60, 42, 3, 181, 0, 151, 27, 172]
abbrev dktX4_clearText_0 : List UInt8 := dkwX4_clearText_0 ++ []
theorem dksX4_clearText_0 : cX4_clearText.data.toList.drop 0 = dktX4_clearText_0 := by decide +kernel
theorem dX4_clearText_0 : decode cX4_clearText 0 = .ok (.aload_n 0, 1) := dk_42 (dk_at dksX4_clearText_0 0 rfl rfl)
theorem dX4_clearText_1 : decode cX4_clearText 1 = .ok (.getfield 151, 3) := dk_180 0 151 (dk_at dksX4_clearText_0 1 rfl rfl)
theorem dX4_clearText_4 : decode cX4_clearText 4 = .ok (.istore_n 1, 1) := dk_60 (dk_at dksX4_clearText_0 4 rfl rfl)
theorem dX4_clearText_5 : decode cX4_clearText 5 = .ok (.aload_n 0, 1) := dk_42 (dk_at dksX4_clearText_0 5 rfl rfl)
theorem dX4_clearText_6 : decode cX4_clearText 6 = .ok (.iconst 0, 1) := dk_3 (dk_at dksX4_clearText_0 6 rfl rfl)
theorem dX4_clearText_7 : decode cX4_clearText 7 = .ok (.putfield 151, 3) := dk_181 0 151 (dk_at dksX4_clearText_0 7 rfl rfl)
theorem dX4_clearText_10 : decode cX4_clearText 10 = .ok (.iload_n 1, 1) := dk_27 (dk_at dksX4_clearText_0 10 rfl rfl)
theorem dX4_clearText_11 : decode cX4_clearText 11 = .ok (.ireturn, 1) := dk_172 (dk_at dksX4_clearText_0 11 rfl rfl)
abbrev cX4_textLength : ByteArray := prog_10_method_104_code
def yX4_textLength : MethodName := ⟨RX4, "textLength", "()I"⟩
theorem dX4_textLength_0 : decode cX4_textLength 0 = .ok (.aload_n 0, 1) := by decide +kernel
theorem dX4_textLength_1 : decode cX4_textLength 1 = .ok (.getfield 151, 3) := by decide +kernel
theorem dX4_textLength_4 : decode cX4_textLength 4 = .ok (.ireturn, 1) := by decide +kernel
abbrev cX4_saveSnapshot : ByteArray := prog_10_method_105_code
def yX4_saveSnapshot : MethodName := ⟨RX4, "saveSnapshot", "()I"⟩
def dkwX4_saveSnapshot_2 : List UInt8 := [184, 0, 169, 42, 42, 180, 0, 121, 181, 1, 80, 42, 4, 181, 1, 83, 42, 180, 0, 121, 172]
abbrev dktX4_saveSnapshot_2 : List UInt8 := dkwX4_saveSnapshot_2 ++ []
def dkwX4_saveSnapshot_1 : List UInt8 := [42, 180, 0, 16, 190, 184, 0, 169, 42, 180, 0, 22, 3, 42, 180, 0, 25, 3, 42, 180, 0, 22, 190]
abbrev dktX4_saveSnapshot_1 : List UInt8 := dkwX4_saveSnapshot_1 ++ dktX4_saveSnapshot_2
def dkwX4_saveSnapshot_0 : List UInt8 := [42, 180, 0, 9, 3, 42, 180, 0, 13, 3, 6, 184, 0, 169, 42, 180, 0, 16, 3, 42, 180, 0, 19, 3]
abbrev dktX4_saveSnapshot_0 : List UInt8 := dkwX4_saveSnapshot_0 ++ dktX4_saveSnapshot_1
theorem dksX4_saveSnapshot_0 : cX4_saveSnapshot.data.toList.drop 0 = dktX4_saveSnapshot_0 := by decide +kernel
theorem dksX4_saveSnapshot_1 : cX4_saveSnapshot.data.toList.drop 24 = dktX4_saveSnapshot_1 := dk_seg dksX4_saveSnapshot_0 24 rfl rfl
theorem dksX4_saveSnapshot_2 : cX4_saveSnapshot.data.toList.drop 47 = dktX4_saveSnapshot_2 := dk_seg dksX4_saveSnapshot_1 23 rfl rfl
theorem dX4_saveSnapshot_0 : decode cX4_saveSnapshot 0 = .ok (.aload_n 0, 1) := dk_42 (dk_at dksX4_saveSnapshot_0 0 rfl rfl)
theorem dX4_saveSnapshot_1 : decode cX4_saveSnapshot 1 = .ok (.getfield 9, 3) := dk_180 0 9 (dk_at dksX4_saveSnapshot_0 1 rfl rfl)
theorem dX4_saveSnapshot_4 : decode cX4_saveSnapshot 4 = .ok (.iconst 0, 1) := dk_3 (dk_at dksX4_saveSnapshot_0 4 rfl rfl)
theorem dX4_saveSnapshot_5 : decode cX4_saveSnapshot 5 = .ok (.aload_n 0, 1) := dk_42 (dk_at dksX4_saveSnapshot_0 5 rfl rfl)
theorem dX4_saveSnapshot_6 : decode cX4_saveSnapshot 6 = .ok (.getfield 13, 3) := dk_180 0 13 (dk_at dksX4_saveSnapshot_0 6 rfl rfl)
theorem dX4_saveSnapshot_9 : decode cX4_saveSnapshot 9 = .ok (.iconst 0, 1) := dk_3 (dk_at dksX4_saveSnapshot_0 9 rfl rfl)
theorem dX4_saveSnapshot_10 : decode cX4_saveSnapshot 10 = .ok (.iconst 3, 1) := dk_6 (dk_at dksX4_saveSnapshot_0 10 rfl rfl)
theorem dX4_saveSnapshot_11 : decode cX4_saveSnapshot 11 = .ok (.invokestatic 169, 3) := dk_184 0 169 (dk_at dksX4_saveSnapshot_0 11 rfl rfl)
theorem dX4_saveSnapshot_14 : decode cX4_saveSnapshot 14 = .ok (.aload_n 0, 1) := dk_42 (dk_at dksX4_saveSnapshot_0 14 rfl rfl)
theorem dX4_saveSnapshot_15 : decode cX4_saveSnapshot 15 = .ok (.getfield 16, 3) := dk_180 0 16 (dk_at dksX4_saveSnapshot_0 15 rfl rfl)
theorem dX4_saveSnapshot_18 : decode cX4_saveSnapshot 18 = .ok (.iconst 0, 1) := dk_3 (dk_at dksX4_saveSnapshot_0 18 rfl rfl)
theorem dX4_saveSnapshot_19 : decode cX4_saveSnapshot 19 = .ok (.aload_n 0, 1) := dk_42 (dk_at dksX4_saveSnapshot_0 19 rfl rfl)
theorem dX4_saveSnapshot_20 : decode cX4_saveSnapshot 20 = .ok (.getfield 19, 3) := dk_180 0 19 (dk_at dksX4_saveSnapshot_0 20 rfl rfl)
theorem dX4_saveSnapshot_23 : decode cX4_saveSnapshot 23 = .ok (.iconst 0, 1) := dk_3 (dk_at dksX4_saveSnapshot_0 23 rfl rfl)
theorem dX4_saveSnapshot_24 : decode cX4_saveSnapshot 24 = .ok (.aload_n 0, 1) := dk_42 (dk_at dksX4_saveSnapshot_1 0 rfl rfl)
theorem dX4_saveSnapshot_25 : decode cX4_saveSnapshot 25 = .ok (.getfield 16, 3) := dk_180 0 16 (dk_at dksX4_saveSnapshot_1 1 rfl rfl)
theorem dX4_saveSnapshot_28 : decode cX4_saveSnapshot 28 = .ok (.arraylength, 1) := dk_190 (dk_at dksX4_saveSnapshot_1 4 rfl rfl)
theorem dX4_saveSnapshot_29 : decode cX4_saveSnapshot 29 = .ok (.invokestatic 169, 3) := dk_184 0 169 (dk_at dksX4_saveSnapshot_1 5 rfl rfl)
theorem dX4_saveSnapshot_32 : decode cX4_saveSnapshot 32 = .ok (.aload_n 0, 1) := dk_42 (dk_at dksX4_saveSnapshot_1 8 rfl rfl)
theorem dX4_saveSnapshot_33 : decode cX4_saveSnapshot 33 = .ok (.getfield 22, 3) := dk_180 0 22 (dk_at dksX4_saveSnapshot_1 9 rfl rfl)
theorem dX4_saveSnapshot_36 : decode cX4_saveSnapshot 36 = .ok (.iconst 0, 1) := dk_3 (dk_at dksX4_saveSnapshot_1 12 rfl rfl)
theorem dX4_saveSnapshot_37 : decode cX4_saveSnapshot 37 = .ok (.aload_n 0, 1) := dk_42 (dk_at dksX4_saveSnapshot_1 13 rfl rfl)
theorem dX4_saveSnapshot_38 : decode cX4_saveSnapshot 38 = .ok (.getfield 25, 3) := dk_180 0 25 (dk_at dksX4_saveSnapshot_1 14 rfl rfl)
theorem dX4_saveSnapshot_41 : decode cX4_saveSnapshot 41 = .ok (.iconst 0, 1) := dk_3 (dk_at dksX4_saveSnapshot_1 17 rfl rfl)
theorem dX4_saveSnapshot_42 : decode cX4_saveSnapshot 42 = .ok (.aload_n 0, 1) := dk_42 (dk_at dksX4_saveSnapshot_1 18 rfl rfl)
theorem dX4_saveSnapshot_43 : decode cX4_saveSnapshot 43 = .ok (.getfield 22, 3) := dk_180 0 22 (dk_at dksX4_saveSnapshot_1 19 rfl rfl)
theorem dX4_saveSnapshot_46 : decode cX4_saveSnapshot 46 = .ok (.arraylength, 1) := dk_190 (dk_at dksX4_saveSnapshot_1 22 rfl rfl)
theorem dX4_saveSnapshot_47 : decode cX4_saveSnapshot 47 = .ok (.invokestatic 169, 3) := dk_184 0 169 (dk_at dksX4_saveSnapshot_2 0 rfl rfl)
theorem dX4_saveSnapshot_50 : decode cX4_saveSnapshot 50 = .ok (.aload_n 0, 1) := dk_42 (dk_at dksX4_saveSnapshot_2 3 rfl rfl)
theorem dX4_saveSnapshot_51 : decode cX4_saveSnapshot 51 = .ok (.aload_n 0, 1) := dk_42 (dk_at dksX4_saveSnapshot_2 4 rfl rfl)
theorem dX4_saveSnapshot_52 : decode cX4_saveSnapshot 52 = .ok (.getfield 121, 3) := dk_180 0 121 (dk_at dksX4_saveSnapshot_2 5 rfl rfl)
theorem dX4_saveSnapshot_55 : decode cX4_saveSnapshot 55 = .ok (.putfield 336, 3) := dk_181 1 80 (dk_at dksX4_saveSnapshot_2 8 rfl rfl)
theorem dX4_saveSnapshot_58 : decode cX4_saveSnapshot 58 = .ok (.aload_n 0, 1) := dk_42 (dk_at dksX4_saveSnapshot_2 11 rfl rfl)
theorem dX4_saveSnapshot_59 : decode cX4_saveSnapshot 59 = .ok (.iconst 1, 1) := dk_4 (dk_at dksX4_saveSnapshot_2 12 rfl rfl)
theorem dX4_saveSnapshot_60 : decode cX4_saveSnapshot 60 = .ok (.putfield 339, 3) := dk_181 1 83 (dk_at dksX4_saveSnapshot_2 13 rfl rfl)
theorem dX4_saveSnapshot_63 : decode cX4_saveSnapshot 63 = .ok (.aload_n 0, 1) := dk_42 (dk_at dksX4_saveSnapshot_2 16 rfl rfl)
theorem dX4_saveSnapshot_64 : decode cX4_saveSnapshot 64 = .ok (.getfield 121, 3) := dk_180 0 121 (dk_at dksX4_saveSnapshot_2 17 rfl rfl)
theorem dX4_saveSnapshot_67 : decode cX4_saveSnapshot 67 = .ok (.ireturn, 1) := dk_172 (dk_at dksX4_saveSnapshot_2 20 rfl rfl)
abbrev cX4_restoreSnapshot : ByteArray := prog_10_method_106_code
def yX4_restoreSnapshot : MethodName := ⟨RX4, "restoreSnapshot", "()I"⟩
def dkwX4_restoreSnapshot_3 : List UInt8 := [172]
abbrev dktX4_restoreSnapshot_3 : List UInt8 := dkwX4_restoreSnapshot_3 ++ []
def dkwX4_restoreSnapshot_2 : List UInt8 := [180, 0, 22, 3, 42, 180, 0, 22, 190, 184, 0, 169, 42, 42, 180, 1, 80, 181, 0, 121, 42, 180, 0, 121]
abbrev dktX4_restoreSnapshot_2 : List UInt8 := dkwX4_restoreSnapshot_2 ++ dktX4_restoreSnapshot_3
def dkwX4_restoreSnapshot_1 : List UInt8 := [42, 180, 0, 19, 3, 42, 180, 0, 16, 3, 42, 180, 0, 16, 190, 184, 0, 169, 42, 180, 0, 25, 3, 42]
abbrev dktX4_restoreSnapshot_1 : List UInt8 := dkwX4_restoreSnapshot_1 ++ dktX4_restoreSnapshot_2
def dkwX4_restoreSnapshot_0 : List UInt8 := [42, 180, 1, 83, 154, 0, 6, 16, 253, 172, 42, 180, 0, 13, 3, 42, 180, 0, 9, 3, 6, 184, 0, 169]
abbrev dktX4_restoreSnapshot_0 : List UInt8 := dkwX4_restoreSnapshot_0 ++ dktX4_restoreSnapshot_1
theorem dksX4_restoreSnapshot_0 : cX4_restoreSnapshot.data.toList.drop 0 = dktX4_restoreSnapshot_0 := by decide +kernel
theorem dksX4_restoreSnapshot_1 : cX4_restoreSnapshot.data.toList.drop 24 = dktX4_restoreSnapshot_1 := dk_seg dksX4_restoreSnapshot_0 24 rfl rfl
theorem dksX4_restoreSnapshot_2 : cX4_restoreSnapshot.data.toList.drop 48 = dktX4_restoreSnapshot_2 := dk_seg dksX4_restoreSnapshot_1 24 rfl rfl
theorem dksX4_restoreSnapshot_3 : cX4_restoreSnapshot.data.toList.drop 72 = dktX4_restoreSnapshot_3 := dk_seg dksX4_restoreSnapshot_2 24 rfl rfl
theorem dX4_restoreSnapshot_0 : decode cX4_restoreSnapshot 0 = .ok (.aload_n 0, 1) := dk_42 (dk_at dksX4_restoreSnapshot_0 0 rfl rfl)
theorem dX4_restoreSnapshot_1 : decode cX4_restoreSnapshot 1 = .ok (.getfield 339, 3) := dk_180 1 83 (dk_at dksX4_restoreSnapshot_0 1 rfl rfl)
theorem dX4_restoreSnapshot_4 : decode cX4_restoreSnapshot 4 = .ok (.ifCond .ne 6, 3) := dk_154 0 6 (dk_at dksX4_restoreSnapshot_0 4 rfl rfl)
theorem dX4_restoreSnapshot_7 : decode cX4_restoreSnapshot 7 = .ok (.bipush (-3), 2) := dk_16 253 (dk_at dksX4_restoreSnapshot_0 7 rfl rfl)
theorem dX4_restoreSnapshot_9 : decode cX4_restoreSnapshot 9 = .ok (.ireturn, 1) := dk_172 (dk_at dksX4_restoreSnapshot_0 9 rfl rfl)
theorem dX4_restoreSnapshot_10 : decode cX4_restoreSnapshot 10 = .ok (.aload_n 0, 1) := dk_42 (dk_at dksX4_restoreSnapshot_0 10 rfl rfl)
theorem dX4_restoreSnapshot_11 : decode cX4_restoreSnapshot 11 = .ok (.getfield 13, 3) := dk_180 0 13 (dk_at dksX4_restoreSnapshot_0 11 rfl rfl)
theorem dX4_restoreSnapshot_14 : decode cX4_restoreSnapshot 14 = .ok (.iconst 0, 1) := dk_3 (dk_at dksX4_restoreSnapshot_0 14 rfl rfl)
theorem dX4_restoreSnapshot_15 : decode cX4_restoreSnapshot 15 = .ok (.aload_n 0, 1) := dk_42 (dk_at dksX4_restoreSnapshot_0 15 rfl rfl)
theorem dX4_restoreSnapshot_16 : decode cX4_restoreSnapshot 16 = .ok (.getfield 9, 3) := dk_180 0 9 (dk_at dksX4_restoreSnapshot_0 16 rfl rfl)
theorem dX4_restoreSnapshot_19 : decode cX4_restoreSnapshot 19 = .ok (.iconst 0, 1) := dk_3 (dk_at dksX4_restoreSnapshot_0 19 rfl rfl)
theorem dX4_restoreSnapshot_20 : decode cX4_restoreSnapshot 20 = .ok (.iconst 3, 1) := dk_6 (dk_at dksX4_restoreSnapshot_0 20 rfl rfl)
theorem dX4_restoreSnapshot_21 : decode cX4_restoreSnapshot 21 = .ok (.invokestatic 169, 3) := dk_184 0 169 (dk_at dksX4_restoreSnapshot_0 21 rfl rfl)
theorem dX4_restoreSnapshot_24 : decode cX4_restoreSnapshot 24 = .ok (.aload_n 0, 1) := dk_42 (dk_at dksX4_restoreSnapshot_1 0 rfl rfl)
theorem dX4_restoreSnapshot_25 : decode cX4_restoreSnapshot 25 = .ok (.getfield 19, 3) := dk_180 0 19 (dk_at dksX4_restoreSnapshot_1 1 rfl rfl)
theorem dX4_restoreSnapshot_28 : decode cX4_restoreSnapshot 28 = .ok (.iconst 0, 1) := dk_3 (dk_at dksX4_restoreSnapshot_1 4 rfl rfl)
theorem dX4_restoreSnapshot_29 : decode cX4_restoreSnapshot 29 = .ok (.aload_n 0, 1) := dk_42 (dk_at dksX4_restoreSnapshot_1 5 rfl rfl)
theorem dX4_restoreSnapshot_30 : decode cX4_restoreSnapshot 30 = .ok (.getfield 16, 3) := dk_180 0 16 (dk_at dksX4_restoreSnapshot_1 6 rfl rfl)
theorem dX4_restoreSnapshot_33 : decode cX4_restoreSnapshot 33 = .ok (.iconst 0, 1) := dk_3 (dk_at dksX4_restoreSnapshot_1 9 rfl rfl)
theorem dX4_restoreSnapshot_34 : decode cX4_restoreSnapshot 34 = .ok (.aload_n 0, 1) := dk_42 (dk_at dksX4_restoreSnapshot_1 10 rfl rfl)
theorem dX4_restoreSnapshot_35 : decode cX4_restoreSnapshot 35 = .ok (.getfield 16, 3) := dk_180 0 16 (dk_at dksX4_restoreSnapshot_1 11 rfl rfl)
theorem dX4_restoreSnapshot_38 : decode cX4_restoreSnapshot 38 = .ok (.arraylength, 1) := dk_190 (dk_at dksX4_restoreSnapshot_1 14 rfl rfl)
theorem dX4_restoreSnapshot_39 : decode cX4_restoreSnapshot 39 = .ok (.invokestatic 169, 3) := dk_184 0 169 (dk_at dksX4_restoreSnapshot_1 15 rfl rfl)
theorem dX4_restoreSnapshot_42 : decode cX4_restoreSnapshot 42 = .ok (.aload_n 0, 1) := dk_42 (dk_at dksX4_restoreSnapshot_1 18 rfl rfl)
theorem dX4_restoreSnapshot_43 : decode cX4_restoreSnapshot 43 = .ok (.getfield 25, 3) := dk_180 0 25 (dk_at dksX4_restoreSnapshot_1 19 rfl rfl)
theorem dX4_restoreSnapshot_46 : decode cX4_restoreSnapshot 46 = .ok (.iconst 0, 1) := dk_3 (dk_at dksX4_restoreSnapshot_1 22 rfl rfl)
theorem dX4_restoreSnapshot_47 : decode cX4_restoreSnapshot 47 = .ok (.aload_n 0, 1) := dk_42 (dk_at dksX4_restoreSnapshot_1 23 rfl rfl)
theorem dX4_restoreSnapshot_48 : decode cX4_restoreSnapshot 48 = .ok (.getfield 22, 3) := dk_180 0 22 (dk_at dksX4_restoreSnapshot_2 0 rfl rfl)
theorem dX4_restoreSnapshot_51 : decode cX4_restoreSnapshot 51 = .ok (.iconst 0, 1) := dk_3 (dk_at dksX4_restoreSnapshot_2 3 rfl rfl)
theorem dX4_restoreSnapshot_52 : decode cX4_restoreSnapshot 52 = .ok (.aload_n 0, 1) := dk_42 (dk_at dksX4_restoreSnapshot_2 4 rfl rfl)
theorem dX4_restoreSnapshot_53 : decode cX4_restoreSnapshot 53 = .ok (.getfield 22, 3) := dk_180 0 22 (dk_at dksX4_restoreSnapshot_2 5 rfl rfl)
theorem dX4_restoreSnapshot_56 : decode cX4_restoreSnapshot 56 = .ok (.arraylength, 1) := dk_190 (dk_at dksX4_restoreSnapshot_2 8 rfl rfl)
theorem dX4_restoreSnapshot_57 : decode cX4_restoreSnapshot 57 = .ok (.invokestatic 169, 3) := dk_184 0 169 (dk_at dksX4_restoreSnapshot_2 9 rfl rfl)
theorem dX4_restoreSnapshot_60 : decode cX4_restoreSnapshot 60 = .ok (.aload_n 0, 1) := dk_42 (dk_at dksX4_restoreSnapshot_2 12 rfl rfl)
theorem dX4_restoreSnapshot_61 : decode cX4_restoreSnapshot 61 = .ok (.aload_n 0, 1) := dk_42 (dk_at dksX4_restoreSnapshot_2 13 rfl rfl)
theorem dX4_restoreSnapshot_62 : decode cX4_restoreSnapshot 62 = .ok (.getfield 336, 3) := dk_180 1 80 (dk_at dksX4_restoreSnapshot_2 14 rfl rfl)
theorem dX4_restoreSnapshot_65 : decode cX4_restoreSnapshot 65 = .ok (.putfield 121, 3) := dk_181 0 121 (dk_at dksX4_restoreSnapshot_2 17 rfl rfl)
theorem dX4_restoreSnapshot_68 : decode cX4_restoreSnapshot 68 = .ok (.aload_n 0, 1) := dk_42 (dk_at dksX4_restoreSnapshot_2 20 rfl rfl)
theorem dX4_restoreSnapshot_69 : decode cX4_restoreSnapshot 69 = .ok (.getfield 121, 3) := dk_180 0 121 (dk_at dksX4_restoreSnapshot_2 21 rfl rfl)
theorem dX4_restoreSnapshot_72 : decode cX4_restoreSnapshot 72 = .ok (.ireturn, 1) := dk_172 (dk_at dksX4_restoreSnapshot_3 0 rfl rfl)

