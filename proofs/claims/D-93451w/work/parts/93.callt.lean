/-! SIMULATION, XIV: every call of the table -/
set_option maxRecDepth 100000
theorem zn1 : zmn 1 = ⟨"DependencyPairAnalyzer", "<init>", "()V"⟩ := rfl
theorem zrr1 : zrt 1 = (Option.none : Option Jvm.ClassFile.FieldType) := rfl
theorem zq1 : Cond.code (zmn 1) (zcb 1) (zml 1) (zrt 1) ∈ lw_all := by rw [zn1, z1, zm1, zrr1]; exact q131
theorem zn2 : zmn 2 = ⟨"DependencyPairAnalyzer", "zero", "()LDependencyPairAnalyzer$Term;"⟩ := rfl
theorem zrr2 : zrt 2 = (Option.some (Jvm.ClassFile.FieldType.object "DependencyPairAnalyzer$Term")) := rfl
theorem zq2 : Cond.code (zmn 2) (zcb 2) (zml 2) (zrt 2) ∈ lw_all := by rw [zn2, z2, zm2, zrr2]; exact q237
theorem zn3 : zmn 3 = ⟨"DependencyPairAnalyzer", "build", "(I)V"⟩ := rfl
theorem zrr3 : zrt 3 = (Option.none : Option Jvm.ClassFile.FieldType) := rfl
theorem zq3 : Cond.code (zmn 3) (zcb 3) (zml 3) (zrt 3) ∈ lw_all := by rw [zn3, z3, zm3, zrr3]; exact q241
theorem zn4 : zmn 4 = ⟨"DependencyPairAnalyzer", "setArity", "(II)I"⟩ := rfl
theorem zrr4 : zrt 4 = (Option.some Jvm.ClassFile.FieldType.int) := rfl
theorem zq4 : Cond.code (zmn 4) (zcb 4) (zml 4) (zrt 4) ∈ lw_all := by rw [zn4, z4, zm4, zrr4]; exact q379
theorem zn5 : zmn 5 = ⟨"DependencyPairAnalyzer", "isFunction", "(I)Z"⟩ := rfl
theorem zrr5 : zrt 5 = (Option.some Jvm.ClassFile.FieldType.boolean) := rfl
theorem zq5 : Cond.code (zmn 5) (zcb 5) (zml 5) (zrt 5) ∈ lw_all := by rw [zn5, z5, zm5, zrr5]; exact q382
theorem zn6 : zmn 6 = ⟨"DependencyPairAnalyzer", "arity", "(I)I"⟩ := rfl
theorem zrr6 : zrt 6 = (Option.some Jvm.ClassFile.FieldType.int) := rfl
theorem zq6 : Cond.code (zmn 6) (zcb 6) (zml 6) (zrt 6) ∈ lw_all := by rw [zn6, z6, zm6, zrr6]; exact q397
theorem zn7 : zmn 7 = ⟨"DependencyPairAnalyzer", "appendCharacter", "(I)I"⟩ := rfl
theorem zrr7 : zrt 7 = (Option.some Jvm.ClassFile.FieldType.int) := rfl
theorem zq7 : Cond.code (zmn 7) (zcb 7) (zml 7) (zrt 7) ∈ lw_all := by rw [zn7, z7, zm7, zrr7]; exact q401
theorem zn8 : zmn 8 = ⟨"DependencyPairAnalyzer", "clearText", "()I"⟩ := rfl
theorem zrr8 : zrt 8 = (Option.some Jvm.ClassFile.FieldType.int) := rfl
theorem zq8 : Cond.code (zmn 8) (zcb 8) (zml 8) (zrt 8) ∈ lw_all := by rw [zn8, z8, zm8, zrr8]; exact q407
theorem zn9 : zmn 9 = ⟨"DependencyPairAnalyzer", "textLength", "()I"⟩ := rfl
theorem zrr9 : zrt 9 = (Option.some Jvm.ClassFile.FieldType.int) := rfl
theorem zq9 : Cond.code (zmn 9) (zcb 9) (zml 9) (zrt 9) ∈ lw_all := by rw [zn9, z9, zm9, zrr9]; exact q411
theorem zn10 : zmn 10 = ⟨"DependencyPairAnalyzer", "addRule", "()I"⟩ := rfl
theorem zrr10 : zrt 10 = (Option.some Jvm.ClassFile.FieldType.int) := rfl
theorem zq10 : Cond.codeWith (zmn 10) (zcb 10) (zml 10) (zrt 10) (zhh 10) ∈ lw_all := by rw [zn10, z10, zm10, zrr10]; exact q415
theorem zn11 : zmn 11 = ⟨"DependencyPairAnalyzer", "isValid", "(LDependencyPairAnalyzer$Rule;)Z"⟩ := rfl
theorem zrr11 : zrt 11 = (Option.some Jvm.ClassFile.FieldType.boolean) := rfl
theorem zq11 : Cond.code (zmn 11) (zcb 11) (zml 11) (zrt 11) ∈ lw_all := by rw [zn11, z11, zm11, zrr11]; exact q525
theorem zn12 : zmn 12 = ⟨"DependencyPairAnalyzer", "invalidate", "()V"⟩ := rfl
theorem zrr12 : zrt 12 = (Option.none : Option Jvm.ClassFile.FieldType) := rfl
theorem zq12 : Cond.code (zmn 12) (zcb 12) (zml 12) (zrt 12) ∈ lw_all := by rw [zn12, z12, zm12, zrr12]; exact q552
theorem zn13 : zmn 13 = ⟨"DependencyPairAnalyzer", "removeRule", "(I)I"⟩ := rfl
theorem zrr13 : zrt 13 = (Option.some Jvm.ClassFile.FieldType.int) := rfl
theorem zq13 : Cond.code (zmn 13) (zcb 13) (zml 13) (zrt 13) ∈ lw_all := by rw [zn13, z13, zm13, zrr13]; exact q556
theorem zn14 : zmn 14 = ⟨"DependencyPairAnalyzer", "isRule", "(I)Z"⟩ := rfl
theorem zrr14 : zrt 14 = (Option.some Jvm.ClassFile.FieldType.boolean) := rfl
theorem zq14 : Cond.code (zmn 14) (zcb 14) (zml 14) (zrt 14) ∈ lw_all := by rw [zn14, z14, zm14, zrr14]; exact q560
theorem zn15 : zmn 15 = ⟨"DependencyPairAnalyzer", "ruleCount", "()I"⟩ := rfl
theorem zrr15 : zrt 15 = (Option.some Jvm.ClassFile.FieldType.int) := rfl
theorem zq15 : Cond.code (zmn 15) (zcb 15) (zml 15) (zrt 15) ∈ lw_all := by rw [zn15, z15, zm15, zrr15]; exact q565
theorem zn16 : zmn 16 = ⟨"DependencyPairAnalyzer", "leftSize", "(I)I"⟩ := rfl
theorem zrr16 : zrt 16 = (Option.some Jvm.ClassFile.FieldType.int) := rfl
theorem zq16 : Cond.code (zmn 16) (zcb 16) (zml 16) (zrt 16) ∈ lw_all := by rw [zn16, z16, zm16, zrr16]; exact q569
theorem zn17 : zmn 17 = ⟨"DependencyPairAnalyzer", "rightSize", "(I)I"⟩ := rfl
theorem zrr17 : zrt 17 = (Option.some Jvm.ClassFile.FieldType.int) := rfl
theorem zq17 : Cond.code (zmn 17) (zcb 17) (zml 17) (zrt 17) ∈ lw_all := by rw [zn17, z17, zm17, zrr17]; exact q573
theorem zn18 : zmn 18 = ⟨"DependencyPairAnalyzer", "pairCount", "()I"⟩ := rfl
theorem zrr18 : zrt 18 = (Option.some Jvm.ClassFile.FieldType.int) := rfl
theorem zq18 : Cond.code (zmn 18) (zcb 18) (zml 18) (zrt 18) ∈ lw_all := by rw [zn18, z18, zm18, zrr18]; exact q577
theorem zn19 : zmn 19 = ⟨"DependencyPairAnalyzer", "update", "()V"⟩ := rfl
theorem zrr19 : zrt 19 = (Option.none : Option Jvm.ClassFile.FieldType) := rfl
theorem zq19 : Cond.code (zmn 19) (zcb 19) (zml 19) (zrt 19) ∈ lw_all := by rw [zn19, z19, zm19, zrr19]; exact q581
theorem zn20 : zmn 20 = ⟨"DependencyPairAnalyzer", "isEdge", "(LDependencyPairAnalyzer$Pair;LDependencyPairAnalyzer$Pair;)Z"⟩ := rfl
theorem zrr20 : zrt 20 = (Option.some Jvm.ClassFile.FieldType.boolean) := rfl
theorem zq20 : Cond.code (zmn 20) (zcb 20) (zml 20) (zrt 20) ∈ lw_all := by rw [zn20, z20, zm20, zrr20]; exact q619
theorem zn21 : zmn 21 = ⟨"DependencyPairAnalyzer", "isCompatible", "(LDependencyPairAnalyzer$Term;ILDependencyPairAnalyzer$Term;I)Z"⟩ := rfl
theorem zrr21 : zrt 21 = (Option.some Jvm.ClassFile.FieldType.boolean) := rfl
theorem zq21 : Cond.code (zmn 21) (zcb 21) (zml 21) (zrt 21) ∈ lw_all := by rw [zn21, z21, zm21, zrr21]; exact q622
theorem zn22 : zmn 22 = ⟨"DependencyPairAnalyzer", "findComponents", "([I)V"⟩ := rfl
theorem zrr22 : zrt 22 = (Option.none : Option Jvm.ClassFile.FieldType) := rfl
theorem zq22 : Cond.code (zmn 22) (zcb 22) (zml 22) (zrt 22) ∈ lw_all := by rw [zn22, z22, zm22, zrr22]; exact q626
theorem zn23 : zmn 23 = ⟨"DependencyPairAnalyzer", "countComponents", "([I)I"⟩ := rfl
theorem zrr23 : zrt 23 = (Option.some Jvm.ClassFile.FieldType.int) := rfl
theorem zq23 : Cond.code (zmn 23) (zcb 23) (zml 23) (zrt 23) ∈ lw_all := by rw [zn23, z23, zm23, zrr23]; exact q992
theorem zn24 : zmn 24 = ⟨"DependencyPairAnalyzer", "pairRule", "(I)I"⟩ := rfl
theorem zrr24 : zrt 24 = (Option.some Jvm.ClassFile.FieldType.int) := rfl
theorem zq24 : Cond.code (zmn 24) (zcb 24) (zml 24) (zrt 24) ∈ lw_all := by rw [zn24, z24, zm24, zrr24]; exact q999
theorem zn25 : zmn 25 = ⟨"DependencyPairAnalyzer", "isPair", "(I)Z"⟩ := rfl
theorem zrr25 : zrt 25 = (Option.some Jvm.ClassFile.FieldType.boolean) := rfl
theorem zq25 : Cond.code (zmn 25) (zcb 25) (zml 25) (zrt 25) ∈ lw_all := by rw [zn25, z25, zm25, zrr25]; exact q1003
theorem zn26 : zmn 26 = ⟨"DependencyPairAnalyzer", "pairPosition", "(I)I"⟩ := rfl
theorem zrr26 : zrt 26 = (Option.some Jvm.ClassFile.FieldType.int) := rfl
theorem zq26 : Cond.code (zmn 26) (zcb 26) (zml 26) (zrt 26) ∈ lw_all := by rw [zn26, z26, zm26, zrr26]; exact q1007
theorem zn27 : zmn 27 = ⟨"DependencyPairAnalyzer", "sourceFunction", "(I)I"⟩ := rfl
theorem zrr27 : zrt 27 = (Option.some Jvm.ClassFile.FieldType.int) := rfl
theorem zq27 : Cond.code (zmn 27) (zcb 27) (zml 27) (zrt 27) ∈ lw_all := by rw [zn27, z27, zm27, zrr27]; exact q1011
theorem zn28 : zmn 28 = ⟨"DependencyPairAnalyzer", "targetFunction", "(I)I"⟩ := rfl
theorem zrr28 : zrt 28 = (Option.some Jvm.ClassFile.FieldType.int) := rfl
theorem zq28 : Cond.code (zmn 28) (zcb 28) (zml 28) (zrt 28) ∈ lw_all := by rw [zn28, z28, zm28, zrr28]; exact q1016
theorem zn29 : zmn 29 = ⟨"DependencyPairAnalyzer", "hasEdge", "(II)I"⟩ := rfl
theorem zrr29 : zrt 29 = (Option.some Jvm.ClassFile.FieldType.int) := rfl
theorem zq29 : Cond.code (zmn 29) (zcb 29) (zml 29) (zrt 29) ∈ lw_all := by rw [zn29, z29, zm29, zrr29]; exact q1020
theorem zn30 : zmn 30 = ⟨"DependencyPairAnalyzer", "asInt", "(Z)I"⟩ := rfl
theorem zrr30 : zrt 30 = (Option.some Jvm.ClassFile.FieldType.int) := rfl
theorem zq30 : Cond.code (zmn 30) (zcb 30) (zml 30) (zrt 30) ∈ lw_all := by rw [zn30, z30, zm30, zrr30]; exact q1023
theorem zn31 : zmn 31 = ⟨"DependencyPairAnalyzer", "edgeCount", "()I"⟩ := rfl
theorem zrr31 : zrt 31 = (Option.some Jvm.ClassFile.FieldType.int) := rfl
theorem zq31 : Cond.code (zmn 31) (zcb 31) (zml 31) (zrt 31) ∈ lw_all := by rw [zn31, z31, zm31, zrr31]; exact q1027
theorem zn32 : zmn 32 = ⟨"DependencyPairAnalyzer", "componentCount", "()I"⟩ := rfl
theorem zrr32 : zrt 32 = (Option.some Jvm.ClassFile.FieldType.int) := rfl
theorem zq32 : Cond.code (zmn 32) (zcb 32) (zml 32) (zrt 32) ∈ lw_all := by rw [zn32, z32, zm32, zrr32]; exact q1031
theorem zn33 : zmn 33 = ⟨"DependencyPairAnalyzer", "componentOf", "(I)I"⟩ := rfl
theorem zrr33 : zrt 33 = (Option.some Jvm.ClassFile.FieldType.int) := rfl
theorem zq33 : Cond.code (zmn 33) (zcb 33) (zml 33) (zrt 33) ∈ lw_all := by rw [zn33, z33, zm33, zrr33]; exact q1035
theorem zn34 : zmn 34 = ⟨"DependencyPairAnalyzer", "sizeRelation", "(III)I"⟩ := rfl
theorem zrr34 : zrt 34 = (Option.some Jvm.ClassFile.FieldType.int) := rfl
theorem zq34 : Cond.code (zmn 34) (zcb 34) (zml 34) (zrt 34) ∈ lw_all := by rw [zn34, z34, zm34, zrr34]; exact q1039
theorem zn35 : zmn 35 = ⟨"DependencyPairAnalyzer", "closureSize", "()I"⟩ := rfl
theorem zrr35 : zrt 35 = (Option.some Jvm.ClassFile.FieldType.int) := rfl
theorem zq35 : Cond.code (zmn 35) (zcb 35) (zml 35) (zrt 35) ∈ lw_all := by rw [zn35, z35, zm35, zrr35]; exact q1047
theorem zn36 : zmn 36 = ⟨"DependencyPairAnalyzer", "computeClosure", "()Z"⟩ := rfl
theorem zrr36 : zrt 36 = (Option.some Jvm.ClassFile.FieldType.boolean) := rfl
theorem zq36 : Cond.code (zmn 36) (zcb 36) (zml 36) (zrt 36) ∈ lw_all := by rw [zn36, z36, zm36, zrr36]; exact q1051
theorem zn37 : zmn 37 = ⟨"DependencyPairAnalyzer", "addToClosure", "(LDependencyPairAnalyzer$SizeChangeGraph;I)I"⟩ := rfl
theorem zrr37 : zrt 37 = (Option.some Jvm.ClassFile.FieldType.int) := rfl
theorem zq37 : Cond.code (zmn 37) (zcb 37) (zml 37) (zrt 37) ∈ lw_all := by rw [zn37, z37, zm37, zrr37]; exact q1065
theorem zn38 : zmn 38 = ⟨"DependencyPairAnalyzer", "addComposition", "(LDependencyPairAnalyzer$SizeChangeGraph;LDependencyPairAnalyzer$SizeChangeGraph;I)I"⟩ := rfl
theorem zrr38 : zrt 38 = (Option.some Jvm.ClassFile.FieldType.int) := rfl
theorem zq38 : Cond.code (zmn 38) (zcb 38) (zml 38) (zrt 38) ∈ lw_all := by rw [zn38, z38, zm38, zrr38]; exact q1103
theorem zn39 : zmn 39 = ⟨"DependencyPairAnalyzer", "idempotentCount", "()I"⟩ := rfl
theorem zrr39 : zrt 39 = (Option.some Jvm.ClassFile.FieldType.int) := rfl
theorem zq39 : Cond.code (zmn 39) (zcb 39) (zml 39) (zrt 39) ∈ lw_all := by rw [zn39, z39, zm39, zrr39]; exact q1121
theorem zn40 : zmn 40 = ⟨"DependencyPairAnalyzer", "isIdempotent", "(LDependencyPairAnalyzer$SizeChangeGraph;)Z"⟩ := rfl
theorem zrr40 : zrt 40 = (Option.some Jvm.ClassFile.FieldType.boolean) := rfl
theorem zq40 : Cond.code (zmn 40) (zcb 40) (zml 40) (zrt 40) ∈ lw_all := by rw [zn40, z40, zm40, zrr40]; exact q1225
theorem zn41 : zmn 41 = ⟨"DependencyPairAnalyzer", "terminatesBySizeChange", "()I"⟩ := rfl
theorem zrr41 : zrt 41 = (Option.some Jvm.ClassFile.FieldType.int) := rfl
theorem zq41 : Cond.code (zmn 41) (zcb 41) (zml 41) (zrt 41) ∈ lw_all := by rw [zn41, z41, zm41, zrr41]; exact q1230
theorem zn42 : zmn 42 = ⟨"DependencyPairAnalyzer", "projection", "(I)I"⟩ := rfl
theorem zrr42 : zrt 42 = (Option.some Jvm.ClassFile.FieldType.int) := rfl
theorem zq42 : Cond.code (zmn 42) (zcb 42) (zml 42) (zrt 42) ∈ lw_all := by rw [zn42, z42, zm42, zrr42]; exact q1238
theorem zn43 : zmn 43 = ⟨"DependencyPairAnalyzer", "lowestProjection", "([IIII)I"⟩ := rfl
theorem zrr43 : zrt 43 = (Option.some Jvm.ClassFile.FieldType.int) := rfl
theorem zq43 : Cond.code (zmn 43) (zcb 43) (zml 43) (zrt 43) ∈ lw_all := by rw [zn43, z43, zm43, zrr43]; exact q1242
theorem zn44 : zmn 44 = ⟨"DependencyPairAnalyzer", "isValidProjection", "([II)Z"⟩ := rfl
theorem zrr44 : zrt 44 = (Option.some Jvm.ClassFile.FieldType.boolean) := rfl
theorem zq44 : Cond.code (zmn 44) (zcb 44) (zml 44) (zrt 44) ∈ lw_all := by rw [zn44, z44, zm44, zrr44]; exact q1246
theorem zn45 : zmn 45 = ⟨"DependencyPairAnalyzer", "chosenRelation", "(LDependencyPairAnalyzer$Pair;)I"⟩ := rfl
theorem zrr45 : zrt 45 = (Option.some Jvm.ClassFile.FieldType.int) := rfl
theorem zq45 : Cond.code (zmn 45) (zcb 45) (zml 45) (zrt 45) ∈ lw_all := by rw [zn45, z45, zm45, zrr45]; exact q1250
theorem zn46 : zmn 46 = ⟨"DependencyPairAnalyzer", "contains", "([III)Z"⟩ := rfl
theorem zrr46 : zrt 46 = (Option.some Jvm.ClassFile.FieldType.boolean) := rfl
theorem zq46 : Cond.code (zmn 46) (zcb 46) (zml 46) (zrt 46) ∈ lw_all := by rw [zn46, z46, zm46, zrr46]; exact q1254
theorem zn47 : zmn 47 = ⟨"DependencyPairAnalyzer", "eliminationRounds", "()I"⟩ := rfl
theorem zrr47 : zrt 47 = (Option.some Jvm.ClassFile.FieldType.int) := rfl
theorem zq47 : Cond.code (zmn 47) (zcb 47) (zml 47) (zrt 47) ∈ lw_all := by rw [zn47, z47, zm47, zrr47]; exact q1258
theorem zn48 : zmn 48 = ⟨"DependencyPairAnalyzer", "eliminate", "()I"⟩ := rfl
theorem zrr48 : zrt 48 = (Option.some Jvm.ClassFile.FieldType.int) := rfl
theorem zq48 : Cond.code (zmn 48) (zcb 48) (zml 48) (zrt 48) ∈ lw_all := by rw [zn48, z48, zm48, zrr48]; exact q1262
theorem zn49 : zmn 49 = ⟨"DependencyPairAnalyzer", "removeDecreasing", "(I)V"⟩ := rfl
theorem zrr49 : zrt 49 = (Option.none : Option Jvm.ClassFile.FieldType) := rfl
theorem zq49 : Cond.code (zmn 49) (zcb 49) (zml 49) (zrt 49) ∈ lw_all := by rw [zn49, z49, zm49, zrr49]; exact q1266
theorem zn50 : zmn 50 = ⟨"DependencyPairAnalyzer", "remainingPairCount", "()I"⟩ := rfl
theorem zrr50 : zrt 50 = (Option.some Jvm.ClassFile.FieldType.int) := rfl
theorem zq50 : Cond.code (zmn 50) (zcb 50) (zml 50) (zrt 50) ∈ lw_all := by rw [zn50, z50, zm50, zrr50]; exact q1270
theorem zn51 : zmn 51 = ⟨"DependencyPairAnalyzer", "remainingComponentCount", "()I"⟩ := rfl
theorem zrr51 : zrt 51 = (Option.some Jvm.ClassFile.FieldType.int) := rfl
theorem zq51 : Cond.code (zmn 51) (zcb 51) (zml 51) (zrt 51) ∈ lw_all := by rw [zn51, z51, zm51, zrr51]; exact q1274
theorem zn52 : zmn 52 = ⟨"DependencyPairAnalyzer", "terminatesBySubtermCriterion", "()I"⟩ := rfl
theorem zrr52 : zrt 52 = (Option.some Jvm.ClassFile.FieldType.int) := rfl
theorem zq52 : Cond.code (zmn 52) (zcb 52) (zml 52) (zrt 52) ∈ lw_all := by rw [zn52, z52, zm52, zrr52]; exact q1278
theorem zn53 : zmn 53 = ⟨"DependencyPairAnalyzer", "parseTerm", "(I)I"⟩ := rfl
theorem zrr53 : zrt 53 = (Option.some Jvm.ClassFile.FieldType.int) := rfl
theorem zq53 : Cond.codeWith (zmn 53) (zcb 53) (zml 53) (zrt 53) (zhh 53) ∈ lw_all := by rw [zn53, z53, zm53, zrr53]; exact q1283
theorem zn54 : zmn 54 = ⟨"DependencyPairAnalyzer", "isRegister", "(I)Z"⟩ := rfl
theorem zrr54 : zrt 54 = (Option.some Jvm.ClassFile.FieldType.boolean) := rfl
theorem zq54 : Cond.code (zmn 54) (zcb 54) (zml 54) (zrt 54) ∈ lw_all := by rw [zn54, z54, zm54, zrr54]; exact q1286
theorem zn55 : zmn 55 = ⟨"DependencyPairAnalyzer", "store", "(LDependencyPairAnalyzer$Term;I)I"⟩ := rfl
theorem zrr55 : zrt 55 = (Option.some Jvm.ClassFile.FieldType.int) := rfl
theorem zq55 : Cond.code (zmn 55) (zcb 55) (zml 55) (zrt 55) ∈ lw_all := by rw [zn55, z55, zm55, zrr55]; exact q1294
theorem zn56 : zmn 56 = ⟨"DependencyPairAnalyzer", "termSize", "(I)I"⟩ := rfl
theorem zrr56 : zrt 56 = (Option.some Jvm.ClassFile.FieldType.int) := rfl
theorem zq56 : Cond.code (zmn 56) (zcb 56) (zml 56) (zrt 56) ∈ lw_all := by rw [zn56, z56, zm56, zrr56]; exact q1298
theorem zn57 : zmn 57 = ⟨"DependencyPairAnalyzer", "formattedLength", "(I)I"⟩ := rfl
theorem zrr57 : zrt 57 = (Option.some Jvm.ClassFile.FieldType.int) := rfl
theorem zq57 : Cond.code (zmn 57) (zcb 57) (zml 57) (zrt 57) ∈ lw_all := by rw [zn57, z57, zm57, zrr57]; exact q1302
theorem zn58 : zmn 58 = ⟨"DependencyPairAnalyzer", "format", "(LDependencyPairAnalyzer$Term;)Ljava/lang/StringBuilder;"⟩ := rfl
theorem zrr58 : zrt 58 = (Option.some (Jvm.ClassFile.FieldType.object "java/lang/StringBuilder")) := rfl
theorem zq58 : Cond.code (zmn 58) (zcb 58) (zml 58) (zrt 58) ∈ lw_all := by rw [zn58, z58, zm58, zrr58]; exact q1305
theorem zn59 : zmn 59 = ⟨"DependencyPairAnalyzer", "formattedCharacter", "(II)I"⟩ := rfl
theorem zrr59 : zrt 59 = (Option.some Jvm.ClassFile.FieldType.int) := rfl
theorem zq59 : Cond.code (zmn 59) (zcb 59) (zml 59) (zrt 59) ∈ lw_all := by rw [zn59, z59, zm59, zrr59]; exact q1419
theorem zn60 : zmn 60 = ⟨"DependencyPairAnalyzer", "compareTerms", "(II)I"⟩ := rfl
theorem zrr60 : zrt 60 = (Option.some Jvm.ClassFile.FieldType.int) := rfl
theorem zq60 : Cond.code (zmn 60) (zcb 60) (zml 60) (zrt 60) ∈ lw_all := by rw [zn60, z60, zm60, zrr60]; exact q1433
theorem zn61 : zmn 61 = ⟨"DependencyPairAnalyzer", "copyTerm", "(II)I"⟩ := rfl
theorem zrr61 : zrt 61 = (Option.some Jvm.ClassFile.FieldType.int) := rfl
theorem zq61 : Cond.code (zmn 61) (zcb 61) (zml 61) (zrt 61) ∈ lw_all := by rw [zn61, z61, zm61, zrr61]; exact q1438
theorem zn62 : zmn 62 = ⟨"DependencyPairAnalyzer", "loadLeft", "(II)I"⟩ := rfl
theorem zrr62 : zrt 62 = (Option.some Jvm.ClassFile.FieldType.int) := rfl
theorem zq62 : Cond.code (zmn 62) (zcb 62) (zml 62) (zrt 62) ∈ lw_all := by rw [zn62, z62, zm62, zrr62]; exact q1442
theorem zn63 : zmn 63 = ⟨"DependencyPairAnalyzer", "loadRight", "(II)I"⟩ := rfl
theorem zrr63 : zrt 63 = (Option.some Jvm.ClassFile.FieldType.int) := rfl
theorem zq63 : Cond.code (zmn 63) (zcb 63) (zml 63) (zrt 63) ∈ lw_all := by rw [zn63, z63, zm63, zrr63]; exact q1446
theorem zn64 : zmn 64 = ⟨"DependencyPairAnalyzer", "matches", "(III)I"⟩ := rfl
theorem zrr64 : zrt 64 = (Option.some Jvm.ClassFile.FieldType.int) := rfl
theorem zq64 : Cond.code (zmn 64) (zcb 64) (zml 64) (zrt 64) ∈ lw_all := by rw [zn64, z64, zm64, zrr64]; exact q1450
theorem zn65 : zmn 65 = ⟨"DependencyPairAnalyzer", "isPosition", "(II)Z"⟩ := rfl
theorem zrr65 : zrt 65 = (Option.some Jvm.ClassFile.FieldType.boolean) := rfl
theorem zq65 : Cond.code (zmn 65) (zcb 65) (zml 65) (zrt 65) ∈ lw_all := by rw [zn65, z65, zm65, zrr65]; exact q1454
theorem zn66 : zmn 66 = ⟨"DependencyPairAnalyzer", "isMatch", "(ILDependencyPairAnalyzer$Term;I)Z"⟩ := rfl
theorem zrr66 : zrt 66 = (Option.some Jvm.ClassFile.FieldType.boolean) := rfl
theorem zq66 : Cond.code (zmn 66) (zcb 66) (zml 66) (zrt 66) ∈ lw_all := by rw [zn66, z66, zm66, zrr66]; exact q1458
theorem zn67 : zmn 67 = ⟨"DependencyPairAnalyzer", "redexCount", "(I)I"⟩ := rfl
theorem zrr67 : zrt 67 = (Option.some Jvm.ClassFile.FieldType.int) := rfl
theorem zq67 : Cond.code (zmn 67) (zcb 67) (zml 67) (zrt 67) ∈ lw_all := by rw [zn67, z67, zm67, zrr67]; exact q1463
theorem zn68 : zmn 68 = ⟨"DependencyPairAnalyzer", "isRedex", "(LDependencyPairAnalyzer$Term;I)Z"⟩ := rfl
theorem zrr68 : zrt 68 = (Option.some Jvm.ClassFile.FieldType.boolean) := rfl
theorem zq68 : Cond.code (zmn 68) (zcb 68) (zml 68) (zrt 68) ∈ lw_all := by rw [zn68, z68, zm68, zrr68]; exact q1467
theorem zn69 : zmn 69 = ⟨"DependencyPairAnalyzer", "matchingRule", "(LDependencyPairAnalyzer$Term;I)I"⟩ := rfl
theorem zrr69 : zrt 69 = (Option.some Jvm.ClassFile.FieldType.int) := rfl
theorem zq69 : Cond.code (zmn 69) (zcb 69) (zml 69) (zrt 69) ∈ lw_all := by rw [zn69, z69, zm69, zrr69]; exact q1471
theorem zn70 : zmn 70 = ⟨"DependencyPairAnalyzer", "redexAt", "(II)I"⟩ := rfl
theorem zrr70 : zrt 70 = (Option.some Jvm.ClassFile.FieldType.int) := rfl
theorem zq70 : Cond.code (zmn 70) (zcb 70) (zml 70) (zrt 70) ∈ lw_all := by rw [zn70, z70, zm70, zrr70]; exact q1475
theorem zn71 : zmn 71 = ⟨"DependencyPairAnalyzer", "rewriteAt", "(II)I"⟩ := rfl
theorem zrr71 : zrt 71 = (Option.some Jvm.ClassFile.FieldType.int) := rfl
theorem zq71 : Cond.code (zmn 71) (zcb 71) (zml 71) (zrt 71) ∈ lw_all := by rw [zn71, z71, zm71, zrr71]; exact q1479
theorem zn72 : zmn 72 = ⟨"DependencyPairAnalyzer", "rewritten", "(LDependencyPairAnalyzer$Term;I)LDependencyPairAnalyzer$Term;"⟩ := rfl
theorem zrr72 : zrt 72 = (Option.some (Jvm.ClassFile.FieldType.object "DependencyPairAnalyzer$Term")) := rfl
theorem zq72 : Cond.code (zmn 72) (zcb 72) (zml 72) (zrt 72) ∈ lw_all := by rw [zn72, z72, zm72, zrr72]; exact q1483
theorem zn73 : zmn 73 = ⟨"DependencyPairAnalyzer", "instanceSize", "(LDependencyPairAnalyzer$Term;LDependencyPairAnalyzer$Term;)I"⟩ := rfl
theorem zrr73 : zrt 73 = (Option.some Jvm.ClassFile.FieldType.int) := rfl
theorem zq73 : Cond.code (zmn 73) (zcb 73) (zml 73) (zrt 73) ∈ lw_all := by rw [zn73, z73, zm73, zrr73]; exact q1488
theorem zn74 : zmn 74 = ⟨"DependencyPairAnalyzer", "buildRange", "(LDependencyPairAnalyzer$Term;II)V"⟩ := rfl
theorem zrr74 : zrt 74 = (Option.none : Option Jvm.ClassFile.FieldType) := rfl
theorem zq74 : Cond.code (zmn 74) (zcb 74) (zml 74) (zrt 74) ∈ lw_all := by rw [zn74, z74, zm74, zrr74]; exact q1492
theorem zn75 : zmn 75 = ⟨"DependencyPairAnalyzer", "rewriteOutermost", "(II)I"⟩ := rfl
theorem zrr75 : zrt 75 = (Option.some Jvm.ClassFile.FieldType.int) := rfl
theorem zq75 : Cond.code (zmn 75) (zcb 75) (zml 75) (zrt 75) ∈ lw_all := by rw [zn75, z75, zm75, zrr75]; exact q1496
theorem zn76 : zmn 76 = ⟨"DependencyPairAnalyzer", "outermostStep", "(LDependencyPairAnalyzer$Term;)LDependencyPairAnalyzer$Term;"⟩ := rfl
theorem zrr76 : zrt 76 = (Option.some (Jvm.ClassFile.FieldType.object "DependencyPairAnalyzer$Term")) := rfl
theorem zq76 : Cond.code (zmn 76) (zcb 76) (zml 76) (zrt 76) ∈ lw_all := by rw [zn76, z76, zm76, zrr76]; exact q1501
theorem zn77 : zmn 77 = ⟨"DependencyPairAnalyzer", "outermostRedex", "(LDependencyPairAnalyzer$Term;)I"⟩ := rfl
theorem zrr77 : zrt 77 = (Option.some Jvm.ClassFile.FieldType.int) := rfl
theorem zq77 : Cond.code (zmn 77) (zcb 77) (zml 77) (zrt 77) ∈ lw_all := by rw [zn77, z77, zm77, zrr77]; exact q1505
theorem zn78 : zmn 78 = ⟨"DependencyPairAnalyzer", "findLoop", "(II)I"⟩ := rfl
theorem zrr78 : zrt 78 = (Option.some Jvm.ClassFile.FieldType.int) := rfl
theorem zq78 : Cond.code (zmn 78) (zcb 78) (zml 78) (zrt 78) ∈ lw_all := by rw [zn78, z78, zm78, zrr78]; exact q1509
theorem zn79 : zmn 79 = ⟨"DependencyPairAnalyzer", "occurred", "(LDependencyPairAnalyzer$Term;I)Z"⟩ := rfl
theorem zrr79 : zrt 79 = (Option.some Jvm.ClassFile.FieldType.boolean) := rfl
theorem zq79 : Cond.code (zmn 79) (zcb 79) (zml 79) (zrt 79) ∈ lw_all := by rw [zn79, z79, zm79, zrr79]; exact q1513
theorem zn80 : zmn 80 = ⟨"DependencyPairAnalyzer", "exploredCount", "(II)I"⟩ := rfl
theorem zrr80 : zrt 80 = (Option.some Jvm.ClassFile.FieldType.int) := rfl
theorem zq80 : Cond.code (zmn 80) (zcb 80) (zml 80) (zrt 80) ∈ lw_all := by rw [zn80, z80, zm80, zrr80]; exact q1521
theorem zn81 : zmn 81 = ⟨"DependencyPairAnalyzer", "explorationError", "(II)I"⟩ := rfl
theorem zrr81 : zrt 81 = (Option.some Jvm.ClassFile.FieldType.int) := rfl
theorem zq81 : Cond.code (zmn 81) (zcb 81) (zml 81) (zrt 81) ∈ lw_all := by rw [zn81, z81, zm81, zrr81]; exact q1525
theorem zn82 : zmn 82 = ⟨"DependencyPairAnalyzer", "explore", "(LDependencyPairAnalyzer$Term;I)I"⟩ := rfl
theorem zrr82 : zrt 82 = (Option.some Jvm.ClassFile.FieldType.int) := rfl
theorem zq82 : Cond.code (zmn 82) (zcb 82) (zml 82) (zrt 82) ∈ lw_all := by rw [zn82, z82, zm82, zrr82]; exact q1530
theorem zn83 : zmn 83 = ⟨"DependencyPairAnalyzer", "exploredNormalForms", "(II)I"⟩ := rfl
theorem zrr83 : zrt 83 = (Option.some Jvm.ClassFile.FieldType.int) := rfl
theorem zq83 : Cond.code (zmn 83) (zcb 83) (zml 83) (zrt 83) ∈ lw_all := by rw [zn83, z83, zm83, zrr83]; exact q1650
theorem zn84 : zmn 84 = ⟨"DependencyPairAnalyzer", "isNormalForm", "(LDependencyPairAnalyzer$Term;)Z"⟩ := rfl
theorem zrr84 : zrt 84 = (Option.some Jvm.ClassFile.FieldType.boolean) := rfl
theorem zq84 : Cond.code (zmn 84) (zcb 84) (zml 84) (zrt 84) ∈ lw_all := by rw [zn84, z84, zm84, zrr84]; exact q1654
theorem zn85 : zmn 85 = ⟨"DependencyPairAnalyzer", "lastExploredSize", "(II)I"⟩ := rfl
theorem zrr85 : zrt 85 = (Option.some Jvm.ClassFile.FieldType.int) := rfl
theorem zq85 : Cond.code (zmn 85) (zcb 85) (zml 85) (zrt 85) ∈ lw_all := by rw [zn85, z85, zm85, zrr85]; exact q1658
theorem zn86 : zmn 86 = ⟨"DependencyPairAnalyzer", "loadNormalForm", "(III)I"⟩ := rfl
theorem zrr86 : zrt 86 = (Option.some Jvm.ClassFile.FieldType.int) := rfl
theorem zq86 : Cond.code (zmn 86) (zcb 86) (zml 86) (zrt 86) ∈ lw_all := by rw [zn86, z86, zm86, zrr86]; exact q1662
theorem zn87 : zmn 87 = ⟨"DependencyPairAnalyzer", "normalFormRegisterCount", "()I"⟩ := rfl
theorem zrr87 : zrt 87 = (Option.some Jvm.ClassFile.FieldType.int) := rfl
theorem zq87 : Cond.code (zmn 87) (zcb 87) (zml 87) (zrt 87) ∈ lw_all := by rw [zn87, z87, zm87, zrr87]; exact q1666
theorem zn88 : zmn 88 = ⟨"DependencyPairAnalyzer", "saveSnapshot", "()I"⟩ := rfl
theorem zrr88 : zrt 88 = (Option.some Jvm.ClassFile.FieldType.int) := rfl
theorem zq88 : Cond.code (zmn 88) (zcb 88) (zml 88) (zrt 88) ∈ lw_all := by rw [zn88, z88, zm88, zrr88]; exact q1670
theorem zn89 : zmn 89 = ⟨"DependencyPairAnalyzer", "restoreSnapshot", "()I"⟩ := rfl
theorem zrr89 : zrt 89 = (Option.some Jvm.ClassFile.FieldType.int) := rfl
theorem zq89 : Cond.code (zmn 89) (zcb 89) (zml 89) (zrt 89) ∈ lw_all := by rw [zn89, z89, zm89, zrr89]; exact q1674
theorem zn90 : zmn 90 = ⟨"DependencyPairAnalyzer$Reader", "<init>", "(LDependencyPairAnalyzer;)V"⟩ := rfl
theorem zrr90 : zrt 90 = (Option.none : Option Jvm.ClassFile.FieldType) := rfl
theorem zq90 : Cond.code (zmn 90) (zcb 90) (zml 90) (zrt 90) ∈ lw_all := by rw [zn90, z90, zm90, zrr90]; exact q143
theorem zn91 : zmn 91 = ⟨"DependencyPairAnalyzer$Reader", "rule", "()LDependencyPairAnalyzer$Rule;"⟩ := rfl
theorem zrr91 : zrt 91 = (Option.some (Jvm.ClassFile.FieldType.object "DependencyPairAnalyzer$Rule")) := rfl
theorem zq91 : Cond.code (zmn 91) (zcb 91) (zml 91) (zrt 91) ∈ lw_all := by rw [zn91, z91, zm91, zrr91]; exact q420
theorem zn92 : zmn 92 = ⟨"DependencyPairAnalyzer$Reader", "builtTerm", "()LDependencyPairAnalyzer$Term;"⟩ := rfl
theorem zrr92 : zrt 92 = (Option.some (Jvm.ClassFile.FieldType.object "DependencyPairAnalyzer$Term")) := rfl
theorem zq92 : Cond.code (zmn 92) (zcb 92) (zml 92) (zrt 92) ∈ lw_all := by rw [zn92, z92, zm92, zrr92]; exact q424
theorem zn93 : zmn 93 = ⟨"DependencyPairAnalyzer$Reader", "term", "()V"⟩ := rfl
theorem zrr93 : zrt 93 = (Option.none : Option Jvm.ClassFile.FieldType) := rfl
theorem zq93 : Cond.code (zmn 93) (zcb 93) (zml 93) (zrt 93) ∈ lw_all := by rw [zn93, z93, zm93, zrr93]; exact q428
theorem zn94 : zmn 94 = ⟨"DependencyPairAnalyzer$Reader", "current", "()I"⟩ := rfl
theorem zrr94 : zrt 94 = (Option.some Jvm.ClassFile.FieldType.int) := rfl
theorem zq94 : Cond.code (zmn 94) (zcb 94) (zml 94) (zrt 94) ∈ lw_all := by rw [zn94, z94, zm94, zrr94]; exact q432
theorem zn95 : zmn 95 = ⟨"DependencyPairAnalyzer$Reader", "require", "(Z)V"⟩ := rfl
theorem zrr95 : zrt 95 = (Option.none : Option Jvm.ClassFile.FieldType) := rfl
theorem zq95 : Cond.code (zmn 95) (zcb 95) (zml 95) (zrt 95) ∈ lw_all := by rw [zn95, z95, zm95, zrr95]; exact q437
theorem zn96 : zmn 96 = ⟨"DependencyPairAnalyzer$Reader", "take", "(I)V"⟩ := rfl
theorem zrr96 : zrt 96 = (Option.none : Option Jvm.ClassFile.FieldType) := rfl
theorem zq96 : Cond.code (zmn 96) (zcb 96) (zml 96) (zrt 96) ∈ lw_all := by rw [zn96, z96, zm96, zrr96]; exact q505
theorem zn97 : zmn 97 = ⟨"DependencyPairAnalyzer$Reader", "whole", "()LDependencyPairAnalyzer$Term;"⟩ := rfl
theorem zrr97 : zrt 97 = (Option.some (Jvm.ClassFile.FieldType.object "DependencyPairAnalyzer$Term")) := rfl
theorem zq97 : Cond.code (zmn 97) (zcb 97) (zml 97) (zrt 97) ∈ lw_all := by rw [zn97, z97, zm97, zrr97]; exact q1290
theorem zn98 : zmn 98 = ⟨"DependencyPairAnalyzer$SizeChangeGraph", "<init>", "(II[I)V"⟩ := rfl
theorem zrr98 : zrt 98 = (Option.none : Option Jvm.ClassFile.FieldType) := rfl
theorem zq98 : Cond.code (zmn 98) (zcb 98) (zml 98) (zrt 98) ∈ lw_all := by rw [zn98, z98, zm98, zrr98]; exact q219
theorem zn99 : zmn 99 = ⟨"DependencyPairAnalyzer$SizeChangeGraph", "compareTo", "(Ljava/lang/Object;)I"⟩ := rfl
theorem zrr99 : zrt 99 = (Option.some Jvm.ClassFile.FieldType.int) := rfl
theorem zq99 : Cond.code (zmn 99) (zcb 99) (zml 99) (zrt 99) ∈ lw_all := by rw [zn99, z99, zm99, zrr99]; exact q681
theorem zn100 : zmn 100 = ⟨"DependencyPairAnalyzer$SizeChangeGraph", "compareTo", "(LDependencyPairAnalyzer$SizeChangeGraph;)I"⟩ := rfl
theorem zrr100 : zrt 100 = (Option.some Jvm.ClassFile.FieldType.int) := rfl
theorem zq100 : Cond.code (zmn 100) (zcb 100) (zml 100) (zrt 100) ∈ lw_all := by rw [zn100, z100, zm100, zrr100]; exact q686
theorem zn101 : zmn 101 = ⟨"DependencyPairAnalyzer$SizeChangeGraph", "copy", "()LDependencyPairAnalyzer$SizeChangeGraph;"⟩ := rfl
theorem zrr101 : zrt 101 = (Option.some (Jvm.ClassFile.FieldType.object "DependencyPairAnalyzer$SizeChangeGraph")) := rfl
theorem zq101 : Cond.code (zmn 101) (zcb 101) (zml 101) (zrt 101) ∈ lw_all := by rw [zn101, z101, zm101, zrr101]; exact q1080
theorem zn102 : zmn 102 = ⟨"DependencyPairAnalyzer$SizeChangeGraph", "compose", "(LDependencyPairAnalyzer$SizeChangeGraph;LDependencyPairAnalyzer$SizeChangeGraph;)V"⟩ := rfl
theorem zrr102 : zrt 102 = (Option.none : Option Jvm.ClassFile.FieldType) := rfl
theorem zq102 : Cond.code (zmn 102) (zcb 102) (zml 102) (zrt 102) ∈ lw_all := by rw [zn102, z102, zm102, zrr102]; exact q1107
theorem zn103 : zmn 103 = ⟨"DependencyPairAnalyzer$SizeChangeGraph", "decreases", "()Z"⟩ := rfl
theorem zrr103 : zrt 103 = (Option.some Jvm.ClassFile.FieldType.boolean) := rfl
theorem zq103 : Cond.code (zmn 103) (zcb 103) (zml 103) (zrt 103) ∈ lw_all := by rw [zn103, z103, zm103, zrr103]; exact q1234
theorem zn104 : zmn 104 = ⟨"DependencyPairAnalyzer$Term", "<init>", "([BI[I)V"⟩ := rfl
theorem zrr104 : zrt 104 = (Option.none : Option Jvm.ClassFile.FieldType) := rfl
theorem zq104 : Cond.code (zmn 104) (zcb 104) (zml 104) (zrt 104) ∈ lw_all := by rw [zn104, z104, zm104, zrr104]; exact q245
theorem zn105 : zmn 105 = ⟨"DependencyPairAnalyzer$Term", "argumentCount", "(I[I)I"⟩ := rfl
theorem zrr105 : zrt 105 = (Option.some Jvm.ClassFile.FieldType.int) := rfl
theorem zq105 : Cond.code (zmn 105) (zcb 105) (zml 105) (zrt 105) ∈ lw_all := by rw [zn105, z105, zm105, zrr105]; exact q252
theorem zn106 : zmn 106 = ⟨"DependencyPairAnalyzer$Term", "isFunctionSymbol", "(I)Z"⟩ := rfl
theorem zrr106 : zrt 106 = (Option.some Jvm.ClassFile.FieldType.boolean) := rfl
theorem zq106 : Cond.code (zmn 106) (zcb 106) (zml 106) (zrt 106) ∈ lw_all := by rw [zn106, z106, zm106, zrr106]; exact q255
theorem zn107 : zmn 107 = ⟨"DependencyPairAnalyzer$Term", "containsFunction", "(I)Z"⟩ := rfl
theorem zrr107 : zrt 107 = (Option.some Jvm.ClassFile.FieldType.boolean) := rfl
theorem zq107 : Cond.code (zmn 107) (zcb 107) (zml 107) (zrt 107) ∈ lw_all := by rw [zn107, z107, zm107, zrr107]; exact q389
theorem zn108 : zmn 108 = ⟨"DependencyPairAnalyzer$Term", "size", "()I"⟩ := rfl
theorem zrr108 : zrt 108 = (Option.some Jvm.ClassFile.FieldType.int) := rfl
theorem zq108 : Cond.code (zmn 108) (zcb 108) (zml 108) (zrt 108) ∈ lw_all := by rw [zn108, z108, zm108, zrr108]; exact q393
theorem zn109 : zmn 109 = ⟨"DependencyPairAnalyzer$Term", "isFunction", "(I)Z"⟩ := rfl
theorem zrr109 : zrt 109 = (Option.some Jvm.ClassFile.FieldType.boolean) := rfl
theorem zq109 : Cond.code (zmn 109) (zcb 109) (zml 109) (zrt 109) ∈ lw_all := by rw [zn109, z109, zm109, zrr109]; exact q529
theorem zn110 : zmn 110 = ⟨"DependencyPairAnalyzer$Term", "isVariable", "(I)Z"⟩ := rfl
theorem zrr110 : zrt 110 = (Option.some Jvm.ClassFile.FieldType.boolean) := rfl
theorem zq110 : Cond.code (zmn 110) (zcb 110) (zml 110) (zrt 110) ∈ lw_all := by rw [zn110, z110, zm110, zrr110]; exact q534
theorem zn111 : zmn 111 = ⟨"DependencyPairAnalyzer$Term", "containsAt", "(ILDependencyPairAnalyzer$Term;I)Z"⟩ := rfl
theorem zrr111 : zrt 111 = (Option.some Jvm.ClassFile.FieldType.boolean) := rfl
theorem zq111 : Cond.code (zmn 111) (zcb 111) (zml 111) (zrt 111) ∈ lw_all := by rw [zn111, z111, zm111, zrr111]; exact q540
theorem zn112 : zmn 112 = ⟨"DependencyPairAnalyzer$Term", "isEqualAt", "(ILDependencyPairAnalyzer$Term;I)Z"⟩ := rfl
theorem zrr112 : zrt 112 = (Option.some Jvm.ClassFile.FieldType.boolean) := rfl
theorem zq112 : Cond.code (zmn 112) (zcb 112) (zml 112) (zrt 112) ∈ lw_all := by rw [zn112, z112, zm112, zrr112]; exact q544
theorem zn113 : zmn 113 = ⟨"DependencyPairAnalyzer$Term", "sizeAt", "(I)I"⟩ := rfl
theorem zrr113 : zrt 113 = (Option.some Jvm.ClassFile.FieldType.int) := rfl
theorem zq113 : Cond.code (zmn 113) (zcb 113) (zml 113) (zrt 113) ∈ lw_all := by rw [zn113, z113, zm113, zrr113]; exact q548
theorem zn114 : zmn 114 = ⟨"DependencyPairAnalyzer$Term", "function", "(I)I"⟩ := rfl
theorem zrr114 : zrt 114 = (Option.some Jvm.ClassFile.FieldType.int) := rfl
theorem zq114 : Cond.code (zmn 114) (zcb 114) (zml 114) (zrt 114) ∈ lw_all := by rw [zn114, z114, zm114, zrr114]; exact q594
theorem zn115 : zmn 115 = ⟨"DependencyPairAnalyzer$Term", "compareTo", "(Ljava/lang/Object;)I"⟩ := rfl
theorem zrr115 : zrt 115 = (Option.some Jvm.ClassFile.FieldType.int) := rfl
theorem zq115 : Cond.code (zmn 115) (zcb 115) (zml 115) (zrt 115) ∈ lw_all := by rw [zn115, z115, zm115, zrr115]; exact q692
theorem zn116 : zmn 116 = ⟨"DependencyPairAnalyzer$Term", "compareTo", "(LDependencyPairAnalyzer$Term;)I"⟩ := rfl
theorem zrr116 : zrt 116 = (Option.some Jvm.ClassFile.FieldType.int) := rfl
theorem zq116 : Cond.code (zmn 116) (zcb 116) (zml 116) (zrt 116) ∈ lw_all := by rw [zn116, z116, zm116, zrr116]; exact q697
theorem zn117 : zmn 117 = ⟨"DependencyPairAnalyzer$Term", "write", "(ILjava/lang/StringBuilder;)V"⟩ := rfl
theorem zrr117 : zrt 117 = (Option.none : Option Jvm.ClassFile.FieldType) := rfl
theorem zq117 : Cond.code (zmn 117) (zcb 117) (zml 117) (zrt 117) ∈ lw_all := by rw [zn117, z117, zm117, zrr117]; exact q1336
theorem zn118 : zmn 118 = ⟨"DependencyPairAnalyzer$Term", "isEqual", "(LDependencyPairAnalyzer$Term;)Z"⟩ := rfl
theorem zrr118 : zrt 118 = (Option.some Jvm.ClassFile.FieldType.boolean) := rfl
theorem zq118 : Cond.code (zmn 118) (zcb 118) (zml 118) (zrt 118) ∈ lw_all := by rw [zn118, z118, zm118, zrr118]; exact q1517
theorem zn119 : zmn 119 = ⟨"DependencyPairAnalyzer$SyntaxException", "<init>", "(I)V"⟩ := rfl
theorem zrr119 : zrt 119 = (Option.none : Option Jvm.ClassFile.FieldType) := rfl
theorem zq119 : Cond.code (zmn 119) (zcb 119) (zml 119) (zrt 119) ∈ lw_all := by rw [zn119, z119, zm119, zrr119]; exact q477
theorem zn120 : zmn 120 = ⟨"DependencyPairAnalyzer$Rule", "<init>", "(LDependencyPairAnalyzer$Term;LDependencyPairAnalyzer$Term;)V"⟩ := rfl
theorem zrr120 : zrt 120 = (Option.none : Option Jvm.ClassFile.FieldType) := rfl
theorem zq120 : Cond.code (zmn 120) (zcb 120) (zml 120) (zrt 120) ∈ lw_all := by rw [zn120, z120, zm120, zrr120]; exact q512
theorem zn121 : zmn 121 = ⟨"DependencyPairAnalyzer$Pair", "<init>", "(IILDependencyPairAnalyzer$Term;LDependencyPairAnalyzer$Term;)V"⟩ := rfl
theorem zrr121 : zrt 121 = (Option.none : Option Jvm.ClassFile.FieldType) := rfl
theorem zq121 : Cond.code (zmn 121) (zcb 121) (zml 121) (zrt 121) ∈ lw_all := by rw [zn121, z121, zm121, zrr121]; exact q585
theorem zn122 : zmn 122 = ⟨"DependencyPairAnalyzer$Pair", "relation", "(II)I"⟩ := rfl
theorem zrr122 : zrt 122 = (Option.some Jvm.ClassFile.FieldType.int) := rfl
theorem zq122 : Cond.code (zmn 122) (zcb 122) (zml 122) (zrt 122) ∈ lw_all := by rw [zn122, z122, zm122, zrr122]; exact q1043
theorem zn123 : zmn 123 = ⟨"DependencyPairAnalyzer$TermComparator", "compare", "(Ljava/lang/Object;Ljava/lang/Object;)I"⟩ := rfl
theorem zrr123 : zrt 123 = (Option.some Jvm.ClassFile.FieldType.int) := rfl
theorem zq123 : Cond.code (zmn 123) (zcb 123) (zml 123) (zrt 123) ∈ lw_all := by rw [zn123, z123, zm123, zrr123]; exact q901
theorem zn124 : zmn 124 = ⟨"DependencyPairAnalyzer$TermComparator", "compare", "(LDependencyPairAnalyzer$Term;LDependencyPairAnalyzer$Term;)I"⟩ := rfl
theorem zrr124 : zrt 124 = (Option.some Jvm.ClassFile.FieldType.int) := rfl
theorem zq124 : Cond.code (zmn 124) (zcb 124) (zml 124) (zrt 124) ∈ lw_all := by rw [zn124, z124, zm124, zrr124]; exact q906
theorem zn125 : zmn 125 = ⟨"DependencyPairAnalyzer$TermComparator", "<init>", "()V"⟩ := rfl
theorem zrr125 : zrt 125 = (Option.none : Option Jvm.ClassFile.FieldType) := rfl
theorem zq125 : Cond.code (zmn 125) (zcb 125) (zml 125) (zrt 125) ∈ lw_all := by rw [zn125, z125, zm125, zrr125]; exact q1537
theorem zn126 : zmn 126 = ⟨"DependencyPairAnalyzerModel", "<init>", "()V"⟩ := rfl
theorem zrr126 : zrt 126 = (Option.none : Option Jvm.ClassFile.FieldType) := rfl
theorem zq126 : Cond.code (zmn 126) (zcb 126) (zml 126) (zrt 126) ∈ lw_all := by rw [zn126, z126, zm126, zrr126]; exact q1679
theorem zn127 : zmn 127 = ⟨"DependencyPairAnalyzerModel", "setToZ", "(I)V"⟩ := rfl
theorem zrr127 : zrt 127 = (Option.none : Option Jvm.ClassFile.FieldType) := rfl
theorem zq127 : Cond.code (zmn 127) (zcb 127) (zml 127) (zrt 127) ∈ lw_all := by rw [zn127, z127, zm127, zrr127]; exact q1686
theorem zn128 : zmn 128 = ⟨"DependencyPairAnalyzerModel", "setArity", "(II)I"⟩ := rfl
theorem zrr128 : zrt 128 = (Option.some Jvm.ClassFile.FieldType.int) := rfl
theorem zq128 : Cond.code (zmn 128) (zcb 128) (zml 128) (zrt 128) ∈ lw_all := by rw [zn128, z128, zm128, zrr128]; exact q1815
theorem zn129 : zmn 129 = ⟨"DependencyPairAnalyzerModel", "isIn", "(III)Z"⟩ := rfl
theorem zrr129 : zrt 129 = (Option.some Jvm.ClassFile.FieldType.boolean) := rfl
theorem zq129 : Cond.code (zmn 129) (zcb 129) (zml 129) (zrt 129) ∈ lw_all := by rw [zn129, z129, zm129, zrr129]; exact q1818
theorem zn130 : zmn 130 = ⟨"DependencyPairAnalyzerModel", "arity", "(I)I"⟩ := rfl
theorem zrr130 : zrt 130 = (Option.some Jvm.ClassFile.FieldType.int) := rfl
theorem zq130 : Cond.code (zmn 130) (zcb 130) (zml 130) (zrt 130) ∈ lw_all := by rw [zn130, z130, zm130, zrr130]; exact q1822
theorem zn131 : zmn 131 = ⟨"DependencyPairAnalyzerModel", "addRule", "()I"⟩ := rfl
theorem zrr131 : zrt 131 = (Option.some Jvm.ClassFile.FieldType.int) := rfl
theorem zq131 : Cond.code (zmn 131) (zcb 131) (zml 131) (zrt 131) ∈ lw_all := by rw [zn131, z131, zm131, zrr131]; exact q1826
theorem zn132 : zmn 132 = ⟨"DependencyPairAnalyzerModel", "parsesTerm", "()Z"⟩ := rfl
theorem zrr132 : zrt 132 = (Option.some Jvm.ClassFile.FieldType.boolean) := rfl
theorem zq132 : Cond.code (zmn 132) (zcb 132) (zml 132) (zrt 132) ∈ lw_all := by rw [zn132, z132, zm132, zrr132]; exact q1830
theorem zn133 : zmn 133 = ⟨"DependencyPairAnalyzerModel", "next", "()I"⟩ := rfl
theorem zrr133 : zrt 133 = (Option.some Jvm.ClassFile.FieldType.int) := rfl
theorem zq133 : Cond.code (zmn 133) (zcb 133) (zml 133) (zrt 133) ∈ lw_all := by rw [zn133, z133, zm133, zrr133]; exact q1834
theorem zn134 : zmn 134 = ⟨"DependencyPairAnalyzerModel", "isFunction", "(I)Z"⟩ := rfl
theorem zrr134 : zrt 134 = (Option.some Jvm.ClassFile.FieldType.boolean) := rfl
theorem zq134 : Cond.code (zmn 134) (zcb 134) (zml 134) (zrt 134) ∈ lw_all := by rw [zn134, z134, zm134, zrr134]; exact q1837
theorem zn135 : zmn 135 = ⟨"DependencyPairAnalyzerModel", "isVariable", "(I)Z"⟩ := rfl
theorem zrr135 : zrt 135 = (Option.some Jvm.ClassFile.FieldType.boolean) := rfl
theorem zq135 : Cond.code (zmn 135) (zcb 135) (zml 135) (zrt 135) ∈ lw_all := by rw [zn135, z135, zm135, zrr135]; exact q1840
theorem zn136 : zmn 136 = ⟨"DependencyPairAnalyzerModel", "arityOf", "(I)I"⟩ := rfl
theorem zrr136 : zrt 136 = (Option.some Jvm.ClassFile.FieldType.int) := rfl
theorem zq136 : Cond.code (zmn 136) (zcb 136) (zml 136) (zrt 136) ∈ lw_all := by rw [zn136, z136, zm136, zrr136]; exact q1844
theorem zn137 : zmn 137 = ⟨"DependencyPairAnalyzerModel", "accepts", "(I)Z"⟩ := rfl
theorem zrr137 : zrt 137 = (Option.some Jvm.ClassFile.FieldType.boolean) := rfl
theorem zq137 : Cond.code (zmn 137) (zcb 137) (zml 137) (zrt 137) ∈ lw_all := by rw [zn137, z137, zm137, zrr137]; exact q1848
theorem zn138 : zmn 138 = ⟨"DependencyPairAnalyzerModel", "copy", "([II[III)V"⟩ := rfl
theorem zrr138 : zrt 138 = (Option.none : Option Jvm.ClassFile.FieldType) := rfl
theorem zq138 : Cond.code (zmn 138) (zcb 138) (zml 138) (zrt 138) ∈ lw_all := by rw [zn138, z138, zm138, zrr138]; exact q1851
theorem zn139 : zmn 139 = ⟨"DependencyPairAnalyzerModel", "isValidRule", "()Z"⟩ := rfl
theorem zrr139 : zrt 139 = (Option.some Jvm.ClassFile.FieldType.boolean) := rfl
theorem zq139 : Cond.code (zmn 139) (zcb 139) (zml 139) (zrt 139) ∈ lw_all := by rw [zn139, z139, zm139, zrr139]; exact q1855
theorem zn140 : zmn 140 = ⟨"DependencyPairAnalyzerModel", "hasSymbol", "([II)Z"⟩ := rfl
theorem zrr140 : zrt 140 = (Option.some Jvm.ClassFile.FieldType.boolean) := rfl
theorem zq140 : Cond.code (zmn 140) (zcb 140) (zml 140) (zrt 140) ∈ lw_all := by rw [zn140, z140, zm140, zrr140]; exact q1858
theorem zn141 : zmn 141 = ⟨"DependencyPairAnalyzerModel", "left", "(I)I"⟩ := rfl
theorem zrr141 : zrt 141 = (Option.some Jvm.ClassFile.FieldType.int) := rfl
theorem zq141 : Cond.code (zmn 141) (zcb 141) (zml 141) (zrt 141) ∈ lw_all := by rw [zn141, z141, zm141, zrr141]; exact q1861
theorem zn142 : zmn 142 = ⟨"DependencyPairAnalyzerModel", "right", "(I)I"⟩ := rfl
theorem zrr142 : zrt 142 = (Option.some Jvm.ClassFile.FieldType.int) := rfl
theorem zq142 : Cond.code (zmn 142) (zcb 142) (zml 142) (zrt 142) ∈ lw_all := by rw [zn142, z142, zm142, zrr142]; exact q1864
theorem zn143 : zmn 143 = ⟨"DependencyPairAnalyzerModel", "removeRule", "(I)I"⟩ := rfl
theorem zrr143 : zrt 143 = (Option.some Jvm.ClassFile.FieldType.int) := rfl
theorem zq143 : Cond.code (zmn 143) (zcb 143) (zml 143) (zrt 143) ∈ lw_all := by rw [zn143, z143, zm143, zrr143]; exact q1868
theorem zn144 : zmn 144 = ⟨"DependencyPairAnalyzerModel", "isRule", "(I)Z"⟩ := rfl
theorem zrr144 : zrt 144 = (Option.some Jvm.ClassFile.FieldType.boolean) := rfl
theorem zq144 : Cond.code (zmn 144) (zcb 144) (zml 144) (zrt 144) ∈ lw_all := by rw [zn144, z144, zm144, zrr144]; exact q1872
theorem zn145 : zmn 145 = ⟨"DependencyPairAnalyzerModel", "ruleCount", "()I"⟩ := rfl
theorem zrr145 : zrt 145 = (Option.some Jvm.ClassFile.FieldType.int) := rfl
theorem zq145 : Cond.code (zmn 145) (zcb 145) (zml 145) (zrt 145) ∈ lw_all := by rw [zn145, z145, zm145, zrr145]; exact q1876
theorem zn146 : zmn 146 = ⟨"DependencyPairAnalyzerModel", "leftSize", "(I)I"⟩ := rfl
theorem zrr146 : zrt 146 = (Option.some Jvm.ClassFile.FieldType.int) := rfl
theorem zq146 : Cond.code (zmn 146) (zcb 146) (zml 146) (zrt 146) ∈ lw_all := by rw [zn146, z146, zm146, zrr146]; exact q1880
theorem zn147 : zmn 147 = ⟨"DependencyPairAnalyzerModel", "rightSize", "(I)I"⟩ := rfl
theorem zrr147 : zrt 147 = (Option.some Jvm.ClassFile.FieldType.int) := rfl
theorem zq147 : Cond.code (zmn 147) (zcb 147) (zml 147) (zrt 147) ∈ lw_all := by rw [zn147, z147, zm147, zrr147]; exact q1884
theorem zn148 : zmn 148 = ⟨"DependencyPairAnalyzerModel", "pairCount", "()I"⟩ := rfl
theorem zrr148 : zrt 148 = (Option.some Jvm.ClassFile.FieldType.int) := rfl
theorem zq148 : Cond.code (zmn 148) (zcb 148) (zml 148) (zrt 148) ∈ lw_all := by rw [zn148, z148, zm148, zrr148]; exact q1888
theorem zn149 : zmn 149 = ⟨"DependencyPairAnalyzerModel", "findPairs", "()I"⟩ := rfl
theorem zrr149 : zrt 149 = (Option.some Jvm.ClassFile.FieldType.int) := rfl
theorem zq149 : Cond.code (zmn 149) (zcb 149) (zml 149) (zrt 149) ∈ lw_all := by rw [zn149, z149, zm149, zrr149]; exact q1892
theorem zn150 : zmn 150 = ⟨"DependencyPairAnalyzerModel", "pairRule", "(I)I"⟩ := rfl
theorem zrr150 : zrt 150 = (Option.some Jvm.ClassFile.FieldType.int) := rfl
theorem zq150 : Cond.code (zmn 150) (zcb 150) (zml 150) (zrt 150) ∈ lw_all := by rw [zn150, z150, zm150, zrr150]; exact q1896
theorem zn151 : zmn 151 = ⟨"DependencyPairAnalyzerModel", "isPair", "(I)Z"⟩ := rfl
theorem zrr151 : zrt 151 = (Option.some Jvm.ClassFile.FieldType.boolean) := rfl
theorem zq151 : Cond.code (zmn 151) (zcb 151) (zml 151) (zrt 151) ∈ lw_all := by rw [zn151, z151, zm151, zrr151]; exact q1900
theorem zn152 : zmn 152 = ⟨"DependencyPairAnalyzerModel", "pairPosition", "(I)I"⟩ := rfl
theorem zrr152 : zrt 152 = (Option.some Jvm.ClassFile.FieldType.int) := rfl
theorem zq152 : Cond.code (zmn 152) (zcb 152) (zml 152) (zrt 152) ∈ lw_all := by rw [zn152, z152, zm152, zrr152]; exact q1904
theorem zn153 : zmn 153 = ⟨"DependencyPairAnalyzerModel", "sourceFunction", "(I)I"⟩ := rfl
theorem zrr153 : zrt 153 = (Option.some Jvm.ClassFile.FieldType.int) := rfl
theorem zq153 : Cond.code (zmn 153) (zcb 153) (zml 153) (zrt 153) ∈ lw_all := by rw [zn153, z153, zm153, zrr153]; exact q1908
theorem zn154 : zmn 154 = ⟨"DependencyPairAnalyzerModel", "sourceOf", "(I)I"⟩ := rfl
theorem zrr154 : zrt 154 = (Option.some Jvm.ClassFile.FieldType.int) := rfl
theorem zq154 : Cond.code (zmn 154) (zcb 154) (zml 154) (zrt 154) ∈ lw_all := by rw [zn154, z154, zm154, zrr154]; exact q1912
theorem zn155 : zmn 155 = ⟨"DependencyPairAnalyzerModel", "source", "(I)I"⟩ := rfl
theorem zrr155 : zrt 155 = (Option.some Jvm.ClassFile.FieldType.int) := rfl
theorem zq155 : Cond.code (zmn 155) (zcb 155) (zml 155) (zrt 155) ∈ lw_all := by rw [zn155, z155, zm155, zrr155]; exact q1916
theorem zn156 : zmn 156 = ⟨"DependencyPairAnalyzerModel", "targetFunction", "(I)I"⟩ := rfl
theorem zrr156 : zrt 156 = (Option.some Jvm.ClassFile.FieldType.int) := rfl
theorem zq156 : Cond.code (zmn 156) (zcb 156) (zml 156) (zrt 156) ∈ lw_all := by rw [zn156, z156, zm156, zrr156]; exact q1920
theorem zn157 : zmn 157 = ⟨"DependencyPairAnalyzerModel", "targetOf", "(I)I"⟩ := rfl
theorem zrr157 : zrt 157 = (Option.some Jvm.ClassFile.FieldType.int) := rfl
theorem zq157 : Cond.code (zmn 157) (zcb 157) (zml 157) (zrt 157) ∈ lw_all := by rw [zn157, z157, zm157, zrr157]; exact q1924
theorem zn158 : zmn 158 = ⟨"DependencyPairAnalyzerModel", "target", "(I)I"⟩ := rfl
theorem zrr158 : zrt 158 = (Option.some Jvm.ClassFile.FieldType.int) := rfl
theorem zq158 : Cond.code (zmn 158) (zcb 158) (zml 158) (zrt 158) ∈ lw_all := by rw [zn158, z158, zm158, zrr158]; exact q1928
theorem zn159 : zmn 159 = ⟨"DependencyPairAnalyzerModel", "hasEdge", "(II)I"⟩ := rfl
theorem zrr159 : zrt 159 = (Option.some Jvm.ClassFile.FieldType.int) := rfl
theorem zq159 : Cond.code (zmn 159) (zcb 159) (zml 159) (zrt 159) ∈ lw_all := by rw [zn159, z159, zm159, zrr159]; exact q1932
theorem zn160 : zmn 160 = ⟨"DependencyPairAnalyzerModel", "isEdge", "(II)Z"⟩ := rfl
theorem zrr160 : zrt 160 = (Option.some Jvm.ClassFile.FieldType.boolean) := rfl
theorem zq160 : Cond.code (zmn 160) (zcb 160) (zml 160) (zrt 160) ∈ lw_all := by rw [zn160, z160, zm160, zrr160]; exact q1936
theorem zn161 : zmn 161 = ⟨"DependencyPairAnalyzerModel", "areArgumentsCompatible", "(II)Z"⟩ := rfl
theorem zrr161 : zrt 161 = (Option.some Jvm.ClassFile.FieldType.boolean) := rfl
theorem zq161 : Cond.code (zmn 161) (zcb 161) (zml 161) (zrt 161) ∈ lw_all := by rw [zn161, z161, zm161, zrr161]; exact q1940
theorem zn162 : zmn 162 = ⟨"DependencyPairAnalyzerModel", "argument", "([III)I"⟩ := rfl
theorem zrr162 : zrt 162 = (Option.some Jvm.ClassFile.FieldType.int) := rfl
theorem zq162 : Cond.code (zmn 162) (zcb 162) (zml 162) (zrt 162) ∈ lw_all := by rw [zn162, z162, zm162, zrr162]; exact q1944
theorem zn163 : zmn 163 = ⟨"DependencyPairAnalyzerModel", "end", "([II)I"⟩ := rfl
theorem zrr163 : zrt 163 = (Option.some Jvm.ClassFile.FieldType.int) := rfl
theorem zq163 : Cond.code (zmn 163) (zcb 163) (zml 163) (zrt 163) ∈ lw_all := by rw [zn163, z163, zm163, zrr163]; exact q1948
theorem zn164 : zmn 164 = ⟨"DependencyPairAnalyzerModel", "isCompatible", "(II)Z"⟩ := rfl
theorem zrr164 : zrt 164 = (Option.some Jvm.ClassFile.FieldType.boolean) := rfl
theorem zq164 : Cond.code (zmn 164) (zcb 164) (zml 164) (zrt 164) ∈ lw_all := by rw [zn164, z164, zm164, zrr164]; exact q1952
theorem zn165 : zmn 165 = ⟨"DependencyPairAnalyzerModel", "edgeCount", "()I"⟩ := rfl
theorem zrr165 : zrt 165 = (Option.some Jvm.ClassFile.FieldType.int) := rfl
theorem zq165 : Cond.code (zmn 165) (zcb 165) (zml 165) (zrt 165) ∈ lw_all := by rw [zn165, z165, zm165, zrr165]; exact q1956
theorem zn166 : zmn 166 = ⟨"DependencyPairAnalyzerModel", "componentCount", "()I"⟩ := rfl
theorem zrr166 : zrt 166 = (Option.some Jvm.ClassFile.FieldType.int) := rfl
theorem zq166 : Cond.code (zmn 166) (zcb 166) (zml 166) (zrt 166) ∈ lw_all := by rw [zn166, z166, zm166, zrr166]; exact q1960
theorem zn167 : zmn 167 = ⟨"DependencyPairAnalyzerModel", "findGraph", "()V"⟩ := rfl
theorem zrr167 : zrt 167 = (Option.none : Option Jvm.ClassFile.FieldType) := rfl
theorem zq167 : Cond.code (zmn 167) (zcb 167) (zml 167) (zrt 167) ∈ lw_all := by rw [zn167, z167, zm167, zrr167]; exact q1964
theorem zn168 : zmn 168 = ⟨"DependencyPairAnalyzerModel", "findComponents", "()V"⟩ := rfl
theorem zrr168 : zrt 168 = (Option.none : Option Jvm.ClassFile.FieldType) := rfl
theorem zq168 : Cond.code (zmn 168) (zcb 168) (zml 168) (zrt 168) ∈ lw_all := by rw [zn168, z168, zm168, zrr168]; exact q1968
theorem zn169 : zmn 169 = ⟨"DependencyPairAnalyzerModel", "hasBit", "([JII)Z"⟩ := rfl
theorem zrr169 : zrt 169 = (Option.some Jvm.ClassFile.FieldType.boolean) := rfl
theorem zq169 : Cond.code (zmn 169) (zcb 169) (zml 169) (zrt 169) ∈ lw_all := by rw [zn169, z169, zm169, zrr169]; exact q1972
theorem zn170 : zmn 170 = ⟨"DependencyPairAnalyzerModel", "componentOf", "(I)I"⟩ := rfl
theorem zrr170 : zrt 170 = (Option.some Jvm.ClassFile.FieldType.int) := rfl
theorem zq170 : Cond.code (zmn 170) (zcb 170) (zml 170) (zrt 170) ∈ lw_all := by rw [zn170, z170, zm170, zrr170]; exact q1976
theorem zn171 : zmn 171 = ⟨"DependencyPairAnalyzerModel", "sizeRelation", "(III)I"⟩ := rfl
theorem zrr171 : zrt 171 = (Option.some Jvm.ClassFile.FieldType.int) := rfl
theorem zq171 : Cond.code (zmn 171) (zcb 171) (zml 171) (zrt 171) ∈ lw_all := by rw [zn171, z171, zm171, zrr171]; exact q1980
theorem zn172 : zmn 172 = ⟨"DependencyPairAnalyzerModel", "relation", "(III)I"⟩ := rfl
theorem zrr172 : zrt 172 = (Option.some Jvm.ClassFile.FieldType.int) := rfl
theorem zq172 : Cond.code (zmn 172) (zcb 172) (zml 172) (zrt 172) ∈ lw_all := by rw [zn172, z172, zm172, zrr172]; exact q1984
theorem zn173 : zmn 173 = ⟨"DependencyPairAnalyzerModel", "areEqual", "([II[III)Z"⟩ := rfl
theorem zrr173 : zrt 173 = (Option.some Jvm.ClassFile.FieldType.boolean) := rfl
theorem zq173 : Cond.code (zmn 173) (zcb 173) (zml 173) (zrt 173) ∈ lw_all := by rw [zn173, z173, zm173, zrr173]; exact q1987
theorem zn174 : zmn 174 = ⟨"DependencyPairAnalyzerModel", "closureSize", "()I"⟩ := rfl
theorem zrr174 : zrt 174 = (Option.some Jvm.ClassFile.FieldType.int) := rfl
theorem zq174 : Cond.code (zmn 174) (zcb 174) (zml 174) (zrt 174) ∈ lw_all := by rw [zn174, z174, zm174, zrr174]; exact q1991
theorem zn175 : zmn 175 = ⟨"DependencyPairAnalyzerModel", "findClosure", "()Z"⟩ := rfl
theorem zrr175 : zrt 175 = (Option.some Jvm.ClassFile.FieldType.boolean) := rfl
theorem zq175 : Cond.code (zmn 175) (zcb 175) (zml 175) (zrt 175) ∈ lw_all := by rw [zn175, z175, zm175, zrr175]; exact q1995
theorem zn176 : zmn 176 = ⟨"DependencyPairAnalyzerModel", "encode", "(I[I)I"⟩ := rfl
theorem zrr176 : zrt 176 = (Option.some Jvm.ClassFile.FieldType.int) := rfl
theorem zq176 : Cond.code (zmn 176) (zcb 176) (zml 176) (zrt 176) ∈ lw_all := by rw [zn176, z176, zm176, zrr176]; exact q1998
theorem zn177 : zmn 177 = ⟨"DependencyPairAnalyzerModel", "addGraph", "(I)V"⟩ := rfl
theorem zrr177 : zrt 177 = (Option.none : Option Jvm.ClassFile.FieldType) := rfl
theorem zq177 : Cond.code (zmn 177) (zcb 177) (zml 177) (zrt 177) ∈ lw_all := by rw [zn177, z177, zm177, zrr177]; exact q2002
theorem zn178 : zmn 178 = ⟨"DependencyPairAnalyzerModel", "compose", "(II)I"⟩ := rfl
theorem zrr178 : zrt 178 = (Option.some Jvm.ClassFile.FieldType.int) := rfl
theorem zq178 : Cond.code (zmn 178) (zcb 178) (zml 178) (zrt 178) ∈ lw_all := by rw [zn178, z178, zm178, zrr178]; exact q2006
theorem zn179 : zmn 179 = ⟨"DependencyPairAnalyzerModel", "functions", "(I)I"⟩ := rfl
theorem zrr179 : zrt 179 = (Option.some Jvm.ClassFile.FieldType.int) := rfl
theorem zq179 : Cond.code (zmn 179) (zcb 179) (zml 179) (zrt 179) ∈ lw_all := by rw [zn179, z179, zm179, zrr179]; exact q2009
theorem zn180 : zmn 180 = ⟨"DependencyPairAnalyzerModel", "decode", "(I[I)V"⟩ := rfl
theorem zrr180 : zrt 180 = (Option.none : Option Jvm.ClassFile.FieldType) := rfl
theorem zq180 : Cond.code (zmn 180) (zcb 180) (zml 180) (zrt 180) ∈ lw_all := by rw [zn180, z180, zm180, zrr180]; exact q2012
theorem zn181 : zmn 181 = ⟨"DependencyPairAnalyzerModel", "idempotentCount", "()I"⟩ := rfl
theorem zrr181 : zrt 181 = (Option.some Jvm.ClassFile.FieldType.int) := rfl
theorem zq181 : Cond.code (zmn 181) (zcb 181) (zml 181) (zrt 181) ∈ lw_all := by rw [zn181, z181, zm181, zrr181]; exact q2017
theorem zn182 : zmn 182 = ⟨"DependencyPairAnalyzerModel", "terminatesBySizeChange", "()I"⟩ := rfl
theorem zrr182 : zrt 182 = (Option.some Jvm.ClassFile.FieldType.int) := rfl
theorem zq182 : Cond.code (zmn 182) (zcb 182) (zml 182) (zrt 182) ∈ lw_all := by rw [zn182, z182, zm182, zrr182]; exact q2021
theorem zn183 : zmn 183 = ⟨"DependencyPairAnalyzerModel", "projection", "(I)I"⟩ := rfl
theorem zrr183 : zrt 183 = (Option.some Jvm.ClassFile.FieldType.int) := rfl
theorem zq183 : Cond.code (zmn 183) (zcb 183) (zml 183) (zrt 183) ∈ lw_all := by rw [zn183, z183, zm183, zrr183]; exact q2025
theorem zn184 : zmn 184 = ⟨"DependencyPairAnalyzerModel", "findProjection", "(I)I"⟩ := rfl
theorem zrr184 : zrt 184 = (Option.some Jvm.ClassFile.FieldType.int) := rfl
theorem zq184 : Cond.code (zmn 184) (zcb 184) (zml 184) (zrt 184) ∈ lw_all := by rw [zn184, z184, zm184, zrr184]; exact q2029
theorem zn185 : zmn 185 = ⟨"DependencyPairAnalyzerModel", "isValid", "(I)Z"⟩ := rfl
theorem zrr185 : zrt 185 = (Option.some Jvm.ClassFile.FieldType.boolean) := rfl
theorem zq185 : Cond.code (zmn 185) (zcb 185) (zml 185) (zrt 185) ∈ lw_all := by rw [zn185, z185, zm185, zrr185]; exact q2033
theorem zn186 : zmn 186 = ⟨"DependencyPairAnalyzerModel", "eliminationRounds", "()I"⟩ := rfl
theorem zrr186 : zrt 186 = (Option.some Jvm.ClassFile.FieldType.int) := rfl
theorem zq186 : Cond.code (zmn 186) (zcb 186) (zml 186) (zrt 186) ∈ lw_all := by rw [zn186, z186, zm186, zrr186]; exact q2037
theorem zn187 : zmn 187 = ⟨"DependencyPairAnalyzerModel", "eliminate", "()I"⟩ := rfl
theorem zrr187 : zrt 187 = (Option.some Jvm.ClassFile.FieldType.int) := rfl
theorem zq187 : Cond.code (zmn 187) (zcb 187) (zml 187) (zrt 187) ∈ lw_all := by rw [zn187, z187, zm187, zrr187]; exact q2041
theorem zn188 : zmn 188 = ⟨"DependencyPairAnalyzerModel", "remainingPairCount", "()I"⟩ := rfl
theorem zrr188 : zrt 188 = (Option.some Jvm.ClassFile.FieldType.int) := rfl
theorem zq188 : Cond.code (zmn 188) (zcb 188) (zml 188) (zrt 188) ∈ lw_all := by rw [zn188, z188, zm188, zrr188]; exact q2045
theorem zn189 : zmn 189 = ⟨"DependencyPairAnalyzerModel", "remainingComponentCount", "()I"⟩ := rfl
theorem zrr189 : zrt 189 = (Option.some Jvm.ClassFile.FieldType.int) := rfl
theorem zq189 : Cond.code (zmn 189) (zcb 189) (zml 189) (zrt 189) ∈ lw_all := by rw [zn189, z189, zm189, zrr189]; exact q2049
theorem zn190 : zmn 190 = ⟨"DependencyPairAnalyzerModel", "terminatesBySubtermCriterion", "()I"⟩ := rfl
theorem zrr190 : zrt 190 = (Option.some Jvm.ClassFile.FieldType.int) := rfl
theorem zq190 : Cond.code (zmn 190) (zcb 190) (zml 190) (zrt 190) ∈ lw_all := by rw [zn190, z190, zm190, zrr190]; exact q2053
theorem zn191 : zmn 191 = ⟨"DependencyPairAnalyzerModel", "parseTerm", "(I)I"⟩ := rfl
theorem zrr191 : zrt 191 = (Option.some Jvm.ClassFile.FieldType.int) := rfl
theorem zq191 : Cond.code (zmn 191) (zcb 191) (zml 191) (zrt 191) ∈ lw_all := by rw [zn191, z191, zm191, zrr191]; exact q2058
theorem zn192 : zmn 192 = ⟨"DependencyPairAnalyzerModel", "isRegister", "(I)Z"⟩ := rfl
theorem zrr192 : zrt 192 = (Option.some Jvm.ClassFile.FieldType.boolean) := rfl
theorem zq192 : Cond.code (zmn 192) (zcb 192) (zml 192) (zrt 192) ∈ lw_all := by rw [zn192, z192, zm192, zrr192]; exact q2061
theorem zn193 : zmn 193 = ⟨"DependencyPairAnalyzerModel", "termSize", "(I)I"⟩ := rfl
theorem zrr193 : zrt 193 = (Option.some Jvm.ClassFile.FieldType.int) := rfl
theorem zq193 : Cond.code (zmn 193) (zcb 193) (zml 193) (zrt 193) ∈ lw_all := by rw [zn193, z193, zm193, zrr193]; exact q2065
theorem zn194 : zmn 194 = ⟨"DependencyPairAnalyzerModel", "formattedLength", "(I)I"⟩ := rfl
theorem zrr194 : zrt 194 = (Option.some Jvm.ClassFile.FieldType.int) := rfl
theorem zq194 : Cond.code (zmn 194) (zcb 194) (zml 194) (zrt 194) ∈ lw_all := by rw [zn194, z194, zm194, zrr194]; exact q2069
theorem zn195 : zmn 195 = ⟨"DependencyPairAnalyzerModel", "format", "(I)I"⟩ := rfl
theorem zrr195 : zrt 195 = (Option.some Jvm.ClassFile.FieldType.int) := rfl
theorem zq195 : Cond.code (zmn 195) (zcb 195) (zml 195) (zrt 195) ∈ lw_all := by rw [zn195, z195, zm195, zrr195]; exact q2073
theorem zn196 : zmn 196 = ⟨"DependencyPairAnalyzerModel", "put", "(I)V"⟩ := rfl
theorem zrr196 : zrt 196 = (Option.none : Option Jvm.ClassFile.FieldType) := rfl
theorem zq196 : Cond.code (zmn 196) (zcb 196) (zml 196) (zrt 196) ∈ lw_all := by rw [zn196, z196, zm196, zrr196]; exact q2077
theorem zn197 : zmn 197 = ⟨"DependencyPairAnalyzerModel", "formattedCharacter", "(II)I"⟩ := rfl
theorem zrr197 : zrt 197 = (Option.some Jvm.ClassFile.FieldType.int) := rfl
theorem zq197 : Cond.code (zmn 197) (zcb 197) (zml 197) (zrt 197) ∈ lw_all := by rw [zn197, z197, zm197, zrr197]; exact q2081
theorem zn198 : zmn 198 = ⟨"DependencyPairAnalyzerModel", "compareTerms", "(II)I"⟩ := rfl
theorem zrr198 : zrt 198 = (Option.some Jvm.ClassFile.FieldType.int) := rfl
theorem zq198 : Cond.code (zmn 198) (zcb 198) (zml 198) (zrt 198) ∈ lw_all := by rw [zn198, z198, zm198, zrr198]; exact q2086
theorem zn199 : zmn 199 = ⟨"DependencyPairAnalyzerModel", "compare", "([II[II)I"⟩ := rfl
theorem zrr199 : zrt 199 = (Option.some Jvm.ClassFile.FieldType.int) := rfl
theorem zq199 : Cond.code (zmn 199) (zcb 199) (zml 199) (zrt 199) ∈ lw_all := by rw [zn199, z199, zm199, zrr199]; exact q2089
theorem zn200 : zmn 200 = ⟨"DependencyPairAnalyzerModel", "copyTerm", "(II)I"⟩ := rfl
theorem zrr200 : zrt 200 = (Option.some Jvm.ClassFile.FieldType.int) := rfl
theorem zq200 : Cond.code (zmn 200) (zcb 200) (zml 200) (zrt 200) ∈ lw_all := by rw [zn200, z200, zm200, zrr200]; exact q2093
theorem zn201 : zmn 201 = ⟨"DependencyPairAnalyzerModel", "loadLeft", "(II)I"⟩ := rfl
theorem zrr201 : zrt 201 = (Option.some Jvm.ClassFile.FieldType.int) := rfl
theorem zq201 : Cond.code (zmn 201) (zcb 201) (zml 201) (zrt 201) ∈ lw_all := by rw [zn201, z201, zm201, zrr201]; exact q2097
theorem zn202 : zmn 202 = ⟨"DependencyPairAnalyzerModel", "load", "(II)I"⟩ := rfl
theorem zrr202 : zrt 202 = (Option.some Jvm.ClassFile.FieldType.int) := rfl
theorem zq202 : Cond.code (zmn 202) (zcb 202) (zml 202) (zrt 202) ∈ lw_all := by rw [zn202, z202, zm202, zrr202]; exact q2101
theorem zn203 : zmn 203 = ⟨"DependencyPairAnalyzerModel", "loadRight", "(II)I"⟩ := rfl
theorem zrr203 : zrt 203 = (Option.some Jvm.ClassFile.FieldType.int) := rfl
theorem zq203 : Cond.code (zmn 203) (zcb 203) (zml 203) (zrt 203) ∈ lw_all := by rw [zn203, z203, zm203, zrr203]; exact q2105
theorem zn204 : zmn 204 = ⟨"DependencyPairAnalyzerModel", "matches", "(III)I"⟩ := rfl
theorem zrr204 : zrt 204 = (Option.some Jvm.ClassFile.FieldType.int) := rfl
theorem zq204 : Cond.code (zmn 204) (zcb 204) (zml 204) (zrt 204) ∈ lw_all := by rw [zn204, z204, zm204, zrr204]; exact q2109
theorem zn205 : zmn 205 = ⟨"DependencyPairAnalyzerModel", "isPosition", "(II)Z"⟩ := rfl
theorem zrr205 : zrt 205 = (Option.some Jvm.ClassFile.FieldType.boolean) := rfl
theorem zq205 : Cond.code (zmn 205) (zcb 205) (zml 205) (zrt 205) ∈ lw_all := by rw [zn205, z205, zm205, zrr205]; exact q2113
theorem zn206 : zmn 206 = ⟨"DependencyPairAnalyzerModel", "isMatch", "(I[II)Z"⟩ := rfl
theorem zrr206 : zrt 206 = (Option.some Jvm.ClassFile.FieldType.boolean) := rfl
theorem zq206 : Cond.code (zmn 206) (zcb 206) (zml 206) (zrt 206) ∈ lw_all := by rw [zn206, z206, zm206, zrr206]; exact q2117
theorem zn207 : zmn 207 = ⟨"DependencyPairAnalyzerModel", "variable", "(I)I"⟩ := rfl
theorem zrr207 : zrt 207 = (Option.some Jvm.ClassFile.FieldType.int) := rfl
theorem zq207 : Cond.code (zmn 207) (zcb 207) (zml 207) (zrt 207) ∈ lw_all := by rw [zn207, z207, zm207, zrr207]; exact q2120
theorem zn208 : zmn 208 = ⟨"DependencyPairAnalyzerModel", "redexCount", "(I)I"⟩ := rfl
theorem zrr208 : zrt 208 = (Option.some Jvm.ClassFile.FieldType.int) := rfl
theorem zq208 : Cond.code (zmn 208) (zcb 208) (zml 208) (zrt 208) ∈ lw_all := by rw [zn208, z208, zm208, zrr208]; exact q2124
theorem zn209 : zmn 209 = ⟨"DependencyPairAnalyzerModel", "redex", "([III)I"⟩ := rfl
theorem zrr209 : zrt 209 = (Option.some Jvm.ClassFile.FieldType.int) := rfl
theorem zq209 : Cond.code (zmn 209) (zcb 209) (zml 209) (zrt 209) ∈ lw_all := by rw [zn209, z209, zm209, zrr209]; exact q2128
theorem zn210 : zmn 210 = ⟨"DependencyPairAnalyzerModel", "matching", "([II)I"⟩ := rfl
theorem zrr210 : zrt 210 = (Option.some Jvm.ClassFile.FieldType.int) := rfl
theorem zq210 : Cond.code (zmn 210) (zcb 210) (zml 210) (zrt 210) ∈ lw_all := by rw [zn210, z210, zm210, zrr210]; exact q2132
theorem zn211 : zmn 211 = ⟨"DependencyPairAnalyzerModel", "redexAt", "(II)I"⟩ := rfl
theorem zrr211 : zrt 211 = (Option.some Jvm.ClassFile.FieldType.int) := rfl
theorem zq211 : Cond.code (zmn 211) (zcb 211) (zml 211) (zrt 211) ∈ lw_all := by rw [zn211, z211, zm211, zrr211]; exact q2136
theorem zn212 : zmn 212 = ⟨"DependencyPairAnalyzerModel", "rewriteAt", "(II)I"⟩ := rfl
theorem zrr212 : zrt 212 = (Option.some Jvm.ClassFile.FieldType.int) := rfl
theorem zq212 : Cond.code (zmn 212) (zcb 212) (zml 212) (zrt 212) ∈ lw_all := by rw [zn212, z212, zm212, zrr212]; exact q2140
theorem zn213 : zmn 213 = ⟨"DependencyPairAnalyzerModel", "rewrite", "([III)I"⟩ := rfl
theorem zrr213 : zrt 213 = (Option.some Jvm.ClassFile.FieldType.int) := rfl
theorem zq213 : Cond.code (zmn 213) (zcb 213) (zml 213) (zrt 213) ∈ lw_all := by rw [zn213, z213, zm213, zrr213]; exact q2144
theorem zn214 : zmn 214 = ⟨"DependencyPairAnalyzerModel", "rewriteOutermost", "(II)I"⟩ := rfl
theorem zrr214 : zrt 214 = (Option.some Jvm.ClassFile.FieldType.int) := rfl
theorem zq214 : Cond.code (zmn 214) (zcb 214) (zml 214) (zrt 214) ∈ lw_all := by rw [zn214, z214, zm214, zrr214]; exact q2148
theorem zn215 : zmn 215 = ⟨"DependencyPairAnalyzerModel", "findLoop", "(II)I"⟩ := rfl
theorem zrr215 : zrt 215 = (Option.some Jvm.ClassFile.FieldType.int) := rfl
theorem zq215 : Cond.code (zmn 215) (zcb 215) (zml 215) (zrt 215) ∈ lw_all := by rw [zn215, z215, zm215, zrr215]; exact q2153
theorem zn216 : zmn 216 = ⟨"DependencyPairAnalyzerModel", "meet", "([II)V"⟩ := rfl
theorem zrr216 : zrt 216 = (Option.none : Option Jvm.ClassFile.FieldType) := rfl
theorem zq216 : Cond.code (zmn 216) (zcb 216) (zml 216) (zrt 216) ∈ lw_all := by rw [zn216, z216, zm216, zrr216]; exact q2157
theorem zn217 : zmn 217 = ⟨"DependencyPairAnalyzerModel", "isMet", "()Z"⟩ := rfl
theorem zrr217 : zrt 217 = (Option.some Jvm.ClassFile.FieldType.boolean) := rfl
theorem zq217 : Cond.code (zmn 217) (zcb 217) (zml 217) (zrt 217) ∈ lw_all := by rw [zn217, z217, zm217, zrr217]; exact q2161
theorem zn218 : zmn 218 = ⟨"DependencyPairAnalyzerModel", "exploredCount", "(II)I"⟩ := rfl
theorem zrr218 : zrt 218 = (Option.some Jvm.ClassFile.FieldType.int) := rfl
theorem zq218 : Cond.code (zmn 218) (zcb 218) (zml 218) (zrt 218) ∈ lw_all := by rw [zn218, z218, zm218, zrr218]; exact q2165
theorem zn219 : zmn 219 = ⟨"DependencyPairAnalyzerModel", "wrongExploration", "(II)I"⟩ := rfl
theorem zrr219 : zrt 219 = (Option.some Jvm.ClassFile.FieldType.int) := rfl
theorem zq219 : Cond.code (zmn 219) (zcb 219) (zml 219) (zrt 219) ∈ lw_all := by rw [zn219, z219, zm219, zrr219]; exact q2169
theorem zn220 : zmn 220 = ⟨"DependencyPairAnalyzerModel", "explore", "(II)V"⟩ := rfl
theorem zrr220 : zrt 220 = (Option.none : Option Jvm.ClassFile.FieldType) := rfl
theorem zq220 : Cond.code (zmn 220) (zcb 220) (zml 220) (zrt 220) ∈ lw_all := by rw [zn220, z220, zm220, zrr220]; exact q2173
theorem zn221 : zmn 221 = ⟨"DependencyPairAnalyzerModel", "lowestUnexpanded", "()I"⟩ := rfl
theorem zrr221 : zrt 221 = (Option.some Jvm.ClassFile.FieldType.int) := rfl
theorem zq221 : Cond.code (zmn 221) (zcb 221) (zml 221) (zrt 221) ∈ lw_all := by rw [zn221, z221, zm221, zrr221]; exact q2177
theorem zn222 : zmn 222 = ⟨"DependencyPairAnalyzerModel", "exploredNormalForms", "(II)I"⟩ := rfl
theorem zrr222 : zrt 222 = (Option.some Jvm.ClassFile.FieldType.int) := rfl
theorem zq222 : Cond.code (zmn 222) (zcb 222) (zml 222) (zrt 222) ∈ lw_all := by rw [zn222, z222, zm222, zrr222]; exact q2181
theorem zn223 : zmn 223 = ⟨"DependencyPairAnalyzerModel", "isNormalForm", "([II)Z"⟩ := rfl
theorem zrr223 : zrt 223 = (Option.some Jvm.ClassFile.FieldType.boolean) := rfl
theorem zq223 : Cond.code (zmn 223) (zcb 223) (zml 223) (zrt 223) ∈ lw_all := by rw [zn223, z223, zm223, zrr223]; exact q2185
theorem zn224 : zmn 224 = ⟨"DependencyPairAnalyzerModel", "lastExploredSize", "(II)I"⟩ := rfl
theorem zrr224 : zrt 224 = (Option.some Jvm.ClassFile.FieldType.int) := rfl
theorem zq224 : Cond.code (zmn 224) (zcb 224) (zml 224) (zrt 224) ∈ lw_all := by rw [zn224, z224, zm224, zrr224]; exact q2189
theorem zn225 : zmn 225 = ⟨"DependencyPairAnalyzerModel", "loadNormalForm", "(III)I"⟩ := rfl
theorem zrr225 : zrt 225 = (Option.some Jvm.ClassFile.FieldType.int) := rfl
theorem zq225 : Cond.code (zmn 225) (zcb 225) (zml 225) (zrt 225) ∈ lw_all := by rw [zn225, z225, zm225, zrr225]; exact q2193
theorem zn226 : zmn 226 = ⟨"DependencyPairAnalyzerModel", "normalFormRegisterCount", "()I"⟩ := rfl
theorem zrr226 : zrt 226 = (Option.some Jvm.ClassFile.FieldType.int) := rfl
theorem zq226 : Cond.code (zmn 226) (zcb 226) (zml 226) (zrt 226) ∈ lw_all := by rw [zn226, z226, zm226, zrr226]; exact q2197
theorem zn227 : zmn 227 = ⟨"DependencyPairAnalyzerModel", "appendCharacter", "(I)I"⟩ := rfl
theorem zrr227 : zrt 227 = (Option.some Jvm.ClassFile.FieldType.int) := rfl
theorem zq227 : Cond.code (zmn 227) (zcb 227) (zml 227) (zrt 227) ∈ lw_all := by rw [zn227, z227, zm227, zrr227]; exact q2201
theorem zn228 : zmn 228 = ⟨"DependencyPairAnalyzerModel", "clearText", "()I"⟩ := rfl
theorem zrr228 : zrt 228 = (Option.some Jvm.ClassFile.FieldType.int) := rfl
theorem zq228 : Cond.code (zmn 228) (zcb 228) (zml 228) (zrt 228) ∈ lw_all := by rw [zn228, z228, zm228, zrr228]; exact q2205
theorem zn229 : zmn 229 = ⟨"DependencyPairAnalyzerModel", "textLength", "()I"⟩ := rfl
theorem zrr229 : zrt 229 = (Option.some Jvm.ClassFile.FieldType.int) := rfl
theorem zq229 : Cond.code (zmn 229) (zcb 229) (zml 229) (zrt 229) ∈ lw_all := by rw [zn229, z229, zm229, zrr229]; exact q2209
theorem zn230 : zmn 230 = ⟨"DependencyPairAnalyzerModel", "saveSnapshot", "()I"⟩ := rfl
theorem zrr230 : zrt 230 = (Option.some Jvm.ClassFile.FieldType.int) := rfl
theorem zq230 : Cond.code (zmn 230) (zcb 230) (zml 230) (zrt 230) ∈ lw_all := by rw [zn230, z230, zm230, zrr230]; exact q2213
theorem zn231 : zmn 231 = ⟨"DependencyPairAnalyzerModel", "restoreSnapshot", "()I"⟩ := rfl
theorem zrr231 : zrt 231 = (Option.some Jvm.ClassFile.FieldType.int) := rfl
theorem zq231 : Cond.code (zmn 231) (zcb 231) (zml 231) (zrt 231) ∈ lw_all := by rw [zn231, z231, zm231, zrr231]; exact q2217
theorem zn232 : zmn 232 = ⟨"java/util/AbstractMap", "<init>", "()V"⟩ := rfl
theorem zrr232 : zrt 232 = (Option.none : Option Jvm.ClassFile.FieldType) := rfl
theorem zq232 : Cond.code (zmn 232) (zcb 232) (zml 232) (zrt 232) ∈ lw_all := by rw [zn232, z232, zm232, zrr232]; exact q165
theorem zn233 : zmn 233 = ⟨"java/util/TreeMap", "<init>", "()V"⟩ := rfl
theorem zrr233 : zrt 233 = (Option.none : Option Jvm.ClassFile.FieldType) := rfl
theorem zq233 : Cond.code (zmn 233) (zcb 233) (zml 233) (zrt 233) ∈ lw_all := by rw [zn233, z233, zm233, zrr233]; exact q162
theorem zn234 : zmn 234 = ⟨"java/util/TreeMap", "clear", "()V"⟩ := rfl
theorem zrr234 : zrt 234 = (Option.none : Option Jvm.ClassFile.FieldType) := rfl
theorem zq234 : Cond.code (zmn 234) (zcb 234) (zml 234) (zrt 234) ∈ lw_all := by rw [zn234, z234, zm234, zrr234]; exact q630
theorem zn235 : zmn 235 = ⟨"java/util/TreeMap", "size", "()I"⟩ := rfl
theorem zrr235 : zrt 235 = (Option.some Jvm.ClassFile.FieldType.int) := rfl
theorem zq235 : Cond.code (zmn 235) (zcb 235) (zml 235) (zrt 235) ∈ lw_all := by rw [zn235, z235, zm235, zrr235]; exact q654
theorem zn236 : zmn 236 = ⟨"java/util/TreeMap", "put", "(Ljava/lang/Object;Ljava/lang/Object;)Ljava/lang/Object;"⟩ := rfl
theorem zrr236 : zrt 236 = (Option.some (Jvm.ClassFile.FieldType.object "java/lang/Object")) := rfl
theorem zq236 : Cond.code (zmn 236) (zcb 236) (zml 236) (zrt 236) ∈ lw_all := by rw [zn236, z236, zm236, zrr236]; exact q658
theorem zn237 : zmn 237 = ⟨"java/util/TreeMap", "put", "(Ljava/lang/Object;Ljava/lang/Object;Z)Ljava/lang/Object;"⟩ := rfl
theorem zrr237 : zrt 237 = (Option.some (Jvm.ClassFile.FieldType.object "java/lang/Object")) := rfl
theorem zq237 : Cond.code (zmn 237) (zcb 237) (zml 237) (zrt 237) ∈ lw_all := by rw [zn237, z237, zm237, zrr237]; exact q662
theorem zn238 : zmn 238 = ⟨"java/util/TreeMap", "addEntryToEmptyMap", "(Ljava/lang/Object;Ljava/lang/Object;)V"⟩ := rfl
theorem zrr238 : zrt 238 = (Option.none : Option Jvm.ClassFile.FieldType) := rfl
theorem zq238 : Cond.code (zmn 238) (zcb 238) (zml 238) (zrt 238) ∈ lw_all := by rw [zn238, z238, zm238, zrr238]; exact q666
theorem zn239 : zmn 239 = ⟨"java/util/TreeMap", "compare", "(Ljava/lang/Object;Ljava/lang/Object;)I"⟩ := rfl
theorem zrr239 : zrt 239 = (Option.some Jvm.ClassFile.FieldType.int) := rfl
theorem zq239 : Cond.code (zmn 239) (zcb 239) (zml 239) (zrt 239) ∈ lw_all := by rw [zn239, z239, zm239, zrr239]; exact q670
theorem zn240 : zmn 240 = ⟨"java/util/TreeMap", "addEntry", "(Ljava/lang/Object;Ljava/lang/Object;Ljava/util/TreeMap$Entry;Z)V"⟩ := rfl
theorem zrr240 : zrt 240 = (Option.none : Option Jvm.ClassFile.FieldType) := rfl
theorem zq240 : Cond.code (zmn 240) (zcb 240) (zml 240) (zrt 240) ∈ lw_all := by rw [zn240, z240, zm240, zrr240]; exact q944
theorem zn241 : zmn 241 = ⟨"java/util/TreeMap", "fixAfterInsertion", "(Ljava/util/TreeMap$Entry;)V"⟩ := rfl
theorem zrr241 : zrt 241 = (Option.none : Option Jvm.ClassFile.FieldType) := rfl
theorem zq241 : Cond.code (zmn 241) (zcb 241) (zml 241) (zrt 241) ∈ lw_all := by rw [zn241, z241, zm241, zrr241]; exact q948
theorem zn242 : zmn 242 = ⟨"java/util/TreeMap", "parentOf", "(Ljava/util/TreeMap$Entry;)Ljava/util/TreeMap$Entry;"⟩ := rfl
theorem zrr242 : zrt 242 = (Option.some (Jvm.ClassFile.FieldType.object "java/util/TreeMap$Entry")) := rfl
theorem zq242 : Cond.code (zmn 242) (zcb 242) (zml 242) (zrt 242) ∈ lw_all := by rw [zn242, z242, zm242, zrr242]; exact q951
theorem zn243 : zmn 243 = ⟨"java/util/TreeMap", "leftOf", "(Ljava/util/TreeMap$Entry;)Ljava/util/TreeMap$Entry;"⟩ := rfl
theorem zrr243 : zrt 243 = (Option.some (Jvm.ClassFile.FieldType.object "java/util/TreeMap$Entry")) := rfl
theorem zq243 : Cond.code (zmn 243) (zcb 243) (zml 243) (zrt 243) ∈ lw_all := by rw [zn243, z243, zm243, zrr243]; exact q954
theorem zn244 : zmn 244 = ⟨"java/util/TreeMap", "rightOf", "(Ljava/util/TreeMap$Entry;)Ljava/util/TreeMap$Entry;"⟩ := rfl
theorem zrr244 : zrt 244 = (Option.some (Jvm.ClassFile.FieldType.object "java/util/TreeMap$Entry")) := rfl
theorem zq244 : Cond.code (zmn 244) (zcb 244) (zml 244) (zrt 244) ∈ lw_all := by rw [zn244, z244, zm244, zrr244]; exact q957
theorem zn245 : zmn 245 = ⟨"java/util/TreeMap", "colorOf", "(Ljava/util/TreeMap$Entry;)Z"⟩ := rfl
theorem zrr245 : zrt 245 = (Option.some Jvm.ClassFile.FieldType.boolean) := rfl
theorem zq245 : Cond.code (zmn 245) (zcb 245) (zml 245) (zrt 245) ∈ lw_all := by rw [zn245, z245, zm245, zrr245]; exact q960
theorem zn246 : zmn 246 = ⟨"java/util/TreeMap", "setColor", "(Ljava/util/TreeMap$Entry;Z)V"⟩ := rfl
theorem zrr246 : zrt 246 = (Option.none : Option Jvm.ClassFile.FieldType) := rfl
theorem zq246 : Cond.code (zmn 246) (zcb 246) (zml 246) (zrt 246) ∈ lw_all := by rw [zn246, z246, zm246, zrr246]; exact q963
theorem zn247 : zmn 247 = ⟨"java/util/TreeMap", "rotateLeft", "(Ljava/util/TreeMap$Entry;)V"⟩ := rfl
theorem zrr247 : zrt 247 = (Option.none : Option Jvm.ClassFile.FieldType) := rfl
theorem zq247 : Cond.code (zmn 247) (zcb 247) (zml 247) (zrt 247) ∈ lw_all := by rw [zn247, z247, zm247, zrr247]; exact q967
theorem zn248 : zmn 248 = ⟨"java/util/TreeMap", "rotateRight", "(Ljava/util/TreeMap$Entry;)V"⟩ := rfl
theorem zrr248 : zrt 248 = (Option.none : Option Jvm.ClassFile.FieldType) := rfl
theorem zq248 : Cond.code (zmn 248) (zcb 248) (zml 248) (zrt 248) ∈ lw_all := by rw [zn248, z248, zm248, zrr248]; exact q971
theorem zn249 : zmn 249 = ⟨"java/util/TreeMap", "get", "(Ljava/lang/Object;)Ljava/lang/Object;"⟩ := rfl
theorem zrr249 : zrt 249 = (Option.some (Jvm.ClassFile.FieldType.object "java/lang/Object")) := rfl
theorem zq249 : Cond.code (zmn 249) (zcb 249) (zml 249) (zrt 249) ∈ lw_all := by rw [zn249, z249, zm249, zrr249]; exact q975
theorem zn250 : zmn 250 = ⟨"java/util/TreeMap", "getEntry", "(Ljava/lang/Object;)Ljava/util/TreeMap$Entry;"⟩ := rfl
theorem zrr250 : zrt 250 = (Option.some (Jvm.ClassFile.FieldType.object "java/util/TreeMap$Entry")) := rfl
theorem zq250 : Cond.code (zmn 250) (zcb 250) (zml 250) (zrt 250) ∈ lw_all := by rw [zn250, z250, zm250, zrr250]; exact q979
theorem zn251 : zmn 251 = ⟨"java/util/TreeMap", "containsKey", "(Ljava/lang/Object;)Z"⟩ := rfl
theorem zrr251 : zrt 251 = (Option.some Jvm.ClassFile.FieldType.boolean) := rfl
theorem zq251 : Cond.code (zmn 251) (zcb 251) (zml 251) (zrt 251) ∈ lw_all := by rw [zn251, z251, zm251, zrr251]; exact q1076
theorem zn252 : zmn 252 = ⟨"java/util/TreeMap", "navigableKeySet", "()Ljava/util/NavigableSet;"⟩ := rfl
theorem zrr252 : zrt 252 = (Option.some (Jvm.ClassFile.FieldType.object "java/util/NavigableSet")) := rfl
theorem zq252 : Cond.code (zmn 252) (zcb 252) (zml 252) (zrt 252) ∈ lw_all := by rw [zn252, z252, zm252, zrr252]; exact q1134
theorem zn253 : zmn 253 = ⟨"java/util/TreeMap", "keyIterator", "()Ljava/util/Iterator;"⟩ := rfl
theorem zrr253 : zrt 253 = (Option.some (Jvm.ClassFile.FieldType.object "java/util/Iterator")) := rfl
theorem zq253 : Cond.code (zmn 253) (zcb 253) (zml 253) (zrt 253) ∈ lw_all := by rw [zn253, z253, zm253, zrr253]; exact q1159
theorem zn254 : zmn 254 = ⟨"java/util/TreeMap", "getFirstEntry", "()Ljava/util/TreeMap$Entry;"⟩ := rfl
theorem zrr254 : zrt 254 = (Option.some (Jvm.ClassFile.FieldType.object "java/util/TreeMap$Entry")) := rfl
theorem zq254 : Cond.code (zmn 254) (zcb 254) (zml 254) (zrt 254) ∈ lw_all := by rw [zn254, z254, zm254, zrr254]; exact q1165
theorem zn255 : zmn 255 = ⟨"java/util/TreeMap", "successor", "(Ljava/util/TreeMap$Entry;)Ljava/util/TreeMap$Entry;"⟩ := rfl
theorem zrr255 : zrt 255 = (Option.some (Jvm.ClassFile.FieldType.object "java/util/TreeMap$Entry")) := rfl
theorem zq255 : Cond.code (zmn 255) (zcb 255) (zml 255) (zrt 255) ∈ lw_all := by rw [zn255, z255, zm255, zrr255]; exact q1221
theorem zn256 : zmn 256 = ⟨"java/util/AbstractCollection", "<init>", "()V"⟩ := rfl
theorem zrr256 : zrt 256 = (Option.none : Option Jvm.ClassFile.FieldType) := rfl
theorem zq256 : Cond.code (zmn 256) (zcb 256) (zml 256) (zrt 256) ∈ lw_all := by rw [zn256, z256, zm256, zrr256]; exact q208
theorem zn257 : zmn 257 = ⟨"java/util/AbstractCollection", "isEmpty", "()Z"⟩ := rfl
theorem zrr257 : zrt 257 = (Option.some Jvm.ClassFile.FieldType.boolean) := rfl
theorem zq257 : Cond.code (zmn 257) (zcb 257) (zml 257) (zrt 257) ∈ lw_all := by rw [zn257, z257, zm257, zrr257]; exact q1625
theorem zn258 : zmn 258 = ⟨"java/util/AbstractSet", "<init>", "()V"⟩ := rfl
theorem zrr258 : zrt 258 = (Option.none : Option Jvm.ClassFile.FieldType) := rfl
theorem zq258 : Cond.code (zmn 258) (zcb 258) (zml 258) (zrt 258) ∈ lw_all := by rw [zn258, z258, zm258, zrr258]; exact q205
theorem zn259 : zmn 259 = ⟨"java/util/TreeSet", "<init>", "()V"⟩ := rfl
theorem zrr259 : zrt 259 = (Option.none : Option Jvm.ClassFile.FieldType) := rfl
theorem zq259 : Cond.code (zmn 259) (zcb 259) (zml 259) (zrt 259) ∈ lw_all := by rw [zn259, z259, zm259, zrr259]; exact q197
theorem zn260 : zmn 260 = ⟨"java/util/TreeSet", "<init>", "(Ljava/util/NavigableMap;)V"⟩ := rfl
theorem zrr260 : zrt 260 = (Option.none : Option Jvm.ClassFile.FieldType) := rfl
theorem zq260 : Cond.code (zmn 260) (zcb 260) (zml 260) (zrt 260) ∈ lw_all := by rw [zn260, z260, zm260, zrr260]; exact q202
theorem zn261 : zmn 261 = ⟨"java/util/TreeSet", "clear", "()V"⟩ := rfl
theorem zrr261 : zrt 261 = (Option.none : Option Jvm.ClassFile.FieldType) := rfl
theorem zq261 : Cond.code (zmn 261) (zcb 261) (zml 261) (zrt 261) ∈ lw_all := by rw [zn261, z261, zm261, zrr261]; exact q1055
theorem zn262 : zmn 262 = ⟨"java/util/TreeSet", "contains", "(Ljava/lang/Object;)Z"⟩ := rfl
theorem zrr262 : zrt 262 = (Option.some Jvm.ClassFile.FieldType.boolean) := rfl
theorem zq262 : Cond.code (zmn 262) (zcb 262) (zml 262) (zrt 262) ∈ lw_all := by rw [zn262, z262, zm262, zrr262]; exact q1069
theorem zn263 : zmn 263 = ⟨"java/util/TreeSet", "add", "(Ljava/lang/Object;)Z"⟩ := rfl
theorem zrr263 : zrt 263 = (Option.some Jvm.ClassFile.FieldType.boolean) := rfl
theorem zq263 : Cond.code (zmn 263) (zcb 263) (zml 263) (zrt 263) ∈ lw_all := by rw [zn263, z263, zm263, zrr263]; exact q1092
theorem zn264 : zmn 264 = ⟨"java/util/TreeSet", "size", "()I"⟩ := rfl
theorem zrr264 : zrt 264 = (Option.some Jvm.ClassFile.FieldType.int) := rfl
theorem zq264 : Cond.code (zmn 264) (zcb 264) (zml 264) (zrt 264) ∈ lw_all := by rw [zn264, z264, zm264, zrr264]; exact q1112
theorem zn265 : zmn 265 = ⟨"java/util/TreeSet", "iterator", "()Ljava/util/Iterator;"⟩ := rfl
theorem zrr265 : zrt 265 = (Option.some (Jvm.ClassFile.FieldType.object "java/util/Iterator")) := rfl
theorem zq265 : Cond.code (zmn 265) (zcb 265) (zml 265) (zrt 265) ∈ lw_all := by rw [zn265, z265, zm265, zrr265]; exact q1125
theorem zn266 : zmn 266 = ⟨"java/lang/Throwable", "<init>", "()V"⟩ := rfl
theorem zrr266 : zrt 266 = (Option.none : Option Jvm.ClassFile.FieldType) := rfl
theorem zq266 : Cond.code (zmn 266) (zcb 266) (zml 266) (zrt 266) ∈ lw_all := by rw [zn266, z266, zm266, zrr266]; exact q460
theorem zn267 : zmn 267 = ⟨"java/lang/Throwable", "<init>", "(Ljava/lang/String;Ljava/lang/Throwable;ZZ)V"⟩ := rfl
theorem zrr267 : zrt 267 = (Option.none : Option Jvm.ClassFile.FieldType) := rfl
theorem zq267 : Cond.code (zmn 267) (zcb 267) (zml 267) (zrt 267) ∈ lw_all := by rw [zn267, z267, zm267, zrr267]; exact q483
theorem zn268 : zmn 268 = ⟨"java/lang/Exception", "<init>", "(Ljava/lang/String;Ljava/lang/Throwable;ZZ)V"⟩ := rfl
theorem zrr268 : zrt 268 = (Option.none : Option Jvm.ClassFile.FieldType) := rfl
theorem zq268 : Cond.code (zmn 268) (zcb 268) (zml 268) (zrt 268) ∈ lw_all := by rw [zn268, z268, zm268, zrr268]; exact q480
theorem zn269 : zmn 269 = ⟨"java/lang/Integer", "valueOf", "(I)Ljava/lang/Integer;"⟩ := rfl
theorem zrr269 : zrt 269 = (Option.some (Jvm.ClassFile.FieldType.object "java/lang/Integer")) := rfl
theorem zq269 : Cond.code (zmn 269) (zcb 269) (zml 269) (zrt 269) ∈ lw_all := by rw [zn269, z269, zm269, zrr269]; exact q633
theorem zn270 : zmn 270 = ⟨"java/lang/Integer", "compareTo", "(Ljava/lang/Object;)I"⟩ := rfl
theorem zrr270 : zrt 270 = (Option.some Jvm.ClassFile.FieldType.int) := rfl
theorem zq270 : Cond.code (zmn 270) (zcb 270) (zml 270) (zrt 270) ∈ lw_all := by rw [zn270, z270, zm270, zrr270]; exact q703
theorem zn271 : zmn 271 = ⟨"java/lang/Integer", "compareTo", "(Ljava/lang/Integer;)I"⟩ := rfl
theorem zrr271 : zrt 271 = (Option.some Jvm.ClassFile.FieldType.int) := rfl
theorem zq271 : Cond.code (zmn 271) (zcb 271) (zml 271) (zrt 271) ∈ lw_all := by rw [zn271, z271, zm271, zrr271]; exact q707
theorem zn272 : zmn 272 = ⟨"java/lang/Integer", "compare", "(II)I"⟩ := rfl
theorem zrr272 : zrt 272 = (Option.some Jvm.ClassFile.FieldType.int) := rfl
theorem zq272 : Cond.code (zmn 272) (zcb 272) (zml 272) (zrt 272) ∈ lw_all := by rw [zn272, z272, zm272, zrr272]; exact q710
theorem zn273 : zmn 273 = ⟨"java/lang/Integer", "intValue", "()I"⟩ := rfl
theorem zrr273 : zrt 273 = (Option.some Jvm.ClassFile.FieldType.int) := rfl
theorem zq273 : Cond.code (zmn 273) (zcb 273) (zml 273) (zrt 273) ∈ lw_all := by rw [zn273, z273, zm273, zrr273]; exact q988
theorem zn274 : zmn 274 = ⟨"java/lang/String", "checkIndex", "(II)V"⟩ := rfl
theorem zrr274 : zrt 274 = (Option.none : Option Jvm.ClassFile.FieldType) := rfl
theorem zq274 : Cond.code (zmn 274) (zcb 274) (zml 274) (zrt 274) ∈ lw_all := by rw [zn274, z274, zm274, zrr274]; exact q1404
theorem zn275 : zmn 275 = ⟨"java/lang/StringLatin1", "canEncode", "(C)Z"⟩ := rfl
theorem zrr275 : zrt 275 = (Option.some Jvm.ClassFile.FieldType.boolean) := rfl
theorem zq275 : Cond.code (zmn 275) (zcb 275) (zml 275) (zrt 275) ∈ lw_all := by rw [zn275, z275, zm275, zrr275]; exact q1373
theorem zn276 : zmn 276 = ⟨"java/lang/Math", "min", "(II)I"⟩ := rfl
theorem zrr276 : zrt 276 = (Option.some Jvm.ClassFile.FieldType.int) := rfl
theorem zq276 : Cond.code (zmn 276) (zcb 276) (zml 276) (zrt 276) ∈ lw_all := by rw [zn276, z276, zm276, zrr276]; exact q738
theorem zn277 : zmn 277 = ⟨"java/lang/Math", "max", "(II)I"⟩ := rfl
theorem zrr277 : zrt 277 = (Option.some Jvm.ClassFile.FieldType.int) := rfl
theorem zq277 : Cond.code (zmn 277) (zcb 277) (zml 277) (zrt 277) ∈ lw_all := by rw [zn277, z277, zm277, zrr277]; exact q995
theorem zn278 : zmn 278 = ⟨"jdk/internal/util/ArraysSupport", "newLength", "(III)I"⟩ := rfl
theorem zrr278 : zrt 278 = (Option.some Jvm.ClassFile.FieldType.int) := rfl
theorem zq278 : Cond.code (zmn 278) (zcb 278) (zml 278) (zrt 278) ∈ lw_all := by rw [zn278, z278, zm278, zrr278]; exact q1354
theorem zn279 : zmn 279 = ⟨"jdk/internal/util/Preconditions", "checkIndex", "(IILjava/util/function/BiFunction;)I"⟩ := rfl
theorem zrr279 : zrt 279 = (Option.some Jvm.ClassFile.FieldType.int) := rfl
theorem zq279 : Cond.code (zmn 279) (zcb 279) (zml 279) (zrt 279) ∈ lw_all := by rw [zn279, z279, zm279, zrr279]; exact q1407
theorem zn280 : zmn 280 = ⟨"java/util/TreeMap$Entry", "<init>", "(Ljava/lang/Object;Ljava/lang/Object;Ljava/util/TreeMap$Entry;)V"⟩ := rfl
theorem zrr280 : zrt 280 = (Option.none : Option Jvm.ClassFile.FieldType) := rfl
theorem zq280 : Cond.code (zmn 280) (zcb 280) (zml 280) (zrt 280) ∈ lw_all := by rw [zn280, z280, zm280, zrr280]; exact q912
theorem zn281 : zmn 281 = ⟨"java/util/Objects", "requireNonNull", "(Ljava/lang/Object;)Ljava/lang/Object;"⟩ := rfl
theorem zrr281 : zrt 281 = (Option.some (Jvm.ClassFile.FieldType.object "java/lang/Object")) := rfl
theorem zq281 : Cond.code (zmn 281) (zcb 281) (zml 281) (zrt 281) ∈ lw_all := by rw [zn281, z281, zm281, zrr281]; exact q940
theorem zn282 : zmn 282 = ⟨"java/util/TreeMap$KeySet", "<init>", "(Ljava/util/NavigableMap;)V"⟩ := rfl
theorem zrr282 : zrt 282 = (Option.none : Option Jvm.ClassFile.FieldType) := rfl
theorem zq282 : Cond.code (zmn 282) (zcb 282) (zml 282) (zrt 282) ∈ lw_all := by rw [zn282, z282, zm282, zrr282]; exact q1139
theorem zn283 : zmn 283 = ⟨"java/util/TreeMap$KeySet", "iterator", "()Ljava/util/Iterator;"⟩ := rfl
theorem zrr283 : zrt 283 = (Option.some (Jvm.ClassFile.FieldType.object "java/util/Iterator")) := rfl
theorem zq283 : Cond.code (zmn 283) (zcb 283) (zml 283) (zrt 283) ∈ lw_all := by rw [zn283, z283, zm283, zrr283]; exact q1154
theorem zn284 : zmn 284 = ⟨"java/util/TreeMap$PrivateEntryIterator", "<init>", "(Ljava/util/TreeMap;Ljava/util/TreeMap$Entry;)V"⟩ := rfl
theorem zrr284 : zrt 284 = (Option.none : Option Jvm.ClassFile.FieldType) := rfl
theorem zq284 : Cond.code (zmn 284) (zcb 284) (zml 284) (zrt 284) ∈ lw_all := by rw [zn284, z284, zm284, zrr284]; exact q1171
theorem zn285 : zmn 285 = ⟨"java/util/TreeMap$PrivateEntryIterator", "hasNext", "()Z"⟩ := rfl
theorem zrr285 : zrt 285 = (Option.some Jvm.ClassFile.FieldType.boolean) := rfl
theorem zq285 : Cond.code (zmn 285) (zcb 285) (zml 285) (zrt 285) ∈ lw_all := by rw [zn285, z285, zm285, zrr285]; exact q1203
theorem zn286 : zmn 286 = ⟨"java/util/TreeMap$PrivateEntryIterator", "nextEntry", "()Ljava/util/TreeMap$Entry;"⟩ := rfl
theorem zrr286 : zrt 286 = (Option.some (Jvm.ClassFile.FieldType.object "java/util/TreeMap$Entry")) := rfl
theorem zq286 : Cond.code (zmn 286) (zcb 286) (zml 286) (zrt 286) ∈ lw_all := by rw [zn286, z286, zm286, zrr286]; exact q1218
theorem zn287 : zmn 287 = ⟨"java/util/TreeMap$KeyIterator", "<init>", "(Ljava/util/TreeMap;Ljava/util/TreeMap$Entry;)V"⟩ := rfl
theorem zrr287 : zrt 287 = (Option.none : Option Jvm.ClassFile.FieldType) := rfl
theorem zq287 : Cond.code (zmn 287) (zcb 287) (zml 287) (zrt 287) ∈ lw_all := by rw [zn287, z287, zm287, zrr287]; exact q1168
theorem zn288 : zmn 288 = ⟨"java/util/TreeMap$KeyIterator", "next", "()Ljava/lang/Object;"⟩ := rfl
theorem zrr288 : zrt 288 = (Option.some (Jvm.ClassFile.FieldType.object "java/lang/Object")) := rfl
theorem zq288 : Cond.code (zmn 288) (zcb 288) (zml 288) (zrt 288) ∈ lw_all := by rw [zn288, z288, zm288, zrr288]; exact q1212
theorem zn289 : zmn 289 = ⟨"java/lang/AbstractStringBuilder", "isLatin1", "()Z"⟩ := rfl
theorem zrr289 : zrt 289 = (Option.some Jvm.ClassFile.FieldType.boolean) := rfl
theorem zq289 : Cond.code (zmn 289) (zcb 289) (zml 289) (zrt 289) ∈ lw_all := by rw [zn289, z289, zm289, zrr289]; exact q730
theorem zn290 : zmn 290 = ⟨"java/lang/AbstractStringBuilder", "<init>", "(I)V"⟩ := rfl
theorem zrr290 : zrt 290 = (Option.none : Option Jvm.ClassFile.FieldType) := rfl
theorem zq290 : Cond.code (zmn 290) (zcb 290) (zml 290) (zrt 290) ∈ lw_all := by rw [zn290, z290, zm290, zrr290]; exact q1313
theorem zn291 : zmn 291 = ⟨"java/lang/AbstractStringBuilder", "append", "(C)Ljava/lang/AbstractStringBuilder;"⟩ := rfl
theorem zrr291 : zrt 291 = (Option.some (Jvm.ClassFile.FieldType.object "java/lang/AbstractStringBuilder")) := rfl
theorem zq291 : Cond.code (zmn 291) (zcb 291) (zml 291) (zrt 291) ∈ lw_all := by rw [zn291, z291, zm291, zrr291]; exact q1343
theorem zn292 : zmn 292 = ⟨"java/lang/AbstractStringBuilder", "ensureCapacityInternal", "(I)V"⟩ := rfl
theorem zrr292 : zrt 292 = (Option.none : Option Jvm.ClassFile.FieldType) := rfl
theorem zq292 : Cond.code (zmn 292) (zcb 292) (zml 292) (zrt 292) ∈ lw_all := by rw [zn292, z292, zm292, zrr292]; exact q1347
theorem zn293 : zmn 293 = ⟨"java/lang/AbstractStringBuilder", "newCapacity", "(I)I"⟩ := rfl
theorem zrr293 : zrt 293 = (Option.some Jvm.ClassFile.FieldType.int) := rfl
theorem zq293 : Cond.code (zmn 293) (zcb 293) (zml 293) (zrt 293) ∈ lw_all := by rw [zn293, z293, zm293, zrr293]; exact q1351
theorem zn294 : zmn 294 = ⟨"java/lang/AbstractStringBuilder", "length", "()I"⟩ := rfl
theorem zrr294 : zrt 294 = (Option.some Jvm.ClassFile.FieldType.int) := rfl
theorem zq294 : Cond.code (zmn 294) (zcb 294) (zml 294) (zrt 294) ∈ lw_all := by rw [zn294, z294, zm294, zrr294]; exact q1415
theorem zn295 : zmn 295 = ⟨"java/lang/AbstractStringBuilder", "charAt", "(I)C"⟩ := rfl
theorem zrr295 : zrt 295 = (Option.some Jvm.ClassFile.FieldType.char) := rfl
theorem zq295 : Cond.code (zmn 295) (zcb 295) (zml 295) (zrt 295) ∈ lw_all := by rw [zn295, z295, zm295, zrr295]; exact q1426
theorem zn296 : zmn 296 = ⟨"java/lang/StringBuilder", "<init>", "()V"⟩ := rfl
theorem zrr296 : zrt 296 = (Option.none : Option Jvm.ClassFile.FieldType) := rfl
theorem zq296 : Cond.code (zmn 296) (zcb 296) (zml 296) (zrt 296) ∈ lw_all := by rw [zn296, z296, zm296, zrr296]; exact q1310
theorem zn297 : zmn 297 = ⟨"java/lang/StringBuilder", "append", "(C)Ljava/lang/StringBuilder;"⟩ := rfl
theorem zrr297 : zrt 297 = (Option.some (Jvm.ClassFile.FieldType.object "java/lang/StringBuilder")) := rfl
theorem zq297 : Cond.code (zmn 297) (zcb 297) (zml 297) (zrt 297) ∈ lw_all := by rw [zn297, z297, zm297, zrr297]; exact q1340
theorem zn298 : zmn 298 = ⟨"java/lang/StringBuilder", "length", "()I"⟩ := rfl
theorem zrr298 : zrt 298 = (Option.some Jvm.ClassFile.FieldType.int) := rfl
theorem zq298 : Cond.code (zmn 298) (zcb 298) (zml 298) (zrt 298) ∈ lw_all := by rw [zn298, z298, zm298, zrr298]; exact q1412
theorem zn299 : zmn 299 = ⟨"java/lang/StringBuilder", "charAt", "(I)C"⟩ := rfl
theorem zrr299 : zrt 299 = (Option.some Jvm.ClassFile.FieldType.char) := rfl
theorem zq299 : Cond.code (zmn 299) (zcb 299) (zml 299) (zrt 299) ∈ lw_all := by rw [zn299, z299, zm299, zrr299]; exact q1423
theorem zn300 : zmn 300 = ⟨"java/util/Arrays", "copyOf", "([BI)[B"⟩ := rfl
theorem zrr300 : zrt 300 = (Option.some (Jvm.ClassFile.FieldType.array Jvm.ClassFile.FieldType.byte)) := rfl
theorem zq300 : Cond.code (zmn 300) (zcb 300) (zml 300) (zrt 300) ∈ lw_all := by rw [zn300, z300, zm300, zrr300]; exact q1363
theorem zn301 : zmn 301 = ⟨"java/util/Arrays", "copyOf", "([Ljava/lang/Object;I)[Ljava/lang/Object;"⟩ := rfl
theorem zrr301 : zrt 301 = (Option.some (Jvm.ClassFile.FieldType.array (Jvm.ClassFile.FieldType.object "java/lang/Object"))) := rfl
theorem zq301 : Cond.code (zmn 301) (zcb 301) (zml 301) (zrt 301) ∈ lw_all := by rw [zn301, z301, zm301, zrr301]; exact q1577
theorem zn302 : zmn 302 = ⟨"java/util/Arrays", "copyOf", "([Ljava/lang/Object;ILjava/lang/Class;)[Ljava/lang/Object;"⟩ := rfl
theorem zrr302 : zrt 302 = (Option.some (Jvm.ClassFile.FieldType.array (Jvm.ClassFile.FieldType.object "java/lang/Object"))) := rfl
theorem zq302 : Cond.code (zmn 302) (zcb 302) (zml 302) (zrt 302) ∈ lw_all := by rw [zn302, z302, zm302, zrr302]; exact q1602
theorem zn303 : zmn 303 = ⟨"java/util/AbstractQueue", "<init>", "()V"⟩ := rfl
theorem zrr303 : zrt 303 = (Option.none : Option Jvm.ClassFile.FieldType) := rfl
theorem zq303 : Cond.code (zmn 303) (zcb 303) (zml 303) (zrt 303) ∈ lw_all := by rw [zn303, z303, zm303, zrr303]; exact q1545
theorem zn304 : zmn 304 = ⟨"java/util/PriorityQueue", "<init>", "(ILjava/util/Comparator;)V"⟩ := rfl
theorem zrr304 : zrt 304 = (Option.none : Option Jvm.ClassFile.FieldType) := rfl
theorem zq304 : Cond.code (zmn 304) (zcb 304) (zml 304) (zrt 304) ∈ lw_all := by rw [zn304, z304, zm304, zrr304]; exact q1542
theorem zn305 : zmn 305 = ⟨"java/util/PriorityQueue", "add", "(Ljava/lang/Object;)Z"⟩ := rfl
theorem zrr305 : zrt 305 = (Option.some Jvm.ClassFile.FieldType.boolean) := rfl
theorem zq305 : Cond.code (zmn 305) (zcb 305) (zml 305) (zrt 305) ∈ lw_all := by rw [zn305, z305, zm305, zrr305]; exact q1565
theorem zn306 : zmn 306 = ⟨"java/util/PriorityQueue", "offer", "(Ljava/lang/Object;)Z"⟩ := rfl
theorem zrr306 : zrt 306 = (Option.some Jvm.ClassFile.FieldType.boolean) := rfl
theorem zq306 : Cond.code (zmn 306) (zcb 306) (zml 306) (zrt 306) ∈ lw_all := by rw [zn306, z306, zm306, zrr306]; exact q1569
theorem zn307 : zmn 307 = ⟨"java/util/PriorityQueue", "grow", "(I)V"⟩ := rfl
theorem zrr307 : zrt 307 = (Option.none : Option Jvm.ClassFile.FieldType) := rfl
theorem zq307 : Cond.code (zmn 307) (zcb 307) (zml 307) (zrt 307) ∈ lw_all := by rw [zn307, z307, zm307, zrr307]; exact q1573
theorem zn308 : zmn 308 = ⟨"java/util/PriorityQueue", "siftUp", "(ILjava/lang/Object;)V"⟩ := rfl
theorem zrr308 : zrt 308 = (Option.none : Option Jvm.ClassFile.FieldType) := rfl
theorem zq308 : Cond.code (zmn 308) (zcb 308) (zml 308) (zrt 308) ∈ lw_all := by rw [zn308, z308, zm308, zrr308]; exact q1608
theorem zn309 : zmn 309 = ⟨"java/util/PriorityQueue", "siftUpUsingComparator", "(ILjava/lang/Object;[Ljava/lang/Object;Ljava/util/Comparator;)V"⟩ := rfl
theorem zrr309 : zrt 309 = (Option.none : Option Jvm.ClassFile.FieldType) := rfl
theorem zq309 : Cond.code (zmn 309) (zcb 309) (zml 309) (zrt 309) ∈ lw_all := by rw [zn309, z309, zm309, zrr309]; exact q1611
theorem zn310 : zmn 310 = ⟨"java/util/PriorityQueue", "size", "()I"⟩ := rfl
theorem zrr310 : zrt 310 = (Option.some Jvm.ClassFile.FieldType.int) := rfl
theorem zq310 : Cond.code (zmn 310) (zcb 310) (zml 310) (zrt 310) ∈ lw_all := by rw [zn310, z310, zm310, zrr310]; exact q1631
theorem zn311 : zmn 311 = ⟨"java/util/PriorityQueue", "poll", "()Ljava/lang/Object;"⟩ := rfl
theorem zrr311 : zrt 311 = (Option.some (Jvm.ClassFile.FieldType.object "java/lang/Object")) := rfl
theorem zq311 : Cond.code (zmn 311) (zcb 311) (zml 311) (zrt 311) ∈ lw_all := by rw [zn311, z311, zm311, zrr311]; exact q1640
theorem zn312 : zmn 312 = ⟨"java/util/PriorityQueue", "siftDownUsingComparator", "(ILjava/lang/Object;[Ljava/lang/Object;ILjava/util/Comparator;)V"⟩ := rfl
theorem zrr312 : zrt 312 = (Option.none : Option Jvm.ClassFile.FieldType) := rfl
theorem zq312 : Cond.code (zmn 312) (zcb 312) (zml 312) (zrt 312) ∈ lw_all := by rw [zn312, z312, zm312, zrr312]; exact q1646
theorem zc_1_9_1000 : zCI 1 9 1 1 := zk_I rfl zrr1 (by rw [zn1]) (by rw [zn1]; exact q129) (by rw [zn1]; exact q130) (by rw [zn1]; exact q88) zq1 (by rw [zn1]; decide +kernel)
theorem zc_1_12_1000 : zCI 1 12 126 1 := zk_I rfl zrr126 (by rw [zn126]) (by rw [zn126]; exact q1677) (by rw [zn126]; exact q1678) (by rw [zn126]; exact q98) zq126 (by rw [zn126]; decide +kernel)
theorem zc_1_13_1 : zCV 1 13 1 4 3 := zk_V (C := "DependencyPairAnalyzer") rfl rfl (by rw [zn4]; exact q376) (by rw [zn4]; exact q377) (by rw [zn4]; exact q378) q88 zq4 (by rw [zn4]; decide +kernel)
theorem zc_1_17_9 : zCV 1 17 9 128 3 := zk_V (C := "DependencyPairAnalyzerModel") rfl rfl (by rw [zn128]; exact q1812) (by rw [zn128]; exact q1813) (by rw [zn128]; exact q1814) q98 zq128 (by rw [zn128]; decide +kernel)
theorem zc_1_18_1 : zCV 1 18 1 6 2 := zk_V (C := "DependencyPairAnalyzer") rfl rfl (by rw [zn6]; exact q394) (by rw [zn6]; exact q395) (by rw [zn6]; exact q396) q88 zq6 (by rw [zn6]; decide +kernel)
theorem zc_1_22_9 : zCV 1 22 9 130 2 := zk_V (C := "DependencyPairAnalyzerModel") rfl rfl (by rw [zn130]; exact q1819) (by rw [zn130]; exact q1820) (by rw [zn130]; exact q1821) q98 zq130 (by rw [zn130]; decide +kernel)
theorem zc_1_23_1 : zCV 1 23 1 10 1 := zk_VX (C := "DependencyPairAnalyzer") rfl rfl (by rw [zn10]; exact q412) (by rw [zn10]; exact q413) (by rw [zn10]; exact q414) q88 zq10 (by rw [zn10]; decide +kernel)
theorem zc_1_27_9 : zCV 1 27 9 131 1 := zk_V (C := "DependencyPairAnalyzerModel") rfl rfl (by rw [zn131]; exact q1823) (by rw [zn131]; exact q1824) (by rw [zn131]; exact q1825) q98 zq131 (by rw [zn131]; decide +kernel)
theorem zc_1_28_1 : zCV 1 28 1 13 2 := zk_V (C := "DependencyPairAnalyzer") rfl rfl (by rw [zn13]; exact q553) (by rw [zn13]; exact q554) (by rw [zn13]; exact q555) q88 zq13 (by rw [zn13]; decide +kernel)
theorem zc_1_31_9 : zCV 1 31 9 143 2 := zk_V (C := "DependencyPairAnalyzerModel") rfl rfl (by rw [zn143]; exact q1865) (by rw [zn143]; exact q1866) (by rw [zn143]; exact q1867) q98 zq143 (by rw [zn143]; decide +kernel)
theorem zc_1_32_1 : zCV 1 32 1 15 1 := zk_V (C := "DependencyPairAnalyzer") rfl rfl (by rw [zn15]; exact q562) (by rw [zn15]; exact q563) (by rw [zn15]; exact q564) q88 zq15 (by rw [zn15]; decide +kernel)
theorem zc_1_35_9 : zCV 1 35 9 145 1 := zk_V (C := "DependencyPairAnalyzerModel") rfl rfl (by rw [zn145]; exact q1873) (by rw [zn145]; exact q1874) (by rw [zn145]; exact q1875) q98 zq145 (by rw [zn145]; decide +kernel)
theorem zc_1_36_1 : zCV 1 36 1 16 2 := zk_V (C := "DependencyPairAnalyzer") rfl rfl (by rw [zn16]; exact q566) (by rw [zn16]; exact q567) (by rw [zn16]; exact q568) q88 zq16 (by rw [zn16]; decide +kernel)
theorem zc_1_39_9 : zCV 1 39 9 146 2 := zk_V (C := "DependencyPairAnalyzerModel") rfl rfl (by rw [zn146]; exact q1877) (by rw [zn146]; exact q1878) (by rw [zn146]; exact q1879) q98 zq146 (by rw [zn146]; decide +kernel)
theorem zc_1_40_1 : zCV 1 40 1 17 2 := zk_V (C := "DependencyPairAnalyzer") rfl rfl (by rw [zn17]; exact q570) (by rw [zn17]; exact q571) (by rw [zn17]; exact q572) q88 zq17 (by rw [zn17]; decide +kernel)
theorem zc_1_43_9 : zCV 1 43 9 147 2 := zk_V (C := "DependencyPairAnalyzerModel") rfl rfl (by rw [zn147]; exact q1881) (by rw [zn147]; exact q1882) (by rw [zn147]; exact q1883) q98 zq147 (by rw [zn147]; decide +kernel)
theorem zc_1_44_1 : zCV 1 44 1 18 1 := zk_V (C := "DependencyPairAnalyzer") rfl rfl (by rw [zn18]; exact q574) (by rw [zn18]; exact q575) (by rw [zn18]; exact q576) q88 zq18 (by rw [zn18]; decide +kernel)
theorem zc_1_47_9 : zCV 1 47 9 148 1 := zk_V (C := "DependencyPairAnalyzerModel") rfl rfl (by rw [zn148]; exact q1885) (by rw [zn148]; exact q1886) (by rw [zn148]; exact q1887) q98 zq148 (by rw [zn148]; decide +kernel)
theorem zc_1_48_1 : zCV 1 48 1 24 2 := zk_V (C := "DependencyPairAnalyzer") rfl rfl (by rw [zn24]; exact q996) (by rw [zn24]; exact q997) (by rw [zn24]; exact q998) q88 zq24 (by rw [zn24]; decide +kernel)
theorem zc_1_51_9 : zCV 1 51 9 150 2 := zk_V (C := "DependencyPairAnalyzerModel") rfl rfl (by rw [zn150]; exact q1893) (by rw [zn150]; exact q1894) (by rw [zn150]; exact q1895) q98 zq150 (by rw [zn150]; decide +kernel)
theorem zc_1_52_1 : zCV 1 52 1 26 2 := zk_V (C := "DependencyPairAnalyzer") rfl rfl (by rw [zn26]; exact q1004) (by rw [zn26]; exact q1005) (by rw [zn26]; exact q1006) q88 zq26 (by rw [zn26]; decide +kernel)
theorem zc_1_55_9 : zCV 1 55 9 152 2 := zk_V (C := "DependencyPairAnalyzerModel") rfl rfl (by rw [zn152]; exact q1901) (by rw [zn152]; exact q1902) (by rw [zn152]; exact q1903) q98 zq152 (by rw [zn152]; decide +kernel)
theorem zc_1_56_1 : zCV 1 56 1 27 2 := zk_V (C := "DependencyPairAnalyzer") rfl rfl (by rw [zn27]; exact q1008) (by rw [zn27]; exact q1009) (by rw [zn27]; exact q1010) q88 zq27 (by rw [zn27]; decide +kernel)
theorem zc_1_59_9 : zCV 1 59 9 153 2 := zk_V (C := "DependencyPairAnalyzerModel") rfl rfl (by rw [zn153]; exact q1905) (by rw [zn153]; exact q1906) (by rw [zn153]; exact q1907) q98 zq153 (by rw [zn153]; decide +kernel)
theorem zc_1_60_1 : zCV 1 60 1 28 2 := zk_V (C := "DependencyPairAnalyzer") rfl rfl (by rw [zn28]; exact q1013) (by rw [zn28]; exact q1014) (by rw [zn28]; exact q1015) q88 zq28 (by rw [zn28]; decide +kernel)
theorem zc_1_63_9 : zCV 1 63 9 156 2 := zk_V (C := "DependencyPairAnalyzerModel") rfl rfl (by rw [zn156]; exact q1917) (by rw [zn156]; exact q1918) (by rw [zn156]; exact q1919) q98 zq156 (by rw [zn156]; decide +kernel)
theorem zc_1_64_1 : zCV 1 64 1 29 3 := zk_V (C := "DependencyPairAnalyzer") rfl rfl (by rw [zn29]; exact q1017) (by rw [zn29]; exact q1018) (by rw [zn29]; exact q1019) q88 zq29 (by rw [zn29]; decide +kernel)
theorem zc_1_67_9 : zCV 1 67 9 159 3 := zk_V (C := "DependencyPairAnalyzerModel") rfl rfl (by rw [zn159]; exact q1929) (by rw [zn159]; exact q1930) (by rw [zn159]; exact q1931) q98 zq159 (by rw [zn159]; decide +kernel)
theorem zc_1_68_1 : zCV 1 68 1 31 1 := zk_V (C := "DependencyPairAnalyzer") rfl rfl (by rw [zn31]; exact q1024) (by rw [zn31]; exact q1025) (by rw [zn31]; exact q1026) q88 zq31 (by rw [zn31]; decide +kernel)
theorem zc_1_71_9 : zCV 1 71 9 165 1 := zk_V (C := "DependencyPairAnalyzerModel") rfl rfl (by rw [zn165]; exact q1953) (by rw [zn165]; exact q1954) (by rw [zn165]; exact q1955) q98 zq165 (by rw [zn165]; decide +kernel)
theorem zc_1_72_1 : zCV 1 72 1 32 1 := zk_V (C := "DependencyPairAnalyzer") rfl rfl (by rw [zn32]; exact q1028) (by rw [zn32]; exact q1029) (by rw [zn32]; exact q1030) q88 zq32 (by rw [zn32]; decide +kernel)
theorem zc_1_75_9 : zCV 1 75 9 166 1 := zk_V (C := "DependencyPairAnalyzerModel") rfl rfl (by rw [zn166]; exact q1957) (by rw [zn166]; exact q1958) (by rw [zn166]; exact q1959) q98 zq166 (by rw [zn166]; decide +kernel)
theorem zc_1_76_1 : zCV 1 76 1 33 2 := zk_V (C := "DependencyPairAnalyzer") rfl rfl (by rw [zn33]; exact q1032) (by rw [zn33]; exact q1033) (by rw [zn33]; exact q1034) q88 zq33 (by rw [zn33]; decide +kernel)
theorem zc_1_79_9 : zCV 1 79 9 170 2 := zk_V (C := "DependencyPairAnalyzerModel") rfl rfl (by rw [zn170]; exact q1973) (by rw [zn170]; exact q1974) (by rw [zn170]; exact q1975) q98 zq170 (by rw [zn170]; decide +kernel)
theorem zc_1_80_1 : zCV 1 80 1 34 4 := zk_V (C := "DependencyPairAnalyzer") rfl rfl (by rw [zn34]; exact q1036) (by rw [zn34]; exact q1037) (by rw [zn34]; exact q1038) q88 zq34 (by rw [zn34]; decide +kernel)
theorem zc_1_84_9 : zCV 1 84 9 171 4 := zk_V (C := "DependencyPairAnalyzerModel") rfl rfl (by rw [zn171]; exact q1977) (by rw [zn171]; exact q1978) (by rw [zn171]; exact q1979) q98 zq171 (by rw [zn171]; decide +kernel)
theorem zc_1_85_1 : zCV 1 85 1 35 1 := zk_V (C := "DependencyPairAnalyzer") rfl rfl (by rw [zn35]; exact q1044) (by rw [zn35]; exact q1045) (by rw [zn35]; exact q1046) q88 zq35 (by rw [zn35]; decide +kernel)
theorem zc_1_88_9 : zCV 1 88 9 174 1 := zk_V (C := "DependencyPairAnalyzerModel") rfl rfl (by rw [zn174]; exact q1988) (by rw [zn174]; exact q1989) (by rw [zn174]; exact q1990) q98 zq174 (by rw [zn174]; decide +kernel)
theorem zc_1_89_1 : zCV 1 89 1 39 1 := zk_V (C := "DependencyPairAnalyzer") rfl rfl (by rw [zn39]; exact q1118) (by rw [zn39]; exact q1119) (by rw [zn39]; exact q1120) q88 zq39 (by rw [zn39]; decide +kernel)
theorem zc_1_92_9 : zCV 1 92 9 181 1 := zk_V (C := "DependencyPairAnalyzerModel") rfl rfl (by rw [zn181]; exact q2014) (by rw [zn181]; exact q2015) (by rw [zn181]; exact q2016) q98 zq181 (by rw [zn181]; decide +kernel)
theorem zc_1_93_1 : zCV 1 93 1 41 1 := zk_V (C := "DependencyPairAnalyzer") rfl rfl (by rw [zn41]; exact q1227) (by rw [zn41]; exact q1228) (by rw [zn41]; exact q1229) q88 zq41 (by rw [zn41]; decide +kernel)
theorem zc_1_96_9 : zCV 1 96 9 182 1 := zk_V (C := "DependencyPairAnalyzerModel") rfl rfl (by rw [zn182]; exact q2018) (by rw [zn182]; exact q2019) (by rw [zn182]; exact q2020) q98 zq182 (by rw [zn182]; decide +kernel)
theorem zc_1_97_1 : zCV 1 97 1 42 2 := zk_V (C := "DependencyPairAnalyzer") rfl rfl (by rw [zn42]; exact q1235) (by rw [zn42]; exact q1236) (by rw [zn42]; exact q1237) q88 zq42 (by rw [zn42]; decide +kernel)
theorem zc_1_100_9 : zCV 1 100 9 183 2 := zk_V (C := "DependencyPairAnalyzerModel") rfl rfl (by rw [zn183]; exact q2022) (by rw [zn183]; exact q2023) (by rw [zn183]; exact q2024) q98 zq183 (by rw [zn183]; decide +kernel)
theorem zc_1_101_1 : zCV 1 101 1 47 1 := zk_V (C := "DependencyPairAnalyzer") rfl rfl (by rw [zn47]; exact q1255) (by rw [zn47]; exact q1256) (by rw [zn47]; exact q1257) q88 zq47 (by rw [zn47]; decide +kernel)
theorem zc_1_104_9 : zCV 1 104 9 186 1 := zk_V (C := "DependencyPairAnalyzerModel") rfl rfl (by rw [zn186]; exact q2034) (by rw [zn186]; exact q2035) (by rw [zn186]; exact q2036) q98 zq186 (by rw [zn186]; decide +kernel)
theorem zc_1_105_1 : zCV 1 105 1 50 1 := zk_V (C := "DependencyPairAnalyzer") rfl rfl (by rw [zn50]; exact q1267) (by rw [zn50]; exact q1268) (by rw [zn50]; exact q1269) q88 zq50 (by rw [zn50]; decide +kernel)
theorem zc_1_108_9 : zCV 1 108 9 188 1 := zk_V (C := "DependencyPairAnalyzerModel") rfl rfl (by rw [zn188]; exact q2042) (by rw [zn188]; exact q2043) (by rw [zn188]; exact q2044) q98 zq188 (by rw [zn188]; decide +kernel)
theorem zc_1_109_1 : zCV 1 109 1 51 1 := zk_V (C := "DependencyPairAnalyzer") rfl rfl (by rw [zn51]; exact q1271) (by rw [zn51]; exact q1272) (by rw [zn51]; exact q1273) q88 zq51 (by rw [zn51]; decide +kernel)
theorem zc_1_112_9 : zCV 1 112 9 189 1 := zk_V (C := "DependencyPairAnalyzerModel") rfl rfl (by rw [zn189]; exact q2046) (by rw [zn189]; exact q2047) (by rw [zn189]; exact q2048) q98 zq189 (by rw [zn189]; decide +kernel)
theorem zc_1_113_1 : zCV 1 113 1 52 1 := zk_V (C := "DependencyPairAnalyzer") rfl rfl (by rw [zn52]; exact q1275) (by rw [zn52]; exact q1276) (by rw [zn52]; exact q1277) q88 zq52 (by rw [zn52]; decide +kernel)
theorem zc_1_116_9 : zCV 1 116 9 190 1 := zk_V (C := "DependencyPairAnalyzerModel") rfl rfl (by rw [zn190]; exact q2050) (by rw [zn190]; exact q2051) (by rw [zn190]; exact q2052) q98 zq190 (by rw [zn190]; decide +kernel)
theorem zc_1_117_1 : zCV 1 117 1 53 2 := zk_VX (C := "DependencyPairAnalyzer") rfl rfl (by rw [zn53]; exact q1280) (by rw [zn53]; exact q1281) (by rw [zn53]; exact q1282) q88 zq53 (by rw [zn53]; decide +kernel)
theorem zc_1_120_9 : zCV 1 120 9 191 2 := zk_V (C := "DependencyPairAnalyzerModel") rfl rfl (by rw [zn191]; exact q2055) (by rw [zn191]; exact q2056) (by rw [zn191]; exact q2057) q98 zq191 (by rw [zn191]; decide +kernel)
theorem zc_1_121_1 : zCV 1 121 1 56 2 := zk_V (C := "DependencyPairAnalyzer") rfl rfl (by rw [zn56]; exact q1295) (by rw [zn56]; exact q1296) (by rw [zn56]; exact q1297) q88 zq56 (by rw [zn56]; decide +kernel)
theorem zc_1_124_9 : zCV 1 124 9 193 2 := zk_V (C := "DependencyPairAnalyzerModel") rfl rfl (by rw [zn193]; exact q2062) (by rw [zn193]; exact q2063) (by rw [zn193]; exact q2064) q98 zq193 (by rw [zn193]; decide +kernel)
theorem zc_1_125_1 : zCV 1 125 1 57 2 := zk_V (C := "DependencyPairAnalyzer") rfl rfl (by rw [zn57]; exact q1299) (by rw [zn57]; exact q1300) (by rw [zn57]; exact q1301) q88 zq57 (by rw [zn57]; decide +kernel)
theorem zc_1_128_9 : zCV 1 128 9 194 2 := zk_V (C := "DependencyPairAnalyzerModel") rfl rfl (by rw [zn194]; exact q2066) (by rw [zn194]; exact q2067) (by rw [zn194]; exact q2068) q98 zq194 (by rw [zn194]; decide +kernel)
theorem zc_1_129_1 : zCV 1 129 1 59 3 := zk_V (C := "DependencyPairAnalyzer") rfl rfl (by rw [zn59]; exact q1416) (by rw [zn59]; exact q1417) (by rw [zn59]; exact q1418) q88 zq59 (by rw [zn59]; decide +kernel)
theorem zc_1_132_9 : zCV 1 132 9 197 3 := zk_V (C := "DependencyPairAnalyzerModel") rfl rfl (by rw [zn197]; exact q2078) (by rw [zn197]; exact q2079) (by rw [zn197]; exact q2080) q98 zq197 (by rw [zn197]; decide +kernel)
theorem zc_1_133_1 : zCV 1 133 1 60 3 := zk_V (C := "DependencyPairAnalyzer") rfl rfl (by rw [zn60]; exact q1430) (by rw [zn60]; exact q1431) (by rw [zn60]; exact q1432) q88 zq60 (by rw [zn60]; decide +kernel)
theorem zc_1_136_9 : zCV 1 136 9 198 3 := zk_V (C := "DependencyPairAnalyzerModel") rfl rfl (by rw [zn198]; exact q2083) (by rw [zn198]; exact q2084) (by rw [zn198]; exact q2085) q98 zq198 (by rw [zn198]; decide +kernel)
theorem zc_1_137_1 : zCV 1 137 1 61 3 := zk_V (C := "DependencyPairAnalyzer") rfl rfl (by rw [zn61]; exact q1435) (by rw [zn61]; exact q1436) (by rw [zn61]; exact q1437) q88 zq61 (by rw [zn61]; decide +kernel)
theorem zc_1_140_9 : zCV 1 140 9 200 3 := zk_V (C := "DependencyPairAnalyzerModel") rfl rfl (by rw [zn200]; exact q2090) (by rw [zn200]; exact q2091) (by rw [zn200]; exact q2092) q98 zq200 (by rw [zn200]; decide +kernel)
theorem zc_1_141_1 : zCV 1 141 1 62 3 := zk_V (C := "DependencyPairAnalyzer") rfl rfl (by rw [zn62]; exact q1439) (by rw [zn62]; exact q1440) (by rw [zn62]; exact q1441) q88 zq62 (by rw [zn62]; decide +kernel)
theorem zc_1_144_9 : zCV 1 144 9 201 3 := zk_V (C := "DependencyPairAnalyzerModel") rfl rfl (by rw [zn201]; exact q2094) (by rw [zn201]; exact q2095) (by rw [zn201]; exact q2096) q98 zq201 (by rw [zn201]; decide +kernel)
theorem zc_1_145_1 : zCV 1 145 1 63 3 := zk_V (C := "DependencyPairAnalyzer") rfl rfl (by rw [zn63]; exact q1443) (by rw [zn63]; exact q1444) (by rw [zn63]; exact q1445) q88 zq63 (by rw [zn63]; decide +kernel)
theorem zc_1_148_9 : zCV 1 148 9 203 3 := zk_V (C := "DependencyPairAnalyzerModel") rfl rfl (by rw [zn203]; exact q2102) (by rw [zn203]; exact q2103) (by rw [zn203]; exact q2104) q98 zq203 (by rw [zn203]; decide +kernel)
theorem zc_1_149_1 : zCV 1 149 1 64 4 := zk_V (C := "DependencyPairAnalyzer") rfl rfl (by rw [zn64]; exact q1447) (by rw [zn64]; exact q1448) (by rw [zn64]; exact q1449) q88 zq64 (by rw [zn64]; decide +kernel)
theorem zc_1_152_9 : zCV 1 152 9 204 4 := zk_V (C := "DependencyPairAnalyzerModel") rfl rfl (by rw [zn204]; exact q2106) (by rw [zn204]; exact q2107) (by rw [zn204]; exact q2108) q98 zq204 (by rw [zn204]; decide +kernel)
theorem zc_1_153_1 : zCV 1 153 1 67 2 := zk_V (C := "DependencyPairAnalyzer") rfl rfl (by rw [zn67]; exact q1460) (by rw [zn67]; exact q1461) (by rw [zn67]; exact q1462) q88 zq67 (by rw [zn67]; decide +kernel)
theorem zc_1_156_9 : zCV 1 156 9 208 2 := zk_V (C := "DependencyPairAnalyzerModel") rfl rfl (by rw [zn208]; exact q2121) (by rw [zn208]; exact q2122) (by rw [zn208]; exact q2123) q98 zq208 (by rw [zn208]; decide +kernel)
theorem zc_1_157_1 : zCV 1 157 1 70 3 := zk_V (C := "DependencyPairAnalyzer") rfl rfl (by rw [zn70]; exact q1472) (by rw [zn70]; exact q1473) (by rw [zn70]; exact q1474) q88 zq70 (by rw [zn70]; decide +kernel)
theorem zc_1_160_9 : zCV 1 160 9 211 3 := zk_V (C := "DependencyPairAnalyzerModel") rfl rfl (by rw [zn211]; exact q2133) (by rw [zn211]; exact q2134) (by rw [zn211]; exact q2135) q98 zq211 (by rw [zn211]; decide +kernel)
theorem zc_1_161_1 : zCV 1 161 1 71 3 := zk_V (C := "DependencyPairAnalyzer") rfl rfl (by rw [zn71]; exact q1476) (by rw [zn71]; exact q1477) (by rw [zn71]; exact q1478) q88 zq71 (by rw [zn71]; decide +kernel)
theorem zc_1_164_9 : zCV 1 164 9 212 3 := zk_V (C := "DependencyPairAnalyzerModel") rfl rfl (by rw [zn212]; exact q2137) (by rw [zn212]; exact q2138) (by rw [zn212]; exact q2139) q98 zq212 (by rw [zn212]; decide +kernel)
theorem zc_1_165_1 : zCV 1 165 1 75 3 := zk_V (C := "DependencyPairAnalyzer") rfl rfl (by rw [zn75]; exact q1493) (by rw [zn75]; exact q1494) (by rw [zn75]; exact q1495) q88 zq75 (by rw [zn75]; decide +kernel)
theorem zc_1_168_9 : zCV 1 168 9 214 3 := zk_V (C := "DependencyPairAnalyzerModel") rfl rfl (by rw [zn214]; exact q2145) (by rw [zn214]; exact q2146) (by rw [zn214]; exact q2147) q98 zq214 (by rw [zn214]; decide +kernel)
theorem zc_1_169_1 : zCV 1 169 1 78 3 := zk_V (C := "DependencyPairAnalyzer") rfl rfl (by rw [zn78]; exact q1506) (by rw [zn78]; exact q1507) (by rw [zn78]; exact q1508) q88 zq78 (by rw [zn78]; decide +kernel)
theorem zc_1_172_9 : zCV 1 172 9 215 3 := zk_V (C := "DependencyPairAnalyzerModel") rfl rfl (by rw [zn215]; exact q2150) (by rw [zn215]; exact q2151) (by rw [zn215]; exact q2152) q98 zq215 (by rw [zn215]; decide +kernel)
theorem zc_1_173_1 : zCV 1 173 1 80 3 := zk_V (C := "DependencyPairAnalyzer") rfl rfl (by rw [zn80]; exact q1518) (by rw [zn80]; exact q1519) (by rw [zn80]; exact q1520) q88 zq80 (by rw [zn80]; decide +kernel)
theorem zc_1_176_9 : zCV 1 176 9 218 3 := zk_V (C := "DependencyPairAnalyzerModel") rfl rfl (by rw [zn218]; exact q2162) (by rw [zn218]; exact q2163) (by rw [zn218]; exact q2164) q98 zq218 (by rw [zn218]; decide +kernel)
theorem zc_1_177_1 : zCV 1 177 1 83 3 := zk_V (C := "DependencyPairAnalyzer") rfl rfl (by rw [zn83]; exact q1647) (by rw [zn83]; exact q1648) (by rw [zn83]; exact q1649) q88 zq83 (by rw [zn83]; decide +kernel)
theorem zc_1_180_9 : zCV 1 180 9 222 3 := zk_V (C := "DependencyPairAnalyzerModel") rfl rfl (by rw [zn222]; exact q2178) (by rw [zn222]; exact q2179) (by rw [zn222]; exact q2180) q98 zq222 (by rw [zn222]; decide +kernel)
theorem zc_1_181_1 : zCV 1 181 1 85 3 := zk_V (C := "DependencyPairAnalyzer") rfl rfl (by rw [zn85]; exact q1655) (by rw [zn85]; exact q1656) (by rw [zn85]; exact q1657) q88 zq85 (by rw [zn85]; decide +kernel)
theorem zc_1_184_9 : zCV 1 184 9 224 3 := zk_V (C := "DependencyPairAnalyzerModel") rfl rfl (by rw [zn224]; exact q2186) (by rw [zn224]; exact q2187) (by rw [zn224]; exact q2188) q98 zq224 (by rw [zn224]; decide +kernel)
theorem zc_1_185_1 : zCV 1 185 1 86 4 := zk_V (C := "DependencyPairAnalyzer") rfl rfl (by rw [zn86]; exact q1659) (by rw [zn86]; exact q1660) (by rw [zn86]; exact q1661) q88 zq86 (by rw [zn86]; decide +kernel)
theorem zc_1_188_9 : zCV 1 188 9 225 4 := zk_V (C := "DependencyPairAnalyzerModel") rfl rfl (by rw [zn225]; exact q2190) (by rw [zn225]; exact q2191) (by rw [zn225]; exact q2192) q98 zq225 (by rw [zn225]; decide +kernel)
theorem zc_1_189_1 : zCV 1 189 1 87 1 := zk_V (C := "DependencyPairAnalyzer") rfl rfl (by rw [zn87]; exact q1663) (by rw [zn87]; exact q1664) (by rw [zn87]; exact q1665) q88 zq87 (by rw [zn87]; decide +kernel)
theorem zc_1_192_9 : zCV 1 192 9 226 1 := zk_V (C := "DependencyPairAnalyzerModel") rfl rfl (by rw [zn226]; exact q2194) (by rw [zn226]; exact q2195) (by rw [zn226]; exact q2196) q98 zq226 (by rw [zn226]; decide +kernel)
theorem zc_1_193_1 : zCV 1 193 1 7 2 := zk_V (C := "DependencyPairAnalyzer") rfl rfl (by rw [zn7]; exact q398) (by rw [zn7]; exact q399) (by rw [zn7]; exact q400) q88 zq7 (by rw [zn7]; decide +kernel)
theorem zc_1_196_9 : zCV 1 196 9 227 2 := zk_V (C := "DependencyPairAnalyzerModel") rfl rfl (by rw [zn227]; exact q2198) (by rw [zn227]; exact q2199) (by rw [zn227]; exact q2200) q98 zq227 (by rw [zn227]; decide +kernel)
theorem zc_1_197_1 : zCV 1 197 1 8 1 := zk_V (C := "DependencyPairAnalyzer") rfl rfl (by rw [zn8]; exact q404) (by rw [zn8]; exact q405) (by rw [zn8]; exact q406) q88 zq8 (by rw [zn8]; decide +kernel)
theorem zc_1_200_9 : zCV 1 200 9 228 1 := zk_V (C := "DependencyPairAnalyzerModel") rfl rfl (by rw [zn228]; exact q2202) (by rw [zn228]; exact q2203) (by rw [zn228]; exact q2204) q98 zq228 (by rw [zn228]; decide +kernel)
theorem zc_1_201_1 : zCV 1 201 1 9 1 := zk_V (C := "DependencyPairAnalyzer") rfl rfl (by rw [zn9]; exact q408) (by rw [zn9]; exact q409) (by rw [zn9]; exact q410) q88 zq9 (by rw [zn9]; decide +kernel)
theorem zc_1_204_9 : zCV 1 204 9 229 1 := zk_V (C := "DependencyPairAnalyzerModel") rfl rfl (by rw [zn229]; exact q2206) (by rw [zn229]; exact q2207) (by rw [zn229]; exact q2208) q98 zq229 (by rw [zn229]; decide +kernel)
theorem zc_1_205_1 : zCV 1 205 1 88 1 := zk_V (C := "DependencyPairAnalyzer") rfl rfl (by rw [zn88]; exact q1667) (by rw [zn88]; exact q1668) (by rw [zn88]; exact q1669) q88 zq88 (by rw [zn88]; decide +kernel)
theorem zc_1_208_9 : zCV 1 208 9 230 1 := zk_V (C := "DependencyPairAnalyzerModel") rfl rfl (by rw [zn230]; exact q2210) (by rw [zn230]; exact q2211) (by rw [zn230]; exact q2212) q98 zq230 (by rw [zn230]; decide +kernel)
theorem zc_1_209_1 : zCV 1 209 1 89 1 := zk_V (C := "DependencyPairAnalyzer") rfl rfl (by rw [zn89]; exact q1671) (by rw [zn89]; exact q1672) (by rw [zn89]; exact q1673) q88 zq89 (by rw [zn89]; decide +kernel)
theorem zc_1_212_9 : zCV 1 212 9 231 1 := zk_V (C := "DependencyPairAnalyzerModel") rfl rfl (by rw [zn231]; exact q2214) (by rw [zn231]; exact q2215) (by rw [zn231]; exact q2216) q98 zq231 (by rw [zn231]; decide +kernel)
theorem zc_2_34_1000 : zCI 2 34 90 2 := zk_IN (host := "DependencyPairAnalyzer") rfl zrr90 (by rw [zn90]) (by rw [zn90]; exact List.mem_of_getElem? (i := 0) rfl) (by rw [zn90]; exact q142) (by rw [zn90]; exact q89) zq90 (by rw [zn90]; decide +kernel)
theorem zc_2_68_1000 : zCI 2 68 233 1 := zk_I rfl zrr233 (by rw [zn233]) (by rw [zn233]; exact q160) (by rw [zn233]; exact q161) (by rw [zn233]; exact q91) zq233 (by rw [zn233]; decide +kernel)
theorem zc_2_75_1000 : zCI 2 75 259 1 := zk_I rfl zrr259 (by rw [zn259]) (by rw [zn259]; exact q195) (by rw [zn259]; exact q196) (by rw [zn259]; exact q94) zq259 (by rw [zn259]; decide +kernel)
theorem zc_2_86_1000 : zCI 2 86 98 4 := zk_I rfl zrr98 (by rw [zn98]) (by rw [zn98]; exact q217) (by rw [zn98]; exact q218) (by rw [zn98]; exact q95) zq98 (by rw [zn98]; decide +kernel)
theorem zc_2_117_1 : zCV 2 117 1 2 1 := zk_V (C := "DependencyPairAnalyzer") rfl rfl (by rw [zn2]; exact q234) (by rw [zn2]; exact q236) (by rw [zn2]; exact qs0) q88 zq2 (by rw [zn2]; decide +kernel)
theorem zc_2_125_1 : zCV 2 125 1 3 2 := zk_V (C := "DependencyPairAnalyzer") rfl rfl (by rw [zn3]; exact q238) (by rw [zn3]; exact q240) (by rw [zn3]; exact qs1) q88 zq3 (by rw [zn3]; decide +kernel)
theorem zc_2_129_1000 : zCI 2 129 104 4 := zk_I rfl zrr104 (by rw [zn104]) (by rw [zn104]; exact q243) (by rw [zn104]; exact q244) (by rw [zn104]; exact q96) zq104 (by rw [zn104]; decide +kernel)
theorem zc_2_143_999 : zCS 2 143 5 1 := zk_S rfl (by rw [zn5]; exact q380) (by rw [zn5]; exact q381) (by rw [zn5]; exact q88) zq5 (by rw [zn5]; decide +kernel)
theorem zc_2_147_4 : zCV 2 147 4 107 2 := zk_V (C := "DependencyPairAnalyzer$Term") rfl rfl (by rw [zn107]; exact q386) (by rw [zn107]; exact q387) (by rw [zn107]; exact q388) q96 zq107 (by rw [zn107]; decide +kernel)
theorem zc_2_176_2 : zCV 2 176 2 91 1 := zk_V (C := "DependencyPairAnalyzer$Reader") rfl rfl (by rw [zn91]; exact q417) (by rw [zn91]; exact q418) (by rw [zn91]; exact q419) q89 zq91 (by rw [zn91]; decide +kernel)
theorem zc_2_180_999 : zCS 2 180 11 1 := zk_S rfl (by rw [zn11]; exact q523) (by rw [zn11]; exact q524) (by rw [zn11]; exact q88) zq11 (by rw [zn11]; decide +kernel)
theorem zc_2_184_1 : zCV 2 184 1 12 1 := zk_V (C := "DependencyPairAnalyzer") rfl rfl (by rw [zn12]; exact q549) (by rw [zn12]; exact q551) (by rw [zn12]; exact qs8) q88 zq12 (by rw [zn12]; decide +kernel)
theorem zc_2_164_4 : zCV 2 164 4 109 2 := zk_V (C := "DependencyPairAnalyzer$Term") rfl rfl (by rw [zn109]; exact q526) (by rw [zn109]; exact q527) (by rw [zn109]; exact q528) q96 zq109 (by rw [zn109]; decide +kernel)
theorem zc_2_165_4 : zCV 2 165 4 108 1 := zk_V (C := "DependencyPairAnalyzer$Term") rfl rfl (by rw [zn108]; exact q530) (by rw [zn108]; exact q391) (by rw [zn108]; exact q392) q96 zq108 (by rw [zn108]; decide +kernel)
theorem zc_2_169_4 : zCV 2 169 4 110 2 := zk_V (C := "DependencyPairAnalyzer$Term") rfl rfl (by rw [zn110]; exact q531) (by rw [zn110]; exact q532) (by rw [zn110]; exact q533) q96 zq110 (by rw [zn110]; decide +kernel)
theorem zc_2_172_4 : zCV 2 172 4 111 4 := zk_V (C := "DependencyPairAnalyzer$Term") rfl rfl (by rw [zn111]; exact q537) (by rw [zn111]; exact q538) (by rw [zn111]; exact q539) q96 zq111 (by rw [zn111]; decide +kernel)
theorem zc_2_192_1 : zCV 2 192 1 14 2 := zk_V (C := "DependencyPairAnalyzer") rfl rfl (by rw [zn14]; exact q557) (by rw [zn14]; exact q559) (by rw [zn14]; exact qs9) q88 zq14 (by rw [zn14]; decide +kernel)
theorem zc_2_240_1 : zCV 2 240 1 19 1 := zk_V (C := "DependencyPairAnalyzer") rfl rfl (by rw [zn19]; exact q578) (by rw [zn19]; exact q580) (by rw [zn19]; exact qs10) q88 zq19 (by rw [zn19]; decide +kernel)
theorem zc_2_222_1000 : zCI 2 222 121 5 := zk_I rfl zrr121 (by rw [zn121]) (by rw [zn121]; exact q583) (by rw [zn121]; exact q584) (by rw [zn121]; exact q103) zq121 (by rw [zn121]; decide +kernel)
theorem zc_2_225_999 : zCS 2 225 20 2 := zk_S rfl (by rw [zn20]; exact q617) (by rw [zn20]; exact q618) (by rw [zn20]; exact q88) zq20 (by rw [zn20]; decide +kernel)
theorem zc_2_229_1 : zCV 2 229 1 22 2 := zk_V (C := "DependencyPairAnalyzer") rfl rfl (by rw [zn22]; exact q623) (by rw [zn22]; exact q625) (by rw [zn22]; exact qs11) q88 zq22 (by rw [zn22]; decide +kernel)
theorem zc_2_233_1 : zCV 2 233 1 23 2 := zk_V (C := "DependencyPairAnalyzer") rfl rfl (by rw [zn23]; exact q989) (by rw [zn23]; exact q991) (by rw [zn23]; exact qs18) q88 zq23 (by rw [zn23]; decide +kernel)
theorem zc_2_212_999 : zCS 2 212 21 4 := zk_S rfl (by rw [zn21]; exact q620) (by rw [zn21]; exact q621) (by rw [zn21]; exact q88) zq21 (by rw [zn21]; decide +kernel)
theorem zc_2_256_10 : zCV 2 256 10 234 1 := zk_V (C := "java/util/TreeMap") rfl rfl (by rw [zn234]; exact q627) (by rw [zn234]; exact q628) (by rw [zn234]; exact q629) q91 zq234 (by rw [zn234]; decide +kernel)
theorem zc_2_259_999 : zCS 2 259 269 1 := zk_S rfl (by rw [zn269]; exact q631) (by rw [zn269]; exact q632) (by rw [zn269]; exact q105) zq269 (by rw [zn269]; decide +kernel)
theorem zc_2_265_10 : zCV 2 265 10 235 1 := zk_V (C := "java/util/TreeMap") rfl rfl (by rw [zn235]; exact q651) (by rw [zn235]; exact q652) (by rw [zn235]; exact q653) q91 zq235 (by rw [zn235]; decide +kernel)
theorem zc_2_266_10 : zCV 2 266 10 236 3 := zk_V (C := "java/util/TreeMap") rfl rfl (by rw [zn236]; exact q655) (by rw [zn236]; exact q656) (by rw [zn236]; exact q657) q91 zq236 (by rw [zn236]; decide +kernel)
theorem zc_2_270_10 : zCV 2 270 10 249 2 := zk_V (C := "java/util/TreeMap") rfl rfl (by rw [zn249]; exact q972) (by rw [zn249]; exact q973) (by rw [zn249]; exact q974) q91 zq249 (by rw [zn249]; decide +kernel)
theorem zc_2_274_32 : zCV 2 274 32 273 1 := zk_V (C := "java/lang/Integer") rfl rfl (by rw [zn273]; exact q985) (by rw [zn273]; exact q986) (by rw [zn273]; exact q987) q105 zq273 (by rw [zn273]; decide +kernel)
theorem zc_2_277_999 : zCS 2 277 277 2 := zk_S rfl (by rw [zn277]; exact q993) (by rw [zn277]; exact q994) (by rw [zn277]; exact q109) zq277 (by rw [zn277]; decide +kernel)
theorem zc_2_243_1 : zCV 2 243 1 25 2 := zk_V (C := "DependencyPairAnalyzer") rfl rfl (by rw [zn25]; exact q1000) (by rw [zn25]; exact q1002) (by rw [zn25]; exact qs19) q88 zq25 (by rw [zn25]; decide +kernel)
theorem zc_2_248_4 : zCV 2 248 4 114 2 := zk_V (C := "DependencyPairAnalyzer$Term") rfl rfl (by rw [zn114]; exact q1012) (by rw [zn114]; exact q592) (by rw [zn114]; exact q593) q96 zq114 (by rw [zn114]; decide +kernel)
theorem zc_2_252_999 : zCS 2 252 30 1 := zk_S rfl (by rw [zn30]; exact q1021) (by rw [zn30]; exact q1022) (by rw [zn30]; exact q88) zq30 (by rw [zn30]; decide +kernel)
theorem zc_2_292_7 : zCV 2 292 7 122 3 := zk_V (C := "DependencyPairAnalyzer$Pair") rfl rfl (by rw [zn122]; exact q1040) (by rw [zn122]; exact q1041) (by rw [zn122]; exact q1042) q103 zq122 (by rw [zn122]; decide +kernel)
theorem zc_2_326_1 : zCV 2 326 1 36 1 := zk_V (C := "DependencyPairAnalyzer") rfl rfl (by rw [zn36]; exact q1048) (by rw [zn36]; exact q1050) (by rw [zn36]; exact qs20) q88 zq36 (by rw [zn36]; decide +kernel)
theorem zc_2_330_14 : zCV 2 330 14 264 1 := zk_V (C := "java/util/TreeSet") rfl rfl (by rw [zn264]; exact q1109) (by rw [zn264]; exact q1110) (by rw [zn264]; exact q1111) q94 zq264 (by rw [zn264]; decide +kernel)
theorem zc_2_321_14 : zCV 2 321 14 261 1 := zk_V (C := "java/util/TreeSet") rfl rfl (by rw [zn261]; exact q1052) (by rw [zn261]; exact q1053) (by rw [zn261]; exact q1054) q94 zq261 (by rw [zn261]; decide +kernel)
theorem zc_2_310_1 : zCV 2 310 1 37 3 := zk_V (C := "DependencyPairAnalyzer") rfl rfl (by rw [zn37]; exact q1062) (by rw [zn37]; exact q1064) (by rw [zn37]; exact qs21) q88 zq37 (by rw [zn37]; decide +kernel)
theorem zc_2_322_1 : zCV 2 322 1 38 4 := zk_V (C := "DependencyPairAnalyzer") rfl rfl (by rw [zn38]; exact q1100) (by rw [zn38]; exact q1102) (by rw [zn38]; exact qs22) q88 zq38 (by rw [zn38]; decide +kernel)
theorem zc_2_295_14 : zCV 2 295 14 262 2 := zk_V (C := "java/util/TreeSet") rfl rfl (by rw [zn262]; exact q1066) (by rw [zn262]; exact q1067) (by rw [zn262]; exact q1068) q94 zq262 (by rw [zn262]; decide +kernel)
theorem zc_2_299_3 : zCV 2 299 3 101 1 := zk_V (C := "DependencyPairAnalyzer$SizeChangeGraph") rfl rfl (by rw [zn101]; exact q1077) (by rw [zn101]; exact q1078) (by rw [zn101]; exact q1079) q95 zq101 (by rw [zn101]; decide +kernel)
theorem zc_2_303_14 : zCV 2 303 14 263 2 := zk_V (C := "java/util/TreeSet") rfl rfl (by rw [zn263]; exact q1089) (by rw [zn263]; exact q1090) (by rw [zn263]; exact q1091) q94 zq263 (by rw [zn263]; decide +kernel)
theorem zc_2_306_3 : zCV 2 306 3 102 3 := zk_V (C := "DependencyPairAnalyzer$SizeChangeGraph") rfl rfl (by rw [zn102]; exact q1104) (by rw [zn102]; exact q1105) (by rw [zn102]; exact q1106) q95 zq102 (by rw [zn102]; decide +kernel)
theorem zc_2_331_14 : zCV 2 331 14 265 1 := zk_V (C := "java/util/TreeSet") rfl rfl (by rw [zn265]; exact q1122) (by rw [zn265]; exact q1123) (by rw [zn265]; exact q1124) q94 zq265 (by rw [zn265]; decide +kernel)
theorem zc_2_344_1 : zCV 2 344 1 40 2 := zk_V (C := "DependencyPairAnalyzer") rfl rfl (by rw [zn40]; exact q1222) (by rw [zn40]; exact q1224) (by rw [zn40]; exact qs23) q88 zq40 (by rw [zn40]; decide +kernel)
theorem zc_2_314_3 : zCV 2 314 3 100 2 := zk_V (C := "DependencyPairAnalyzer$SizeChangeGraph") rfl rfl (by rw [zn100]; exact q1226) (by rw [zn100]; exact q684) (by rw [zn100]; exact q685) q95 zq100 (by rw [zn100]; decide +kernel)
theorem zc_2_348_3 : zCV 2 348 3 103 1 := zk_V (C := "DependencyPairAnalyzer$SizeChangeGraph") rfl rfl (by rw [zn103]; exact q1231) (by rw [zn103]; exact q1232) (by rw [zn103]; exact q1233) q95 zq103 (by rw [zn103]; decide +kernel)
theorem zc_2_362_1 : zCV 2 362 1 43 5 := zk_V (C := "DependencyPairAnalyzer") rfl rfl (by rw [zn43]; exact q1239) (by rw [zn43]; exact q1241) (by rw [zn43]; exact qs24) q88 zq43 (by rw [zn43]; decide +kernel)
theorem zc_2_355_1 : zCV 2 355 1 44 3 := zk_V (C := "DependencyPairAnalyzer") rfl rfl (by rw [zn44]; exact q1243) (by rw [zn44]; exact q1245) (by rw [zn44]; exact qs25) q88 zq44 (by rw [zn44]; decide +kernel)
theorem zc_2_359_1 : zCV 2 359 1 46 4 := zk_V (C := "DependencyPairAnalyzer") rfl rfl (by rw [zn46]; exact q1251) (by rw [zn46]; exact q1253) (by rw [zn46]; exact qs27) q88 zq46 (by rw [zn46]; decide +kernel)
theorem zc_2_351_1 : zCV 2 351 1 45 2 := zk_V (C := "DependencyPairAnalyzer") rfl rfl (by rw [zn45]; exact q1247) (by rw [zn45]; exact q1249) (by rw [zn45]; exact qs26) q88 zq45 (by rw [zn45]; decide +kernel)
theorem zc_2_369_1 : zCV 2 369 1 48 1 := zk_V (C := "DependencyPairAnalyzer") rfl rfl (by rw [zn48]; exact q1259) (by rw [zn48]; exact q1261) (by rw [zn48]; exact qs28) q88 zq48 (by rw [zn48]; decide +kernel)
theorem zc_2_366_1 : zCV 2 366 1 49 2 := zk_V (C := "DependencyPairAnalyzer") rfl rfl (by rw [zn49]; exact q1263) (by rw [zn49]; exact q1265) (by rw [zn49]; exact qs29) q88 zq49 (by rw [zn49]; decide +kernel)
theorem zc_2_372_1 : zCV 2 372 1 51 1 := zk_V (C := "DependencyPairAnalyzer") rfl rfl (by rw [zn51]; exact q1279) (by rw [zn51]; exact q1272) (by rw [zn51]; exact q1273) q88 zq51 (by rw [zn51]; decide +kernel)
theorem zc_2_408_999 : zCS 2 408 54 1 := zk_S rfl (by rw [zn54]; exact q1284) (by rw [zn54]; exact q1285) (by rw [zn54]; exact q88) zq54 (by rw [zn54]; decide +kernel)
theorem zc_2_411_2 : zCV 2 411 2 97 1 := zk_V (C := "DependencyPairAnalyzer$Reader") rfl rfl (by rw [zn97]; exact q1287) (by rw [zn97]; exact q1288) (by rw [zn97]; exact q1289) q89 zq97 (by rw [zn97]; decide +kernel)
theorem zc_2_414_1 : zCV 2 414 1 55 3 := zk_V (C := "DependencyPairAnalyzer") rfl rfl (by rw [zn55]; exact q1291) (by rw [zn55]; exact q1293) (by rw [zn55]; exact qs30) q88 zq55 (by rw [zn55]; decide +kernel)
theorem zc_2_424_999 : zCS 2 424 58 1 := zk_S rfl (by rw [zn58]; exact q1303) (by rw [zn58]; exact q1304) (by rw [zn58]; exact q88) zq58 (by rw [zn58]; decide +kernel)
theorem zc_2_428_16 : zCV 2 428 16 298 1 := zk_V (C := "java/lang/StringBuilder") rfl rfl (by rw [zn298]; exact q1409) (by rw [zn298]; exact q1410) (by rw [zn298]; exact q1411) q122 zq298 (by rw [zn298]; decide +kernel)
theorem zc_2_419_1000 : zCI 2 419 296 1 := zk_I rfl zrr296 (by rw [zn296]) (by rw [zn296]; exact q1308) (by rw [zn296]; exact q1309) (by rw [zn296]; exact q122) zq296 (by rw [zn296]; decide +kernel)
theorem zc_2_420_4 : zCV 2 420 4 117 3 := zk_V (C := "DependencyPairAnalyzer$Term") rfl rfl (by rw [zn117]; exact q1333) (by rw [zn117]; exact q1334) (by rw [zn117]; exact q1335) q96 zq117 (by rw [zn117]; decide +kernel)
theorem zc_2_430_16 : zCV 2 430 16 299 2 := zk_V (C := "java/lang/StringBuilder") rfl rfl (by rw [zn299]; exact q1420) (by rw [zn299]; exact q1421) (by rw [zn299]; exact q1422) q122 zq299 (by rw [zn299]; decide +kernel)
theorem zc_2_434_4 : zCV 2 434 4 116 2 := zk_V (C := "DependencyPairAnalyzer$Term") rfl rfl (by rw [zn116]; exact q1434) (by rw [zn116]; exact q695) (by rw [zn116]; exact q696) q96 zq116 (by rw [zn116]; decide +kernel)
theorem zc_2_436_1 : zCV 2 436 1 65 3 := zk_V (C := "DependencyPairAnalyzer") rfl rfl (by rw [zn65]; exact q1451) (by rw [zn65]; exact q1453) (by rw [zn65]; exact qs31) q88 zq65 (by rw [zn65]; decide +kernel)
theorem zc_2_378_1 : zCV 2 378 1 66 4 := zk_V (C := "DependencyPairAnalyzer") rfl rfl (by rw [zn66]; exact q1455) (by rw [zn66]; exact q1457) (by rw [zn66]; exact qs32) q88 zq66 (by rw [zn66]; decide +kernel)
theorem zc_2_375_4 : zCV 2 375 4 112 4 := zk_V (C := "DependencyPairAnalyzer$Term") rfl rfl (by rw [zn112]; exact q1459) (by rw [zn112]; exact q542) (by rw [zn112]; exact q543) q96 zq112 (by rw [zn112]; decide +kernel)
theorem zc_2_385_1 : zCV 2 385 1 68 3 := zk_V (C := "DependencyPairAnalyzer") rfl rfl (by rw [zn68]; exact q1464) (by rw [zn68]; exact q1466) (by rw [zn68]; exact qs33) q88 zq68 (by rw [zn68]; decide +kernel)
theorem zc_2_381_1 : zCV 2 381 1 69 3 := zk_V (C := "DependencyPairAnalyzer") rfl rfl (by rw [zn69]; exact q1468) (by rw [zn69]; exact q1470) (by rw [zn69]; exact qs34) q88 zq69 (by rw [zn69]; decide +kernel)
theorem zc_2_404_1 : zCV 2 404 1 72 3 := zk_V (C := "DependencyPairAnalyzer") rfl rfl (by rw [zn72]; exact q1480) (by rw [zn72]; exact q1482) (by rw [zn72]; exact qs35) q88 zq72 (by rw [zn72]; decide +kernel)
theorem zc_2_393_4 : zCV 2 393 4 113 2 := zk_V (C := "DependencyPairAnalyzer$Term") rfl rfl (by rw [zn113]; exact q1484) (by rw [zn113]; exact q546) (by rw [zn113]; exact q547) q96 zq113 (by rw [zn113]; decide +kernel)
theorem zc_2_396_1 : zCV 2 396 1 73 3 := zk_V (C := "DependencyPairAnalyzer") rfl rfl (by rw [zn73]; exact q1485) (by rw [zn73]; exact q1487) (by rw [zn73]; exact qs36) q88 zq73 (by rw [zn73]; decide +kernel)
theorem zc_2_400_1 : zCV 2 400 1 74 4 := zk_V (C := "DependencyPairAnalyzer") rfl rfl (by rw [zn74]; exact q1489) (by rw [zn74]; exact q1491) (by rw [zn74]; exact qs37) q88 zq74 (by rw [zn74]; decide +kernel)
theorem zc_2_442_1 : zCV 2 442 1 76 2 := zk_V (C := "DependencyPairAnalyzer") rfl rfl (by rw [zn76]; exact q1498) (by rw [zn76]; exact q1500) (by rw [zn76]; exact qs38) q88 zq76 (by rw [zn76]; decide +kernel)
theorem zc_2_389_1 : zCV 2 389 1 77 2 := zk_V (C := "DependencyPairAnalyzer") rfl rfl (by rw [zn77]; exact q1502) (by rw [zn77]; exact q1504) (by rw [zn77]; exact qs39) q88 zq77 (by rw [zn77]; decide +kernel)
theorem zc_2_450_1 : zCV 2 450 1 79 3 := zk_V (C := "DependencyPairAnalyzer") rfl rfl (by rw [zn79]; exact q1510) (by rw [zn79]; exact q1512) (by rw [zn79]; exact qs40) q88 zq79 (by rw [zn79]; decide +kernel)
theorem zc_2_446_4 : zCV 2 446 4 118 2 := zk_V (C := "DependencyPairAnalyzer$Term") rfl rfl (by rw [zn118]; exact q1514) (by rw [zn118]; exact q1515) (by rw [zn118]; exact q1516) q96 zq118 (by rw [zn118]; decide +kernel)
theorem zc_2_470_1 : zCV 2 470 1 81 3 := zk_V (C := "DependencyPairAnalyzer") rfl rfl (by rw [zn81]; exact q1522) (by rw [zn81]; exact q1524) (by rw [zn81]; exact qs41) q88 zq81 (by rw [zn81]; decide +kernel)
theorem zc_2_473_1 : zCV 2 473 1 82 3 := zk_V (C := "DependencyPairAnalyzer") rfl rfl (by rw [zn82]; exact q1527) (by rw [zn82]; exact q1529) (by rw [zn82]; exact qs42) q88 zq82 (by rw [zn82]; decide +kernel)
theorem zc_2_457_1000 : zCI 2 457 125 1 := zk_IN (host := "DependencyPairAnalyzer") rfl zrr125 (by rw [zn125]) (by rw [zn125]; exact List.mem_of_getElem? (i := 3) rfl) (by rw [zn125]; exact q1536) (by rw [zn125]; exact q126) zq125 (by rw [zn125]; decide +kernel)
theorem zc_2_458_1000 : zCI 2 458 304 3 := zk_I rfl zrr304 (by rw [zn304]) (by rw [zn304]; exact q1540) (by rw [zn304]; exact q1541) (by rw [zn304]; exact q125) zq304 (by rw [zn304]; decide +kernel)
theorem zc_2_461_15 : zCV 2 461 15 305 2 := zk_V (C := "java/util/PriorityQueue") rfl rfl (by rw [zn305]; exact q1562) (by rw [zn305]; exact q1563) (by rw [zn305]; exact q1564) q125 zq305 (by rw [zn305]; decide +kernel)
theorem zc_2_465_15 : zCV 2 465 15 311 1 := zk_V (C := "java/util/PriorityQueue") rfl rfl (by rw [zn311]; exact q1637) (by rw [zn311]; exact q1638) (by rw [zn311]; exact q1639) q125 zq311 (by rw [zn311]; decide +kernel)
theorem zc_2_476_1 : zCV 2 476 1 84 2 := zk_V (C := "DependencyPairAnalyzer") rfl rfl (by rw [zn84]; exact q1651) (by rw [zn84]; exact q1653) (by rw [zn84]; exact qs45) q88 zq84 (by rw [zn84]; decide +kernel)
theorem zc_3_67_2 : zCV 3 67 2 92 1 := zk_V (C := "DependencyPairAnalyzer$Reader") rfl rfl (by rw [zn92]; exact q421) (by rw [zn92]; exact q423) (by rw [zn92]; exact qs2) q89 zq92 (by rw [zn92]; decide +kernel)
theorem zc_3_52_2 : zCV 3 52 2 96 2 := zk_V (C := "DependencyPairAnalyzer$Reader") rfl rfl (by rw [zn96]; exact q502) (by rw [zn96]; exact q504) (by rw [zn96]; exact qs7) q89 zq96 (by rw [zn96]; decide +kernel)
theorem zc_3_35_2 : zCV 3 35 2 95 2 := zk_V (C := "DependencyPairAnalyzer$Reader") rfl rfl (by rw [zn95]; exact q434) (by rw [zn95]; exact q436) (by rw [zn95]; exact qs5) q89 zq95 (by rw [zn95]; decide +kernel)
theorem zc_3_73_1000 : zCI 3 73 120 3 := zk_I rfl zrr120 (by rw [zn120]) (by rw [zn120]; exact q510) (by rw [zn120]; exact q511) (by rw [zn120]; exact q102) zq120 (by rw [zn120]; decide +kernel)
theorem zc_3_55_2 : zCV 3 55 2 93 1 := zk_V (C := "DependencyPairAnalyzer$Reader") rfl rfl (by rw [zn93]; exact q425) (by rw [zn93]; exact q427) (by rw [zn93]; exact qs3) q89 zq93 (by rw [zn93]; decide +kernel)
theorem zc_3_64_1000 : zCI 3 64 104 4 := zk_I rfl zrr104 (by rw [zn104]) (by rw [zn104]; exact q507) (by rw [zn104]; exact q244) (by rw [zn104]; exact q96) zq104 (by rw [zn104]; decide +kernel)
theorem zc_3_31_2 : zCV 3 31 2 94 1 := zk_V (C := "DependencyPairAnalyzer$Reader") rfl rfl (by rw [zn94]; exact q429) (by rw [zn94]; exact q431) (by rw [zn94]; exact qs4) q89 zq94 (by rw [zn94]; decide +kernel)
theorem zc_3_43_999 : zCS 3 43 105 2 := zk_S rfl (by rw [zn105]; exact q433) (by rw [zn105]; exact q251) (by rw [zn105]; exact q96) zq105 (by rw [zn105]; decide +kernel)
theorem zc_3_49_1 : zCV 3 49 1 3 2 := zk_VN (C := "DependencyPairAnalyzer") (host := "DependencyPairAnalyzer") rfl rfl (by rw [zn3]; exact List.mem_of_getElem? (i := 2) rfl) (by rw [zn3]; exact q240) (by rw [zn3]; exact qs1) (by rw [zn3]; exact q88) zq3 (by rw [zn3]; decide +kernel)
theorem zc_3_28_1000 : zCI 3 28 119 2 := zk_I rfl zrr119 (by rw [zn119]) (by rw [zn119]; exact q475) (by rw [zn119]; exact q476) (by rw [zn119]; exact q101) zq119 (by rw [zn119]; decide +kernel)
theorem zc_4_36_3 : zCV 4 36 3 100 2 := zk_V (C := "DependencyPairAnalyzer$SizeChangeGraph") rfl rfl (by rw [zn100]; exact q683) (by rw [zn100]; exact q684) (by rw [zn100]; exact q685) q95 zq100 (by rw [zn100]; decide +kernel)
theorem zc_4_27_1000 : zCI 4 27 98 4 := zk_I rfl zrr98 (by rw [zn98]) (by rw [zn98]; exact q1088) (by rw [zn98]; exact q218) (by rw [zn98]; exact q95) zq98 (by rw [zn98]; decide +kernel)
theorem zc_4_30_999 : zCS 4 30 277 2 := zk_S rfl (by rw [zn277]; exact q1108) (by rw [zn277]; exact q994) (by rw [zn277]; exact q109) zq277 (by rw [zn277]; decide +kernel)
theorem zc_5_25_999 : zCS 5 25 105 2 := zk_S rfl (by rw [zn105]; exact q250) (by rw [zn105]; exact q251) (by rw [zn105]; exact q96) zq105 (by rw [zn105]; decide +kernel)
theorem zc_5_29_999 : zCS 5 29 106 1 := zk_S rfl (by rw [zn106]; exact q253) (by rw [zn106]; exact q254) (by rw [zn106]; exact q96) zq106 (by rw [zn106]; decide +kernel)
theorem zc_5_53_4 : zCV 5 53 4 108 1 := zk_V (C := "DependencyPairAnalyzer$Term") rfl rfl (by rw [zn108]; exact q390) (by rw [zn108]; exact q391) (by rw [zn108]; exact q392) q96 zq108 (by rw [zn108]; decide +kernel)
theorem zc_5_49_4 : zCV 5 49 4 112 4 := zk_V (C := "DependencyPairAnalyzer$Term") rfl rfl (by rw [zn112]; exact q541) (by rw [zn112]; exact q542) (by rw [zn112]; exact q543) q96 zq112 (by rw [zn112]; decide +kernel)
theorem zc_5_45_4 : zCV 5 45 4 113 2 := zk_V (C := "DependencyPairAnalyzer$Term") rfl rfl (by rw [zn113]; exact q545) (by rw [zn113]; exact q546) (by rw [zn113]; exact q547) q96 zq113 (by rw [zn113]; decide +kernel)
theorem zc_5_67_4 : zCV 5 67 4 116 2 := zk_V (C := "DependencyPairAnalyzer$Term") rfl rfl (by rw [zn116]; exact q694) (by rw [zn116]; exact q695) (by rw [zn116]; exact q696) q96 zq116 (by rw [zn116]; decide +kernel)
theorem zc_5_57_16 : zCV 5 57 16 297 2 := zk_V (C := "java/lang/StringBuilder") rfl rfl (by rw [zn297]; exact q1337) (by rw [zn297]; exact q1338) (by rw [zn297]; exact q1339) q122 zq297 (by rw [zn297]; decide +kernel)
theorem zc_5_63_4 : zCV 5 63 4 117 3 := zk_V (C := "DependencyPairAnalyzer$Term") rfl rfl (by rw [zn117]; exact q1408) (by rw [zn117]; exact q1334) (by rw [zn117]; exact q1335) q96 zq117 (by rw [zn117]; decide +kernel)
theorem zc_6_1_1000 : zCI 6 1 268 5 := zk_I rfl zrr268 (by rw [zn268]) (by rw [zn268]; exact q478) (by rw [zn268]; exact q479) (by rw [zn268]; exact q100) zq268 (by rw [zn268]; decide +kernel)
theorem zc_8_25_4 : zCV 8 25 4 108 1 := zk_V (C := "DependencyPairAnalyzer$Term") rfl rfl (by rw [zn108]; exact q587) (by rw [zn108]; exact q391) (by rw [zn108]; exact q392) q96 zq108 (by rw [zn108]; decide +kernel)
theorem zc_8_35_4 : zCV 8 35 4 112 4 := zk_V (C := "DependencyPairAnalyzer$Term") rfl rfl (by rw [zn112]; exact q588) (by rw [zn112]; exact q542) (by rw [zn112]; exact q543) q96 zq112 (by rw [zn112]; decide +kernel)
theorem zc_8_39_4 : zCV 8 39 4 111 4 := zk_V (C := "DependencyPairAnalyzer$Term") rfl rfl (by rw [zn111]; exact q589) (by rw [zn111]; exact q538) (by rw [zn111]; exact q539) q96 zq111 (by rw [zn111]; decide +kernel)
theorem zc_8_44_4 : zCV 8 44 4 114 2 := zk_V (C := "DependencyPairAnalyzer$Term") rfl rfl (by rw [zn114]; exact q591) (by rw [zn114]; exact q592) (by rw [zn114]; exact q593) q96 zq114 (by rw [zn114]; decide +kernel)
theorem zc_8_48_1000 : zCI 8 48 98 4 := zk_I rfl zrr98 (by rw [zn98]) (by rw [zn98]; exact q595) (by rw [zn98]; exact q218) (by rw [zn98]; exact q95) zq98 (by rw [zn98]; decide +kernel)
theorem zc_9_13_8 : zCV 9 13 8 124 3 := zk_V (C := "DependencyPairAnalyzer$TermComparator") rfl rfl (by rw [zn124]; exact q903) (by rw [zn124]; exact q904) (by rw [zn124]; exact q905) q126 zq124 (by rw [zn124]; decide +kernel)
theorem zc_9_7_4 : zCV 9 7 4 116 2 := zk_V (C := "DependencyPairAnalyzer$Term") rfl rfl (by rw [zn116]; exact q907) (by rw [zn116]; exact q695) (by rw [zn116]; exact q696) q96 zq116 (by rw [zn116]; decide +kernel)
theorem zc_10_101_9 : zCV 10 101 9 127 2 := zk_V (C := "DependencyPairAnalyzerModel") rfl rfl (by rw [zn127]; exact q1683) (by rw [zn127]; exact q1685) (by rw [zn127]; exact qs46) q98 zq127 (by rw [zn127]; decide +kernel)
theorem zc_10_105_999 : zCS 10 105 129 3 := zk_S rfl (by rw [zn129]; exact q1816) (by rw [zn129]; exact q1817) (by rw [zn129]; exact q98) zq129 (by rw [zn129]; decide +kernel)
theorem zc_10_161_9 : zCV 10 161 9 132 1 := zk_V (C := "DependencyPairAnalyzerModel") rfl rfl (by rw [zn132]; exact q1827) (by rw [zn132]; exact q1829) (by rw [zn132]; exact qs47) q98 zq132 (by rw [zn132]; decide +kernel)
theorem zc_10_158_9 : zCV 10 158 9 137 2 := zk_V (C := "DependencyPairAnalyzerModel") rfl rfl (by rw [zn137]; exact q1845) (by rw [zn137]; exact q1847) (by rw [zn137]; exact qs50) q98 zq137 (by rw [zn137]; decide +kernel)
theorem zc_10_169_999 : zCS 10 169 138 5 := zk_S rfl (by rw [zn138]; exact q1849) (by rw [zn138]; exact q1850) (by rw [zn138]; exact q98) zq138 (by rw [zn138]; decide +kernel)
theorem zc_10_173_9 : zCV 10 173 9 139 1 := zk_V (C := "DependencyPairAnalyzerModel") rfl rfl (by rw [zn139]; exact q1852) (by rw [zn139]; exact q1854) (by rw [zn139]; exact qs51) q98 zq139 (by rw [zn139]; decide +kernel)
theorem zc_10_125_999 : zCS 10 125 141 1 := zk_S rfl (by rw [zn141]; exact q1859) (by rw [zn141]; exact q1860) (by rw [zn141]; exact q98) zq141 (by rw [zn141]; decide +kernel)
theorem zc_10_145_999 : zCS 10 145 142 1 := zk_S rfl (by rw [zn142]; exact q1862) (by rw [zn142]; exact q1863) (by rw [zn142]; exact q98) zq142 (by rw [zn142]; decide +kernel)
theorem zc_10_154_9 : zCV 10 154 9 133 1 := zk_V (C := "DependencyPairAnalyzerModel") rfl rfl (by rw [zn133]; exact q1831) (by rw [zn133]; exact q1833) (by rw [zn133]; exact qs48) q98 zq133 (by rw [zn133]; decide +kernel)
theorem zc_10_109_999 : zCS 10 109 134 1 := zk_S rfl (by rw [zn134]; exact q1835) (by rw [zn134]; exact q1836) (by rw [zn134]; exact q98) zq134 (by rw [zn134]; decide +kernel)
theorem zc_10_128_999 : zCS 10 128 135 1 := zk_S rfl (by rw [zn135]; exact q1838) (by rw [zn135]; exact q1839) (by rw [zn135]; exact q98) zq135 (by rw [zn135]; decide +kernel)
theorem zc_10_113_9 : zCV 10 113 9 136 2 := zk_V (C := "DependencyPairAnalyzerModel") rfl rfl (by rw [zn136]; exact q1841) (by rw [zn136]; exact q1843) (by rw [zn136]; exact qs49) q98 zq136 (by rw [zn136]; decide +kernel)
theorem zc_10_165_999 : zCS 10 165 140 2 := zk_S rfl (by rw [zn140]; exact q1856) (by rw [zn140]; exact q1857) (by rw [zn140]; exact q98) zq140 (by rw [zn140]; decide +kernel)
theorem zc_10_176_9 : zCV 10 176 9 144 2 := zk_V (C := "DependencyPairAnalyzerModel") rfl rfl (by rw [zn144]; exact q1869) (by rw [zn144]; exact q1871) (by rw [zn144]; exact qs52) q98 zq144 (by rw [zn144]; decide +kernel)
theorem zc_10_185_9 : zCV 10 185 9 149 1 := zk_V (C := "DependencyPairAnalyzerModel") rfl rfl (by rw [zn149]; exact q1889) (by rw [zn149]; exact q1891) (by rw [zn149]; exact qs53) q98 zq149 (by rw [zn149]; decide +kernel)
theorem zc_10_188_9 : zCV 10 188 9 151 2 := zk_V (C := "DependencyPairAnalyzerModel") rfl rfl (by rw [zn151]; exact q1897) (by rw [zn151]; exact q1899) (by rw [zn151]; exact qs54) q98 zq151 (by rw [zn151]; decide +kernel)
theorem zc_10_191_9 : zCV 10 191 9 154 2 := zk_V (C := "DependencyPairAnalyzerModel") rfl rfl (by rw [zn154]; exact q1909) (by rw [zn154]; exact q1911) (by rw [zn154]; exact qs55) q98 zq154 (by rw [zn154]; decide +kernel)
theorem zc_10_179_9 : zCV 10 179 9 155 2 := zk_V (C := "DependencyPairAnalyzerModel") rfl rfl (by rw [zn155]; exact q1913) (by rw [zn155]; exact q1915) (by rw [zn155]; exact qs56) q98 zq155 (by rw [zn155]; decide +kernel)
theorem zc_10_194_9 : zCV 10 194 9 157 2 := zk_V (C := "DependencyPairAnalyzerModel") rfl rfl (by rw [zn157]; exact q1921) (by rw [zn157]; exact q1923) (by rw [zn157]; exact qs57) q98 zq157 (by rw [zn157]; decide +kernel)
theorem zc_10_182_9 : zCV 10 182 9 158 2 := zk_V (C := "DependencyPairAnalyzerModel") rfl rfl (by rw [zn158]; exact q1925) (by rw [zn158]; exact q1927) (by rw [zn158]; exact qs58) q98 zq158 (by rw [zn158]; decide +kernel)
theorem zc_10_208_9 : zCV 10 208 9 160 3 := zk_V (C := "DependencyPairAnalyzerModel") rfl rfl (by rw [zn160]; exact q1933) (by rw [zn160]; exact q1935) (by rw [zn160]; exact qs59) q98 zq160 (by rw [zn160]; decide +kernel)
theorem zc_10_197_9 : zCV 10 197 9 161 3 := zk_V (C := "DependencyPairAnalyzerModel") rfl rfl (by rw [zn161]; exact q1937) (by rw [zn161]; exact q1939) (by rw [zn161]; exact qs60) q98 zq161 (by rw [zn161]; decide +kernel)
theorem zc_10_201_9 : zCV 10 201 9 162 4 := zk_V (C := "DependencyPairAnalyzerModel") rfl rfl (by rw [zn162]; exact q1941) (by rw [zn162]; exact q1943) (by rw [zn162]; exact qs61) q98 zq162 (by rw [zn162]; decide +kernel)
theorem zc_10_205_9 : zCV 10 205 9 164 3 := zk_V (C := "DependencyPairAnalyzerModel") rfl rfl (by rw [zn164]; exact q1949) (by rw [zn164]; exact q1951) (by rw [zn164]; exact qs63) q98 zq164 (by rw [zn164]; decide +kernel)
theorem zc_10_117_9 : zCV 10 117 9 163 3 := zk_V (C := "DependencyPairAnalyzerModel") rfl rfl (by rw [zn163]; exact q1945) (by rw [zn163]; exact q1947) (by rw [zn163]; exact qs62) q98 zq163 (by rw [zn163]; decide +kernel)
theorem zc_10_223_9 : zCV 10 223 9 167 1 := zk_V (C := "DependencyPairAnalyzerModel") rfl rfl (by rw [zn167]; exact q1961) (by rw [zn167]; exact q1963) (by rw [zn167]; exact qs64) q98 zq167 (by rw [zn167]; decide +kernel)
theorem zc_10_226_9 : zCV 10 226 9 168 1 := zk_V (C := "DependencyPairAnalyzerModel") rfl rfl (by rw [zn168]; exact q1965) (by rw [zn168]; exact q1967) (by rw [zn168]; exact qs65) q98 zq168 (by rw [zn168]; decide +kernel)
theorem zc_10_216_999 : zCS 10 216 169 3 := zk_S rfl (by rw [zn169]; exact q1970) (by rw [zn169]; exact q1971) (by rw [zn169]; exact q98) zq169 (by rw [zn169]; decide +kernel)
theorem zc_10_229_9 : zCV 10 229 9 172 4 := zk_V (C := "DependencyPairAnalyzerModel") rfl rfl (by rw [zn172]; exact q1981) (by rw [zn172]; exact q1983) (by rw [zn172]; exact qs66) q98 zq172 (by rw [zn172]; decide +kernel)
theorem zc_10_134_999 : zCS 10 134 173 5 := zk_S rfl (by rw [zn173]; exact q1985) (by rw [zn173]; exact q1986) (by rw [zn173]; exact q98) zq173 (by rw [zn173]; decide +kernel)
theorem zc_10_259_9 : zCV 10 259 9 175 1 := zk_V (C := "DependencyPairAnalyzerModel") rfl rfl (by rw [zn175]; exact q1992) (by rw [zn175]; exact q1994) (by rw [zn175]; exact qs67) q98 zq175 (by rw [zn175]; decide +kernel)
theorem zc_10_246_999 : zCS 10 246 176 2 := zk_S rfl (by rw [zn176]; exact q1996) (by rw [zn176]; exact q1997) (by rw [zn176]; exact q98) zq176 (by rw [zn176]; decide +kernel)
theorem zc_10_253_9 : zCV 10 253 9 177 2 := zk_V (C := "DependencyPairAnalyzerModel") rfl rfl (by rw [zn177]; exact q1999) (by rw [zn177]; exact q2001) (by rw [zn177]; exact qs68) q98 zq177 (by rw [zn177]; decide +kernel)
theorem zc_10_256_9 : zCV 10 256 9 178 3 := zk_V (C := "DependencyPairAnalyzerModel") rfl rfl (by rw [zn178]; exact q2003) (by rw [zn178]; exact q2005) (by rw [zn178]; exact qs69) q98 zq178 (by rw [zn178]; decide +kernel)
theorem zc_10_233_999 : zCS 10 233 179 1 := zk_S rfl (by rw [zn179]; exact q2007) (by rw [zn179]; exact q2008) (by rw [zn179]; exact q98) zq179 (by rw [zn179]; decide +kernel)
theorem zc_10_236_999 : zCS 10 236 180 2 := zk_S rfl (by rw [zn180]; exact q2010) (by rw [zn180]; exact q2011) (by rw [zn180]; exact q98) zq180 (by rw [zn180]; decide +kernel)
theorem zc_10_240_999 : zCS 10 240 277 2 := zk_S rfl (by rw [zn277]; exact q2013) (by rw [zn277]; exact q994) (by rw [zn277]; exact q109) zq277 (by rw [zn277]; decide +kernel)
theorem zc_10_265_9 : zCV 10 265 9 184 2 := zk_V (C := "DependencyPairAnalyzerModel") rfl rfl (by rw [zn184]; exact q2026) (by rw [zn184]; exact q2028) (by rw [zn184]; exact qs70) q98 zq184 (by rw [zn184]; decide +kernel)
theorem zc_10_262_9 : zCV 10 262 9 185 2 := zk_V (C := "DependencyPairAnalyzerModel") rfl rfl (by rw [zn185]; exact q2030) (by rw [zn185]; exact q2032) (by rw [zn185]; exact qs71) q98 zq185 (by rw [zn185]; decide +kernel)
theorem zc_10_268_9 : zCV 10 268 9 187 1 := zk_V (C := "DependencyPairAnalyzerModel") rfl rfl (by rw [zn187]; exact q2038) (by rw [zn187]; exact q2040) (by rw [zn187]; exact qs72) q98 zq187 (by rw [zn187]; decide +kernel)
theorem zc_10_271_9 : zCV 10 271 9 189 1 := zk_V (C := "DependencyPairAnalyzerModel") rfl rfl (by rw [zn189]; exact q2054) (by rw [zn189]; exact q2047) (by rw [zn189]; exact q2048) q98 zq189 (by rw [zn189]; decide +kernel)
theorem zc_10_274_999 : zCS 10 274 192 1 := zk_S rfl (by rw [zn192]; exact q2059) (by rw [zn192]; exact q2060) (by rw [zn192]; exact q98) zq192 (by rw [zn192]; decide +kernel)
theorem zc_10_283_9 : zCV 10 283 9 195 2 := zk_V (C := "DependencyPairAnalyzerModel") rfl rfl (by rw [zn195]; exact q2070) (by rw [zn195]; exact q2072) (by rw [zn195]; exact qs73) q98 zq195 (by rw [zn195]; decide +kernel)
theorem zc_10_280_9 : zCV 10 280 9 196 2 := zk_V (C := "DependencyPairAnalyzerModel") rfl rfl (by rw [zn196]; exact q2074) (by rw [zn196]; exact q2076) (by rw [zn196]; exact qs74) q98 zq196 (by rw [zn196]; decide +kernel)
theorem zc_10_286_9 : zCV 10 286 9 194 2 := zk_V (C := "DependencyPairAnalyzerModel") rfl rfl (by rw [zn194]; exact q2082) (by rw [zn194]; exact q2067) (by rw [zn194]; exact q2068) q98 zq194 (by rw [zn194]; decide +kernel)
theorem zc_10_288_999 : zCS 10 288 199 4 := zk_S rfl (by rw [zn199]; exact q2087) (by rw [zn199]; exact q2088) (by rw [zn199]; exact q98) zq199 (by rw [zn199]; decide +kernel)
theorem zc_10_292_9 : zCV 10 292 9 202 3 := zk_V (C := "DependencyPairAnalyzerModel") rfl rfl (by rw [zn202]; exact q2098) (by rw [zn202]; exact q2100) (by rw [zn202]; exact qs75) q98 zq202 (by rw [zn202]; decide +kernel)
theorem zc_10_295_9 : zCV 10 295 9 205 3 := zk_V (C := "DependencyPairAnalyzerModel") rfl rfl (by rw [zn205]; exact q2110) (by rw [zn205]; exact q2112) (by rw [zn205]; exact qs76) q98 zq205 (by rw [zn205]; decide +kernel)
theorem zc_10_138_9 : zCV 10 138 9 206 4 := zk_V (C := "DependencyPairAnalyzerModel") rfl rfl (by rw [zn206]; exact q2114) (by rw [zn206]; exact q2116) (by rw [zn206]; exact qs77) q98 zq206 (by rw [zn206]; decide +kernel)
theorem zc_10_131_999 : zCS 10 131 207 1 := zk_S rfl (by rw [zn207]; exact q2118) (by rw [zn207]; exact q2119) (by rw [zn207]; exact q98) zq207 (by rw [zn207]; decide +kernel)
theorem zc_10_298_9 : zCV 10 298 9 209 4 := zk_V (C := "DependencyPairAnalyzerModel") rfl rfl (by rw [zn209]; exact q2125) (by rw [zn209]; exact q2127) (by rw [zn209]; exact qs78) q98 zq209 (by rw [zn209]; decide +kernel)
theorem zc_10_142_9 : zCV 10 142 9 210 3 := zk_V (C := "DependencyPairAnalyzerModel") rfl rfl (by rw [zn210]; exact q2129) (by rw [zn210]; exact q2131) (by rw [zn210]; exact qs79) q98 zq210 (by rw [zn210]; decide +kernel)
theorem zc_10_301_9 : zCV 10 301 9 213 4 := zk_V (C := "DependencyPairAnalyzerModel") rfl rfl (by rw [zn213]; exact q2141) (by rw [zn213]; exact q2143) (by rw [zn213]; exact qs80) q98 zq213 (by rw [zn213]; decide +kernel)
theorem zc_10_304_9 : zCV 10 304 9 212 3 := zk_V (C := "DependencyPairAnalyzerModel") rfl rfl (by rw [zn212]; exact q2149) (by rw [zn212]; exact q2138) (by rw [zn212]; exact q2139) q98 zq212 (by rw [zn212]; decide +kernel)
theorem zc_10_310_9 : zCV 10 310 9 216 3 := zk_V (C := "DependencyPairAnalyzerModel") rfl rfl (by rw [zn216]; exact q2154) (by rw [zn216]; exact q2156) (by rw [zn216]; exact qs81) q98 zq216 (by rw [zn216]; decide +kernel)
theorem zc_10_314_9 : zCV 10 314 9 217 1 := zk_V (C := "DependencyPairAnalyzerModel") rfl rfl (by rw [zn217]; exact q2158) (by rw [zn217]; exact q2160) (by rw [zn217]; exact qs82) q98 zq217 (by rw [zn217]; decide +kernel)
theorem zc_10_326_9 : zCV 10 326 9 219 3 := zk_V (C := "DependencyPairAnalyzerModel") rfl rfl (by rw [zn219]; exact q2166) (by rw [zn219]; exact q2168) (by rw [zn219]; exact qs83) q98 zq219 (by rw [zn219]; decide +kernel)
theorem zc_10_329_9 : zCV 10 329 9 220 3 := zk_V (C := "DependencyPairAnalyzerModel") rfl rfl (by rw [zn220]; exact q2170) (by rw [zn220]; exact q2172) (by rw [zn220]; exact qs84) q98 zq220 (by rw [zn220]; decide +kernel)
theorem zc_10_323_9 : zCV 10 323 9 221 1 := zk_V (C := "DependencyPairAnalyzerModel") rfl rfl (by rw [zn221]; exact q2174) (by rw [zn221]; exact q2176) (by rw [zn221]; exact qs85) q98 zq221 (by rw [zn221]; decide +kernel)
theorem zc_10_333_9 : zCV 10 333 9 223 3 := zk_V (C := "DependencyPairAnalyzerModel") rfl rfl (by rw [zn223]; exact q2182) (by rw [zn223]; exact q2184) (by rw [zn223]; exact qs86) q98 zq223 (by rw [zn223]; decide +kernel)
theorem zc_12_1_1000 : zCI 12 1 232 1 := zk_I rfl zrr232 (by rw [zn232]) (by rw [zn232]; exact q163) (by rw [zn232]; exact q164) (by rw [zn232]; exact q90) zq232 (by rw [zn232]; decide +kernel)
theorem zc_12_127_10 : zCV 12 127 10 237 4 := zk_V (C := "java/util/TreeMap") rfl rfl (by rw [zn237]; exact q659) (by rw [zn237]; exact q661) (by rw [zn237]; exact qs12) q91 zq237 (by rw [zn237]; decide +kernel)
theorem zc_12_135_10 : zCV 12 135 10 238 3 := zk_V (C := "java/util/TreeMap") rfl rfl (by rw [zn238]; exact q663) (by rw [zn238]; exact q665) (by rw [zn238]; exact qs13) q91 zq238 (by rw [zn238]; decide +kernel)
theorem zc_12_95_999 : zCS 12 95 281 1 := zk_S rfl (by rw [zn281]; exact q938) (by rw [zn281]; exact q939) (by rw [zn281]; exact q117) zq281 (by rw [zn281]; decide +kernel)
theorem zc_12_139_10 : zCV 12 139 10 240 5 := zk_V (C := "java/util/TreeMap") rfl rfl (by rw [zn240]; exact q941) (by rw [zn240]; exact q943) (by rw [zn240]; exact qs14) q91 zq240 (by rw [zn240]; decide +kernel)
theorem zc_12_123_10 : zCV 12 123 10 239 3 := zk_V (C := "java/util/TreeMap") rfl rfl (by rw [zn239]; exact q667) (by rw [zn239]; exact q668) (by rw [zn239]; exact q669) q91 zq239 (by rw [zn239]; decide +kernel)
theorem zc_12_167_1000 : zCI 12 167 280 4 := zk_I rfl zrr280 (by rw [zn280]) (by rw [zn280]; exact q910) (by rw [zn280]; exact q911) (by rw [zn280]; exact q116) zq280 (by rw [zn280]; decide +kernel)
theorem zc_12_170_10 : zCV 12 170 10 241 2 := zk_V (C := "java/util/TreeMap") rfl rfl (by rw [zn241]; exact q945) (by rw [zn241]; exact q947) (by rw [zn241]; exact qs15) q91 zq241 (by rw [zn241]; decide +kernel)
theorem zc_12_294_999 : zCS 12 294 242 1 := zk_S rfl (by rw [zn242]; exact q949) (by rw [zn242]; exact q950) (by rw [zn242]; exact q91) zq242 (by rw [zn242]; decide +kernel)
theorem zc_12_297_999 : zCS 12 297 243 1 := zk_S rfl (by rw [zn243]; exact q952) (by rw [zn243]; exact q953) (by rw [zn243]; exact q91) zq243 (by rw [zn243]; decide +kernel)
theorem zc_12_300_999 : zCS 12 300 244 1 := zk_S rfl (by rw [zn244]; exact q955) (by rw [zn244]; exact q956) (by rw [zn244]; exact q91) zq244 (by rw [zn244]; decide +kernel)
theorem zc_12_303_999 : zCS 12 303 245 1 := zk_S rfl (by rw [zn245]; exact q958) (by rw [zn245]; exact q959) (by rw [zn245]; exact q91) zq245 (by rw [zn245]; decide +kernel)
theorem zc_12_307_999 : zCS 12 307 246 2 := zk_S rfl (by rw [zn246]; exact q961) (by rw [zn246]; exact q962) (by rw [zn246]; exact q91) zq246 (by rw [zn246]; decide +kernel)
theorem zc_12_311_10 : zCV 12 311 10 247 2 := zk_V (C := "java/util/TreeMap") rfl rfl (by rw [zn247]; exact q964) (by rw [zn247]; exact q966) (by rw [zn247]; exact qs16) q91 zq247 (by rw [zn247]; decide +kernel)
theorem zc_12_314_10 : zCV 12 314 10 248 2 := zk_V (C := "java/util/TreeMap") rfl rfl (by rw [zn248]; exact q968) (by rw [zn248]; exact q970) (by rw [zn248]; exact qs17) q91 zq248 (by rw [zn248]; decide +kernel)
theorem zc_12_50_10 : zCV 12 50 10 250 2 := zk_V (C := "java/util/TreeMap") rfl rfl (by rw [zn250]; exact q976) (by rw [zn250]; exact q977) (by rw [zn250]; exact q978) q91 zq250 (by rw [zn250]; decide +kernel)
theorem zc_12_224_1000 : zCI 12 224 282 2 := zk_I rfl zrr282 (by rw [zn282]) (by rw [zn282]; exact q1137) (by rw [zn282]; exact q1138) (by rw [zn282]; exact q118) zq282 (by rw [zn282]; decide +kernel)
theorem zc_12_54_10 : zCV 12 54 10 254 1 := zk_V (C := "java/util/TreeMap") rfl rfl (by rw [zn254]; exact q1162) (by rw [zn254]; exact q1163) (by rw [zn254]; exact q1164) q91 zq254 (by rw [zn254]; decide +kernel)
theorem zc_12_271_1000 : zCI 12 271 287 3 := zk_I rfl zrr287 (by rw [zn287]) (by rw [zn287]; exact q1166) (by rw [zn287]; exact q1167) (by rw [zn287]; exact q120) zq287 (by rw [zn287]; decide +kernel)
theorem zc_14_1_1000 : zCI 14 1 256 1 := zk_I rfl zrr256 (by rw [zn256]) (by rw [zn256]; exact q206) (by rw [zn256]; exact q207) (by rw [zn256]; exact q92) zq256 (by rw [zn256]; decide +kernel)
theorem zc_15_15_1000 : zCI 15 15 233 1 := zk_I rfl zrr233 (by rw [zn233]) (by rw [zn233]; exact q199) (by rw [zn233]; exact q161) (by rw [zn233]; exact q91) zq233 (by rw [zn233]; decide +kernel)
theorem zc_15_16_1000 : zCI 15 16 260 2 := zk_I rfl zrr260 (by rw [zn260]) (by rw [zn260]; exact q200) (by rw [zn260]; exact q201) (by rw [zn260]; exact q94) zq260 (by rw [zn260]; decide +kernel)
theorem zc_15_1_1000 : zCI 15 1 258 1 := zk_I rfl zrr258 (by rw [zn258]) (by rw [zn258]; exact q203) (by rw [zn258]; exact q204) (by rw [zn258]; exact q93) zq258 (by rw [zn258]; decide +kernel)
theorem zc_17_16_1000 : zCI 17 16 267 5 := zk_I rfl zrr267 (by rw [zn267]) (by rw [zn267]; exact q481) (by rw [zn267]; exact q482) (by rw [zn267]; exact q99) zq267 (by rw [zn267]; decide +kernel)
theorem zc_18_284_32 : zCV 18 284 32 271 2 := zk_V (C := "java/lang/Integer") rfl rfl (by rw [zn271]; exact q704) (by rw [zn271]; exact q705) (by rw [zn271]; exact q706) q105 zq271 (by rw [zn271]; decide +kernel)
theorem zc_18_259_999 : zCS 18 259 272 2 := zk_S rfl (by rw [zn272]; exact q708) (by rw [zn272]; exact q709) (by rw [zn272]; exact q105) zq272 (by rw [zn272]; decide +kernel)
theorem zc_19_1059_999 : zCS 19 1059 279 3 := zk_S rfl (by rw [zn279]; exact q1405) (by rw [zn279]; exact q1406) (by rw [zn279]; exact q115) zq279 (by rw [zn279]; decide +kernel)
theorem zc_22_194_999 : zCS 22 194 277 2 := zk_S rfl (by rw [zn277]; exact q1355) (by rw [zn277]; exact q994) (by rw [zn277]; exact q109) zq277 (by rw [zn277]; decide +kernel)
theorem zc_26_1_1000 : zCI 26 1 258 1 := zk_I rfl zrr258 (by rw [zn258]) (by rw [zn258]; exact q1140) (by rw [zn258]; exact q204) (by rw [zn258]; exact q93) zq258 (by rw [zn258]; decide +kernel)
theorem zc_26_15_10 : zCV 26 15 10 253 1 := zk_V (C := "java/util/TreeMap") rfl rfl (by rw [zn253]; exact q1156) (by rw [zn253]; exact q1157) (by rw [zn253]; exact q1158) q91 zq253 (by rw [zn253]; decide +kernel)
theorem zc_27_35_999 : zCS 27 35 255 1 := zk_S rfl (by rw [zn255]; exact q1219) (by rw [zn255]; exact q1220) (by rw [zn255]; exact q91) zq255 (by rw [zn255]; decide +kernel)
theorem zc_28_1_1000 : zCI 28 1 284 3 := zk_I rfl zrr284 (by rw [zn284]) (by rw [zn284]; exact q1169) (by rw [zn284]; exact q1170) (by rw [zn284]; exact q119) zq284 (by rw [zn284]; decide +kernel)
theorem zc_29_191_999 : zCS 29 191 275 1 := zk_S rfl (by rw [zn275]; exact q1371) (by rw [zn275]; exact q1372) (by rw [zn275]; exact q108) zq275 (by rw [zn275]; decide +kernel)
theorem zc_29_108_999 : zCS 29 108 300 2 := zk_S rfl (by rw [zn300]; exact q1361) (by rw [zn300]; exact q1362) (by rw [zn300]; exact q123) zq300 (by rw [zn300]; decide +kernel)
theorem zc_29_114_999 : zCS 29 114 278 3 := zk_S rfl (by rw [zn278]; exact q1352) (by rw [zn278]; exact q1353) (by rw [zn278]; exact q110) zq278 (by rw [zn278]; decide +kernel)
theorem zc_29_138_999 : zCS 29 138 276 2 := zk_S rfl (by rw [zn276]; exact q1427) (by rw [zn276]; exact q737) (by rw [zn276]; exact q109) zq276 (by rw [zn276]; decide +kernel)
theorem zc_29_144_999 : zCS 29 144 274 2 := zk_S rfl (by rw [zn274]; exact q1428) (by rw [zn274]; exact q1403) (by rw [zn274]; exact q107) zq274 (by rw [zn274]; decide +kernel)
theorem zc_30_1_1000 : zCI 30 1 290 2 := zk_I rfl zrr290 (by rw [zn290]) (by rw [zn290]; exact q1311) (by rw [zn290]; exact q1312) (by rw [zn290]; exact q121) zq290 (by rw [zn290]; decide +kernel)
theorem zc_31_304_999 : zCS 31 304 276 2 := zk_S rfl (by rw [zn276]; exact q1369) (by rw [zn276]; exact q737) (by rw [zn276]; exact q109) zq276 (by rw [zn276]; decide +kernel)
theorem zc_31_300_999 : zCS 31 300 302 3 := zk_S rfl (by rw [zn302]; exact q1600) (by rw [zn302]; exact q1601) (by rw [zn302]; exact q123) zq302 (by rw [zn302]; decide +kernel)
theorem zc_32_1_1000 : zCI 32 1 256 1 := zk_I rfl zrr256 (by rw [zn256]) (by rw [zn256]; exact q1546) (by rw [zn256]; exact q207) (by rw [zn256]; exact q92) zq256 (by rw [zn256]; decide +kernel)
theorem zc_33_7_1000 : zCI 33 7 303 1 := zk_I rfl zrr303 (by rw [zn303]) (by rw [zn303]; exact q1543) (by rw [zn303]; exact q1544) (by rw [zn303]; exact q124) zq303 (by rw [zn303]; decide +kernel)
theorem zc_33_89_15 : zCV 33 89 15 306 2 := zk_V (C := "java/util/PriorityQueue") rfl rfl (by rw [zn306]; exact q1566) (by rw [zn306]; exact q1567) (by rw [zn306]; exact q1568) q125 zq306 (by rw [zn306]; decide +kernel)
theorem zc_33_96_15 : zCV 33 96 15 307 2 := zk_V (C := "java/util/PriorityQueue") rfl rfl (by rw [zn307]; exact q1570) (by rw [zn307]; exact q1572) (by rw [zn307]; exact qs43) q125 zq307 (by rw [zn307]; decide +kernel)
theorem zc_33_100_15 : zCV 33 100 15 308 3 := zk_V (C := "java/util/PriorityQueue") rfl rfl (by rw [zn308]; exact q1605) (by rw [zn308]; exact q1607) (by rw [zn308]; exact qs44) q125 zq308 (by rw [zn308]; decide +kernel)
theorem zc_33_80_999 : zCS 33 80 278 3 := zk_S rfl (by rw [zn278]; exact q1574) (by rw [zn278]; exact q1353) (by rw [zn278]; exact q110) zq278 (by rw [zn278]; decide +kernel)
theorem zc_33_86_999 : zCS 33 86 301 2 := zk_S rfl (by rw [zn301]; exact q1575) (by rw [zn301]; exact q1576) (by rw [zn301]; exact q123) zq301 (by rw [zn301]; decide +kernel)
theorem zc_33_136_999 : zCS 33 136 309 4 := zk_S rfl (by rw [zn309]; exact q1609) (by rw [zn309]; exact q1610) (by rw [zn309]; exact q125) zq309 (by rw [zn309]; decide +kernel)
theorem zc_33_129_999 : zCS 33 129 312 5 := zk_S rfl (by rw [zn312]; exact q1644) (by rw [zn312]; exact q1645) (by rw [zn312]; exact q125) zq312 (by rw [zn312]; decide +kernel)
