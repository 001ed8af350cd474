/-! SIMULATION, IV: what the tables' numbers stand for -/
set_option maxRecDepth 100000
def znml : List (Nat × String) := [(1, "DependencyPairAnalyzerLaw"), (2, "DependencyPairAnalyzer"), (3, "DependencyPairAnalyzer$Reader"), (4, "DependencyPairAnalyzer$SizeChangeGraph"), (5, "DependencyPairAnalyzer$Term"), (6, "DependencyPairAnalyzer$SyntaxException"), (7, "DependencyPairAnalyzer$Rule"), (8, "DependencyPairAnalyzer$Pair"), (9, "DependencyPairAnalyzer$TermComparator"), (10, "DependencyPairAnalyzerModel"), (11, "java/util/AbstractMap"), (12, "java/util/TreeMap"), (13, "java/util/AbstractCollection"), (14, "java/util/AbstractSet"), (15, "java/util/TreeSet"), (16, "java/lang/Throwable"), (17, "java/lang/Exception"), (18, "java/lang/Integer"), (19, "java/lang/String"), (20, "java/lang/StringLatin1"), (21, "java/lang/Math"), (22, "jdk/internal/util/ArraysSupport"), (23, "jdk/internal/util/Preconditions"), (24, "java/util/TreeMap$Entry"), (25, "java/util/Objects"), (26, "java/util/TreeMap$KeySet"), (27, "java/util/TreeMap$PrivateEntryIterator"), (28, "java/util/TreeMap$KeyIterator"), (29, "java/lang/AbstractStringBuilder"), (30, "java/lang/StringBuilder"), (31, "java/util/Arrays"), (32, "java/util/AbstractQueue"), (33, "java/util/PriorityQueue")]
def znm (o : Nat) : String := (zlk znml o).getD ""
theorem zlk_mem {α : Type} : ∀ {l : List (Nat × α)} {q : Nat} {v : α}, zlk l q = some v → (q, v) ∈ l
  | [], _, _, h => by cases h
  | (k, w) :: r, q, v, h => by
    unfold zlk at h
    cases hb : Nat.beq k q with
    | true =>
      rw [hb] at h
      have e := Nat.eq_of_beq_eq_true hb
      cases h
      rw [e]
      exact List.mem_cons_self
    | false =>
      rw [hb] at h
      exact List.mem_cons_of_mem _ (zlk_mem h)
def zNwF : List Jvm.Cond := [(Jvm.Cond.fieldLinkNest "java/util/TreeMap$PrivateEntryIterator" (13 : Nat) "java/util/TreeMap" "modCount" "I" "java/util/TreeMap"),
  (Jvm.Cond.fieldLinkNest "DependencyPairAnalyzer" (286 : Nat) "DependencyPairAnalyzer$SizeChangeGraph" "from" "I" "DependencyPairAnalyzer"),
  (Jvm.Cond.fieldLinkNest "DependencyPairAnalyzer" (289 : Nat) "DependencyPairAnalyzer$SizeChangeGraph" "to" "I" "DependencyPairAnalyzer"),
  (Jvm.Cond.fieldLinkNest "DependencyPairAnalyzer$Pair" (55 : Nat) "DependencyPairAnalyzer$SizeChangeGraph" "relations" "[I" "DependencyPairAnalyzer"),
  (Jvm.Cond.fieldLinkNest "DependencyPairAnalyzer" (204 : Nat) "DependencyPairAnalyzer$Term" "symbols" "[B" "DependencyPairAnalyzer"),
  (Jvm.Cond.fieldLinkNest "DependencyPairAnalyzer$Pair" (31 : Nat) "DependencyPairAnalyzer$Term" "ends" "[I" "DependencyPairAnalyzer"),
  (Jvm.Cond.fieldLinkNest "DependencyPairAnalyzer" (201 : Nat) "DependencyPairAnalyzer$Term" "ends" "[I" "DependencyPairAnalyzer"),
  (Jvm.Cond.fieldLinkNest "DependencyPairAnalyzer$Reader" (39 : Nat) "DependencyPairAnalyzer" "arities" "[I" "DependencyPairAnalyzer"),
  (Jvm.Cond.fieldLinkNest "DependencyPairAnalyzer$Reader" (61 : Nat) "DependencyPairAnalyzer" "buffer" "[B" "DependencyPairAnalyzer"),
  (Jvm.Cond.fieldLinkNest "DependencyPairAnalyzer$Reader" (58 : Nat) "DependencyPairAnalyzer" "built" "I" "DependencyPairAnalyzer"),
  (Jvm.Cond.fieldLinkNest "DependencyPairAnalyzer$Reader" (22 : Nat) "DependencyPairAnalyzer" "text" "[B" "DependencyPairAnalyzer"),
  (Jvm.Cond.fieldLinkNest "DependencyPairAnalyzer$Reader" (17 : Nat) "DependencyPairAnalyzer" "length" "I" "DependencyPairAnalyzer"),
  (Jvm.Cond.fieldLinkNest "DependencyPairAnalyzer" (189 : Nat) "DependencyPairAnalyzer$SyntaxException" "position" "I" "DependencyPairAnalyzer"),
  (Jvm.Cond.fieldLinkNest "DependencyPairAnalyzer" (157 : Nat) "DependencyPairAnalyzer$Rule" "left" "LDependencyPairAnalyzer$Term;" "DependencyPairAnalyzer"),
  (Jvm.Cond.fieldLinkNest "DependencyPairAnalyzer" (161 : Nat) "DependencyPairAnalyzer$Rule" "right" "LDependencyPairAnalyzer$Term;" "DependencyPairAnalyzer"),
  (Jvm.Cond.fieldLinkNest "DependencyPairAnalyzer" (246 : Nat) "DependencyPairAnalyzer$Pair" "rule" "I" "DependencyPairAnalyzer"),
  (Jvm.Cond.fieldLinkNest "DependencyPairAnalyzer" (208 : Nat) "DependencyPairAnalyzer$Pair" "position" "I" "DependencyPairAnalyzer"),
  (Jvm.Cond.fieldLinkNest "DependencyPairAnalyzer" (209 : Nat) "DependencyPairAnalyzer$Pair" "source" "LDependencyPairAnalyzer$Term;" "DependencyPairAnalyzer"),
  (Jvm.Cond.fieldLinkNest "DependencyPairAnalyzer" (207 : Nat) "DependencyPairAnalyzer$Pair" "right" "LDependencyPairAnalyzer$Term;" "DependencyPairAnalyzer"),
  (Jvm.Cond.fieldLinkNest "DependencyPairAnalyzer" (283 : Nat) "DependencyPairAnalyzer$Pair" "graph" "LDependencyPairAnalyzer$SizeChangeGraph;" "DependencyPairAnalyzer")]
def zkty (k : Nat) (ty : FieldType) : Prop := (k = 0 ∧ ty = .int) ∨ (k = 1 ∧ ty = .boolean) ∨ (k = 2 ∧ ty = .byte) ∨ (k = 3 ∧ ty.isReference = true)
def zfn (t k : Nat) : Nat := ((zlk zfnl t).getD []).getD k 999
/-- a class by its tag -/
def zTok (t : Nat) : Prop := ∃ (C : String) (T : u_T) (N : Nat) (ty0 : Nat → FieldType), zcl[t - 1]? = some (C, T, N) ∧ znf t = N ∧ (∀ w ∈ u_ws C T N, w ∈ lw_all) ∧ (∀ k, k < N → parseFieldDescriptor (T k).2.2.1 = some (ty0 k)) ∧ (∀ a, a < N → ∀ b, b < N → a ≠ b → (T a).2.1 ≠ (T b).2.1) ∧ (∀ k, k < N → zkty (zfk t k) (ty0 k)) ∧ (∀ k, k < N → ((T k).2.2.2 = false ∧ zfn t k = 0) ∨ ((T k).2.2.2 = true ∧ zfn t k ≠ 0 ∧ (T k).1 = znm (zfn t k) ∨ zfn t k = 999)) ∧ Cond.instantiable C N ∈ lw_all ∧ Cond.initialized C ∈ lw_all
theorem zdec {n : Nat} {p : Nat → Bool} (h : (List.range n).all p = true) (k : Nat) (hk : k < n) : p k = true := List.all_eq_true.mp h k (List.mem_range.mpr hk)
theorem zdec2 {b : Bool} {f : Nat} {c : String} {n : String} (h : ((b == false && f == 0) || (b == true && !(f == 0) && c == n) || f == 999) = true) : (b = false ∧ f = 0) ∨ (b = true ∧ f ≠ 0 ∧ c = n ∨ f = 999) := by
  simp only [Bool.or_eq_true, Bool.and_eq_true, beq_iff_eq, Bool.not_eq_true', beq_eq_false_iff_ne] at h
  rcases h with (h | h) | h
  · exact Or.inl h
  · exact Or.inr (Or.inl ⟨h.1.1, h.1.2, h.2⟩)
  · exact Or.inr (Or.inr h)
theorem zkty_dec {k : Nat} {ty : FieldType} (h : ((k == 0 && ty == .int) || (k == 1 && ty == .boolean) || (k == 2 && ty == .byte) || (k == 3 && ty.isReference)) = true) : zkty k ty := by
  unfold zkty
  simp only [Bool.or_eq_true, Bool.and_eq_true, beq_iff_eq] at h
  rcases h with ((h | h) | h) | h
  · exact Or.inl h
  · exact Or.inr (Or.inl h)
  · exact Or.inr (Or.inr (Or.inl h))
  · exact Or.inr (Or.inr (Or.inr h))
theorem zTok_1 : zTok 1 := ⟨RX0, TX0, 33, tyX0, rfl, rfl, in_X0, tyX0_ok, nmX0, (fun k hk => zkty_dec (k := zfk 1 k) (ty := tyX0 k) (zdec (n := 33) (p := fun k => ((zfk 1 k == 0 && tyX0 k == .int) || (zfk 1 k == 1 && tyX0 k == .boolean) || (zfk 1 k == 2 && tyX0 k == .byte) || (zfk 1 k == 3 && (tyX0 k).isReference))) (by decide +kernel) k hk)), (fun k hk => zdec2 (zdec (n := 33) (p := fun k => ((TX0 k).2.2.2 == false && zfn 1 k == 0) || ((TX0 k).2.2.2 == true && !(zfn 1 k == 0) && (TX0 k).1 == znm (zfn 1 k)) || zfn 1 k == 999) (by decide +kernel) k hk)), q128, q88⟩
theorem zTok_2 : zTok 2 := ⟨RX1, TX1, 2, tyX1, rfl, rfl, in_X1, tyX1_ok, nmX1, (fun k hk => zkty_dec (k := zfk 2 k) (ty := tyX1 k) (zdec (n := 2) (p := fun k => ((zfk 2 k == 0 && tyX1 k == .int) || (zfk 2 k == 1 && tyX1 k == .boolean) || (zfk 2 k == 2 && tyX1 k == .byte) || (zfk 2 k == 3 && (tyX1 k).isReference))) (by decide +kernel) k hk)), (fun k hk => zdec2 (zdec (n := 2) (p := fun k => ((TX1 k).2.2.2 == false && zfn 2 k == 0) || ((TX1 k).2.2.2 == true && !(zfn 2 k == 0) && (TX1 k).1 == znm (zfn 2 k)) || zfn 2 k == 999) (by decide +kernel) k hk)), q140, q89⟩
theorem zTok_3 : zTok 3 := ⟨RX2, TX2, 3, tyX2, rfl, rfl, in_X2, tyX2_ok, nmX2, (fun k hk => zkty_dec (k := zfk 3 k) (ty := tyX2 k) (zdec (n := 3) (p := fun k => ((zfk 3 k == 0 && tyX2 k == .int) || (zfk 3 k == 1 && tyX2 k == .boolean) || (zfk 3 k == 2 && tyX2 k == .byte) || (zfk 3 k == 3 && (tyX2 k).isReference))) (by decide +kernel) k hk)), (fun k hk => zdec2 (zdec (n := 3) (p := fun k => ((TX2 k).2.2.2 == false && zfn 3 k == 0) || ((TX2 k).2.2.2 == true && !(zfn 3 k == 0) && (TX2 k).1 == znm (zfn 3 k)) || zfn 3 k == 999) (by decide +kernel) k hk)), q216, q95⟩
theorem zTok_4 : zTok 4 := ⟨RX3, TX3, 2, tyX3, rfl, rfl, in_X3, tyX3_ok, nmX3, (fun k hk => zkty_dec (k := zfk 4 k) (ty := tyX3 k) (zdec (n := 2) (p := fun k => ((zfk 4 k == 0 && tyX3 k == .int) || (zfk 4 k == 1 && tyX3 k == .boolean) || (zfk 4 k == 2 && tyX3 k == .byte) || (zfk 4 k == 3 && (tyX3 k).isReference))) (by decide +kernel) k hk)), (fun k hk => zdec2 (zdec (n := 2) (p := fun k => ((TX3 k).2.2.2 == false && zfn 4 k == 0) || ((TX3 k).2.2.2 == true && !(zfn 4 k == 0) && (TX3 k).1 == znm (zfn 4 k)) || zfn 4 k == 999) (by decide +kernel) k hk)), q242, q96⟩
theorem zTok_5 : zTok 5 := ⟨RX5, TX5, 7, tyX5, rfl, rfl, in_X5, tyX5_ok, nmX5, (fun k hk => zkty_dec (k := zfk 5 k) (ty := tyX5 k) (zdec (n := 7) (p := fun k => ((zfk 5 k == 0 && tyX5 k == .int) || (zfk 5 k == 1 && tyX5 k == .boolean) || (zfk 5 k == 2 && tyX5 k == .byte) || (zfk 5 k == 3 && (tyX5 k).isReference))) (by decide +kernel) k hk)), (fun k hk => zdec2 (zdec (n := 7) (p := fun k => ((TX5 k).2.2.2 == false && zfn 5 k == 0) || ((TX5 k).2.2.2 == true && !(zfn 5 k == 0) && (TX5 k).1 == znm (zfn 5 k)) || zfn 5 k == 999) (by decide +kernel) k hk)), q439, q101⟩
theorem zTok_6 : zTok 6 := ⟨RX6, TX6, 2, tyX6, rfl, rfl, in_X6, tyX6_ok, nmX6, (fun k hk => zkty_dec (k := zfk 6 k) (ty := tyX6 k) (zdec (n := 2) (p := fun k => ((zfk 6 k == 0 && tyX6 k == .int) || (zfk 6 k == 1 && tyX6 k == .boolean) || (zfk 6 k == 2 && tyX6 k == .byte) || (zfk 6 k == 3 && (tyX6 k).isReference))) (by decide +kernel) k hk)), (fun k hk => zdec2 (zdec (n := 2) (p := fun k => ((TX6 k).2.2.2 == false && zfn 6 k == 0) || ((TX6 k).2.2.2 == true && !(zfn 6 k == 0) && (TX6 k).1 == znm (zfn 6 k)) || zfn 6 k == 999) (by decide +kernel) k hk)), q509, q102⟩
theorem zTok_7 : zTok 7 := ⟨RX7, TX7, 5, tyX7, rfl, rfl, in_X7, tyX7_ok, nmX7, (fun k hk => zkty_dec (k := zfk 7 k) (ty := tyX7 k) (zdec (n := 5) (p := fun k => ((zfk 7 k == 0 && tyX7 k == .int) || (zfk 7 k == 1 && tyX7 k == .boolean) || (zfk 7 k == 2 && tyX7 k == .byte) || (zfk 7 k == 3 && (tyX7 k).isReference))) (by decide +kernel) k hk)), (fun k hk => zdec2 (zdec (n := 5) (p := fun k => ((TX7 k).2.2.2 == false && zfn 7 k == 0) || ((TX7 k).2.2.2 == true && !(zfn 7 k == 0) && (TX7 k).1 == znm (zfn 7 k)) || zfn 7 k == 999) (by decide +kernel) k hk)), q582, q103⟩
theorem zTok_8 : zTok 8 := ⟨RX8, TX8, 0, fun _ => .int, rfl, rfl, fun w h => absurd h List.not_mem_nil, fun k h => absurd h (Nat.not_lt_zero _), fun k h => absurd h (Nat.not_lt_zero _), fun k h => absurd h (Nat.not_lt_zero _), fun k h => absurd h (Nat.not_lt_zero _), q1534, q126⟩
theorem zTok_9 : zTok 9 := ⟨RX4, TX4, 41, tyX4, rfl, rfl, in_X4, tyX4_ok, nmX4, (fun k hk => zkty_dec (k := zfk 9 k) (ty := tyX4 k) (zdec (n := 41) (p := fun k => ((zfk 9 k == 0 && tyX4 k == .int) || (zfk 9 k == 1 && tyX4 k == .boolean) || (zfk 9 k == 2 && tyX4 k == .byte) || (zfk 9 k == 3 && (tyX4 k).isReference))) (by decide +kernel) k hk)), (fun k hk => zdec2 (zdec (n := 41) (p := fun k => ((TX4 k).2.2.2 == false && zfn 9 k == 0) || ((TX4 k).2.2.2 == true && !(zfn 9 k == 0) && (TX4 k).1 == znm (zfn 9 k)) || zfn 9 k == 999) (by decide +kernel) k hk)), q1676, q98⟩
theorem zTok_10 : zTok 10 := ⟨RJ1, TJ1, 9, tyJ1, rfl, rfl, in_J1, tyJ1_ok, nmJ1, (fun k hk => zkty_dec (k := zfk 10 k) (ty := tyJ1 k) (zdec (n := 9) (p := fun k => ((zfk 10 k == 0 && tyJ1 k == .int) || (zfk 10 k == 1 && tyJ1 k == .boolean) || (zfk 10 k == 2 && tyJ1 k == .byte) || (zfk 10 k == 3 && (tyJ1 k).isReference))) (by decide +kernel) k hk)), (fun k hk => zdec2 (zdec (n := 9) (p := fun k => ((TJ1 k).2.2.2 == false && zfn 10 k == 0) || ((TJ1 k).2.2.2 == true && !(zfn 10 k == 0) && (TJ1 k).1 == znm (zfn 10 k)) || zfn 10 k == 999) (by decide +kernel) k hk)), q159, q91⟩
theorem zTok_11 : zTok 11 := ⟨RJ17, TJ17, 6, tyJ17, rfl, rfl, in_J17, tyJ17_ok, nmJ17, (fun k hk => zkty_dec (k := zfk 11 k) (ty := tyJ17 k) (zdec (n := 6) (p := fun k => ((zfk 11 k == 0 && tyJ17 k == .int) || (zfk 11 k == 1 && tyJ17 k == .boolean) || (zfk 11 k == 2 && tyJ17 k == .byte) || (zfk 11 k == 3 && (tyJ17 k).isReference))) (by decide +kernel) k hk)), (fun k hk => zdec2 (zdec (n := 6) (p := fun k => ((TJ17 k).2.2.2 == false && zfn 11 k == 0) || ((TJ17 k).2.2.2 == true && !(zfn 11 k == 0) && (TJ17 k).1 == znm (zfn 11 k)) || zfn 11 k == 999) (by decide +kernel) k hk)), q909, q116⟩
theorem zTok_12 : zTok 12 := ⟨RJ19, TJ19, 1, tyJ19, rfl, rfl, in_J19, tyJ19_ok, nmJ19, (fun k hk => zkty_dec (k := zfk 12 k) (ty := tyJ19 k) (zdec (n := 1) (p := fun k => ((zfk 12 k == 0 && tyJ19 k == .int) || (zfk 12 k == 1 && tyJ19 k == .boolean) || (zfk 12 k == 2 && tyJ19 k == .byte) || (zfk 12 k == 3 && (tyJ19 k).isReference))) (by decide +kernel) k hk)), (fun k hk => zdec2 (zdec (n := 1) (p := fun k => ((TJ19 k).2.2.2 == false && zfn 12 k == 0) || ((TJ19 k).2.2.2 == true && !(zfn 12 k == 0) && (TJ19 k).1 == znm (zfn 12 k)) || zfn 12 k == 999) (by decide +kernel) k hk)), q1136, q118⟩
theorem zTok_13 : zTok 13 := ⟨RJ21, TJ21, 4, tyJ21, rfl, rfl, in_J21, tyJ21_ok, nmJ21, (fun k hk => zkty_dec (k := zfk 13 k) (ty := tyJ21 k) (zdec (n := 4) (p := fun k => ((zfk 13 k == 0 && tyJ21 k == .int) || (zfk 13 k == 1 && tyJ21 k == .boolean) || (zfk 13 k == 2 && tyJ21 k == .byte) || (zfk 13 k == 3 && (tyJ21 k).isReference))) (by decide +kernel) k hk)), (fun k hk => zdec2 (zdec (n := 4) (p := fun k => ((TJ21 k).2.2.2 == false && zfn 13 k == 0) || ((TJ21 k).2.2.2 == true && !(zfn 13 k == 0) && (TJ21 k).1 == znm (zfn 13 k)) || zfn 13 k == 999) (by decide +kernel) k hk)), q1161, q120⟩
theorem zTok_14 : zTok 14 := ⟨RJ4, TJ4, 1, tyJ4, rfl, rfl, in_J4, tyJ4_ok, nmJ4, (fun k hk => zkty_dec (k := zfk 14 k) (ty := tyJ4 k) (zdec (n := 1) (p := fun k => ((zfk 14 k == 0 && tyJ4 k == .int) || (zfk 14 k == 1 && tyJ4 k == .boolean) || (zfk 14 k == 2 && tyJ4 k == .byte) || (zfk 14 k == 3 && (tyJ4 k).isReference))) (by decide +kernel) k hk)), (fun k hk => zdec2 (zdec (n := 1) (p := fun k => ((TJ4 k).2.2.2 == false && zfn 14 k == 0) || ((TJ4 k).2.2.2 == true && !(zfn 14 k == 0) && (TJ4 k).1 == znm (zfn 14 k)) || zfn 14 k == 999) (by decide +kernel) k hk)), q194, q94⟩
theorem zTok_15 : zTok 15 := ⟨RJ26, TJ26, 4, tyJ26, rfl, rfl, in_J26, tyJ26_ok, nmJ26, (fun k hk => zkty_dec (k := zfk 15 k) (ty := tyJ26 k) (zdec (n := 4) (p := fun k => ((zfk 15 k == 0 && tyJ26 k == .int) || (zfk 15 k == 1 && tyJ26 k == .boolean) || (zfk 15 k == 2 && tyJ26 k == .byte) || (zfk 15 k == 3 && (tyJ26 k).isReference))) (by decide +kernel) k hk)), (fun k hk => zdec2 (zdec (n := 4) (p := fun k => ((TJ26 k).2.2.2 == false && zfn 15 k == 0) || ((TJ26 k).2.2.2 == true && !(zfn 15 k == 0) && (TJ26 k).1 == znm (zfn 15 k)) || zfn 15 k == 999) (by decide +kernel) k hk)), q1532, q125⟩
theorem zTok_16 : zTok 16 := ⟨RJ23, TJ23, 4, tyJ23, rfl, rfl, in_J23, tyJ23_ok, nmJ23, (fun k hk => zkty_dec (k := zfk 16 k) (ty := tyJ23 k) (zdec (n := 4) (p := fun k => ((zfk 16 k == 0 && tyJ23 k == .int) || (zfk 16 k == 1 && tyJ23 k == .boolean) || (zfk 16 k == 2 && tyJ23 k == .byte) || (zfk 16 k == 3 && (tyJ23 k).isReference))) (by decide +kernel) k hk)), (fun k hk => zdec2 (zdec (n := 4) (p := fun k => ((TJ23 k).2.2.2 == false && zfn 16 k == 0) || ((TJ23 k).2.2.2 == true && !(zfn 16 k == 0) && (TJ23 k).1 == znm (zfn 16 k)) || zfn 16 k == 999) (by decide +kernel) k hk)), q1307, q122⟩
theorem zTok_all : ∀ t, 1 ≤ t → t ≤ 16 → zTok t := by
  intro t h1 h2
  match t, h1, h2 with
  | 1, _, _ => exact zTok_1
  | 2, _, _ => exact zTok_2
  | 3, _, _ => exact zTok_3
  | 4, _, _ => exact zTok_4
  | 5, _, _ => exact zTok_5
  | 6, _, _ => exact zTok_6
  | 7, _, _ => exact zTok_7
  | 8, _, _ => exact zTok_8
  | 9, _, _ => exact zTok_9
  | 10, _, _ => exact zTok_10
  | 11, _, _ => exact zTok_11
  | 12, _, _ => exact zTok_12
  | 13, _, _ => exact zTok_13
  | 14, _, _ => exact zTok_14
  | 15, _, _ => exact zTok_15
  | 16, _, _ => exact zTok_16
  | n + 17, _, h2 => omega
/-- a field's link -/
def zFok (o i t k : Nat) : Prop := (t = 32 ∧ k = 0 ∧ o = 18 ∧ i = 205) ∨ (1 ≤ t ∧ t ≤ 16 ∧ k < znf t ∧ ∀ C T N, zcl[t - 1]? = some (C, T, N) → (Cond.fieldLink (znm o) i (T k).1 (T k).2.1 (T k).2.2.1 ∈ lw_all ∨ ∃ host, Cond.fieldLinkNest (znm o) i (T k).1 (T k).2.1 (T k).2.2.1 host ∈ zNwF ∧ (zfn t k = 0 ∨ zfn t k ≠ o)))
theorem zFok_2_7 : zFok 2 7 1 0 := Or.inr ⟨by decide, by decide, by decide +kernel, fun C T N h => by cases h; exact Or.inl q271⟩
theorem zFok_2_15 : zFok 2 15 1 1 := Or.inr ⟨by decide, by decide, by decide +kernel, fun C T N h => by cases h; exact Or.inl q273⟩
theorem zFok_2_21 : zFok 2 21 1 3 := Or.inr ⟨by decide, by decide, by decide +kernel, fun C T N h => by cases h; exact Or.inl q275⟩
theorem zFok_2_25 : zFok 2 25 1 4 := Or.inr ⟨by decide, by decide, by decide +kernel, fun C T N h => by cases h; exact Or.inl q276⟩
theorem zFok_2_29 : zFok 2 29 1 6 := Or.inr ⟨by decide, by decide, by decide +kernel, fun C T N h => by cases h; exact Or.inl q281⟩
theorem zFok_2_37 : zFok 2 37 1 8 := Or.inr ⟨by decide, by decide, by decide +kernel, fun C T N h => by cases h; exact Or.inl q284⟩
theorem zFok_2_41 : zFok 2 41 1 9 := Or.inr ⟨by decide, by decide, by decide +kernel, fun C T N h => by cases h; exact Or.inl q285⟩
theorem zFok_2_47 : zFok 2 47 1 10 := Or.inr ⟨by decide, by decide, by decide +kernel, fun C T N h => by cases h; exact Or.inl q286⟩
theorem zFok_2_53 : zFok 2 53 1 12 := Or.inr ⟨by decide, by decide, by decide +kernel, fun C T N h => by cases h; exact Or.inl q288⟩
theorem zFok_2_56 : zFok 2 56 1 13 := Or.inr ⟨by decide, by decide, by decide +kernel, fun C T N h => by cases h; exact Or.inl q289⟩
theorem zFok_2_59 : zFok 2 59 1 15 := Or.inr ⟨by decide, by decide, by decide +kernel, fun C T N h => by cases h; exact Or.inl q291⟩
theorem zFok_2_63 : zFok 2 63 1 16 := Or.inr ⟨by decide, by decide, by decide +kernel, fun C T N h => by cases h; exact Or.inl q292⟩
theorem zFok_2_69 : zFok 2 69 1 17 := Or.inr ⟨by decide, by decide, by decide +kernel, fun C T N h => by cases h; exact Or.inl q293⟩
theorem zFok_2_76 : zFok 2 76 1 18 := Or.inr ⟨by decide, by decide, by decide +kernel, fun C T N h => by cases h; exact Or.inl q294⟩
theorem zFok_2_82 : zFok 2 82 1 19 := Or.inr ⟨by decide, by decide, by decide +kernel, fun C T N h => by cases h; exact Or.inl q295⟩
theorem zFok_2_89 : zFok 2 89 1 20 := Or.inr ⟨by decide, by decide, by decide +kernel, fun C T N h => by cases h; exact Or.inl q296⟩
theorem zFok_2_93 : zFok 2 93 1 23 := Or.inr ⟨by decide, by decide, by decide +kernel, fun C T N h => by cases h; exact Or.inl q299⟩
theorem zFok_2_96 : zFok 2 96 1 24 := Or.inr ⟨by decide, by decide, by decide +kernel, fun C T N h => by cases h; exact Or.inl q300⟩
theorem zFok_2_99 : zFok 2 99 1 25 := Or.inr ⟨by decide, by decide, by decide +kernel, fun C T N h => by cases h; exact Or.inl q301⟩
theorem zFok_2_102 : zFok 2 102 1 26 := Or.inr ⟨by decide, by decide, by decide +kernel, fun C T N h => by cases h; exact Or.inl q302⟩
theorem zFok_2_105 : zFok 2 105 1 27 := Or.inr ⟨by decide, by decide, by decide +kernel, fun C T N h => by cases h; exact Or.inl q303⟩
theorem zFok_2_108 : zFok 2 108 1 29 := Or.inr ⟨by decide, by decide, by decide +kernel, fun C T N h => by cases h; exact Or.inl q305⟩
theorem zFok_2_111 : zFok 2 111 1 30 := Or.inr ⟨by decide, by decide, by decide +kernel, fun C T N h => by cases h; exact Or.inl q306⟩
theorem zFok_2_114 : zFok 2 114 1 32 := Or.inr ⟨by decide, by decide, by decide +kernel, fun C T N h => by cases h; exact Or.inl q308⟩
theorem zFok_2_121 : zFok 2 121 1 5 := Or.inr ⟨by decide, by decide, by decide +kernel, fun C T N h => by cases h; exact Or.inl q278⟩
theorem zFok_2_138 : zFok 2 138 1 2 := Or.inr ⟨by decide, by decide, by decide +kernel, fun C T N h => by cases h; exact Or.inl q274⟩
theorem zFok_2_154 : zFok 2 154 1 7 := Or.inr ⟨by decide, by decide, by decide +kernel, fun C T N h => by cases h; exact Or.inl q283⟩
theorem zFok_2_189 : zFok 2 189 5 6 := Or.inr ⟨by decide, by decide, by decide +kernel, fun C T N h => by cases h; exact Or.inr ⟨_, List.mem_of_getElem? (i := 12) rfl, by decide +kernel⟩⟩
theorem zFok_2_157 : zFok 2 157 6 0 := Or.inr ⟨by decide, by decide, by decide +kernel, fun C T N h => by cases h; exact Or.inr ⟨_, List.mem_of_getElem? (i := 13) rfl, by decide +kernel⟩⟩
theorem zFok_2_161 : zFok 2 161 6 1 := Or.inr ⟨by decide, by decide, by decide +kernel, fun C T N h => by cases h; exact Or.inr ⟨_, List.mem_of_getElem? (i := 14) rfl, by decide +kernel⟩⟩
theorem zFok_2_219 : zFok 2 219 1 11 := Or.inr ⟨by decide, by decide, by decide +kernel, fun C T N h => by cases h; exact Or.inl q287⟩
theorem zFok_2_216 : zFok 2 216 1 21 := Or.inr ⟨by decide, by decide, by decide +kernel, fun C T N h => by cases h; exact Or.inl q297⟩
theorem zFok_2_237 : zFok 2 237 1 14 := Or.inr ⟨by decide, by decide, by decide +kernel, fun C T N h => by cases h; exact Or.inl q290⟩
theorem zFok_2_207 : zFok 2 207 7 3 := Or.inr ⟨by decide, by decide, by decide +kernel, fun C T N h => by cases h; exact Or.inr ⟨_, List.mem_of_getElem? (i := 18) rfl, by decide +kernel⟩⟩
theorem zFok_2_204 : zFok 2 204 4 0 := Or.inr ⟨by decide, by decide, by decide +kernel, fun C T N h => by cases h; exact Or.inr ⟨_, List.mem_of_getElem? (i := 4) rfl, by decide +kernel⟩⟩
theorem zFok_2_208 : zFok 2 208 7 1 := Or.inr ⟨by decide, by decide, by decide +kernel, fun C T N h => by cases h; exact Or.inr ⟨_, List.mem_of_getElem? (i := 16) rfl, by decide +kernel⟩⟩
theorem zFok_2_209 : zFok 2 209 7 2 := Or.inr ⟨by decide, by decide, by decide +kernel, fun C T N h => by cases h; exact Or.inr ⟨_, List.mem_of_getElem? (i := 17) rfl, by decide +kernel⟩⟩
theorem zFok_2_201 : zFok 2 201 4 1 := Or.inr ⟨by decide, by decide, by decide +kernel, fun C T N h => by cases h; exact Or.inr ⟨_, List.mem_of_getElem? (i := 6) rfl, by decide +kernel⟩⟩
theorem zFok_2_246 : zFok 2 246 7 0 := Or.inr ⟨by decide, by decide, by decide +kernel, fun C T N h => by cases h; exact Or.inr ⟨_, List.mem_of_getElem? (i := 15) rfl, by decide +kernel⟩⟩
theorem zFok_2_283 : zFok 2 283 7 4 := Or.inr ⟨by decide, by decide, by decide +kernel, fun C T N h => by cases h; exact Or.inr ⟨_, List.mem_of_getElem? (i := 19) rfl, by decide +kernel⟩⟩
theorem zFok_2_286 : zFok 2 286 3 0 := Or.inr ⟨by decide, by decide, by decide +kernel, fun C T N h => by cases h; exact Or.inr ⟨_, List.mem_of_getElem? (i := 1) rfl, by decide +kernel⟩⟩
theorem zFok_2_289 : zFok 2 289 3 1 := Or.inr ⟨by decide, by decide, by decide +kernel, fun C T N h => by cases h; exact Or.inr ⟨_, List.mem_of_getElem? (i := 2) rfl, by decide +kernel⟩⟩
theorem zFok_2_318 : zFok 2 318 1 22 := Or.inr ⟨by decide, by decide, by decide +kernel, fun C T N h => by cases h; exact Or.inl q298⟩
theorem zFok_2_479 : zFok 2 479 1 28 := Or.inr ⟨by decide, by decide, by decide +kernel, fun C T N h => by cases h; exact Or.inl q304⟩
theorem zFok_2_482 : zFok 2 482 1 31 := Or.inr ⟨by decide, by decide, by decide +kernel, fun C T N h => by cases h; exact Or.inl q307⟩
theorem zFok_3_1 : zFok 3 1 2 1 := Or.inr ⟨by decide, by decide, by decide +kernel, fun C T N h => by cases h; exact Or.inl q146⟩
theorem zFok_3_13 : zFok 3 13 2 0 := Or.inr ⟨by decide, by decide, by decide +kernel, fun C T N h => by cases h; exact Or.inl q145⟩
theorem zFok_3_17 : zFok 3 17 1 7 := Or.inr ⟨by decide, by decide, by decide +kernel, fun C T N h => by cases h; exact Or.inr ⟨_, List.mem_of_getElem? (i := 11) rfl, by decide +kernel⟩⟩
theorem zFok_3_58 : zFok 3 58 1 5 := Or.inr ⟨by decide, by decide, by decide +kernel, fun C T N h => by cases h; exact Or.inr ⟨_, List.mem_of_getElem? (i := 9) rfl, by decide +kernel⟩⟩
theorem zFok_3_61 : zFok 3 61 1 4 := Or.inr ⟨by decide, by decide, by decide +kernel, fun C T N h => by cases h; exact Or.inr ⟨_, List.mem_of_getElem? (i := 8) rfl, by decide +kernel⟩⟩
theorem zFok_3_39 : zFok 3 39 1 0 := Or.inr ⟨by decide, by decide, by decide +kernel, fun C T N h => by cases h; exact Or.inr ⟨_, List.mem_of_getElem? (i := 7) rfl, by decide +kernel⟩⟩
theorem zFok_3_22 : zFok 3 22 1 6 := Or.inr ⟨by decide, by decide, by decide +kernel, fun C T N h => by cases h; exact Or.inr ⟨_, List.mem_of_getElem? (i := 10) rfl, by decide +kernel⟩⟩
theorem zFok_4_9 : zFok 4 9 3 0 := Or.inr ⟨by decide, by decide, by decide +kernel, fun C T N h => by cases h; exact Or.inl q221⟩
theorem zFok_4_15 : zFok 4 15 3 1 := Or.inr ⟨by decide, by decide, by decide +kernel, fun C T N h => by cases h; exact Or.inl q223⟩
theorem zFok_4_18 : zFok 4 18 3 2 := Or.inr ⟨by decide, by decide, by decide +kernel, fun C T N h => by cases h; exact Or.inl q225⟩
theorem zFok_5_9 : zFok 5 9 4 0 := Or.inr ⟨by decide, by decide, by decide +kernel, fun C T N h => by cases h; exact Or.inl q261⟩
theorem zFok_5_15 : zFok 5 15 4 1 := Or.inr ⟨by decide, by decide, by decide +kernel, fun C T N h => by cases h; exact Or.inl q263⟩
theorem zFok_6_7 : zFok 6 7 5 6 := Or.inr ⟨by decide, by decide, by decide +kernel, fun C T N h => by cases h; exact Or.inl q484⟩
theorem zFok_7_7 : zFok 7 7 6 0 := Or.inr ⟨by decide, by decide, by decide +kernel, fun C T N h => by cases h; exact Or.inl q514⟩
theorem zFok_7_13 : zFok 7 13 6 1 := Or.inr ⟨by decide, by decide, by decide +kernel, fun C T N h => by cases h; exact Or.inl q516⟩
theorem zFok_8_9 : zFok 8 9 7 0 := Or.inr ⟨by decide, by decide, by decide +kernel, fun C T N h => by cases h; exact Or.inl q596⟩
theorem zFok_8_15 : zFok 8 15 7 1 := Or.inr ⟨by decide, by decide, by decide +kernel, fun C T N h => by cases h; exact Or.inl q598⟩
theorem zFok_8_18 : zFok 8 18 7 2 := Or.inr ⟨by decide, by decide, by decide +kernel, fun C T N h => by cases h; exact Or.inl q600⟩
theorem zFok_8_22 : zFok 8 22 7 3 := Or.inr ⟨by decide, by decide, by decide +kernel, fun C T N h => by cases h; exact Or.inl q602⟩
theorem zFok_8_31 : zFok 8 31 4 1 := Or.inr ⟨by decide, by decide, by decide +kernel, fun C T N h => by cases h; exact Or.inr ⟨_, List.mem_of_getElem? (i := 5) rfl, by decide +kernel⟩⟩
theorem zFok_8_51 : zFok 8 51 7 4 := Or.inr ⟨by decide, by decide, by decide +kernel, fun C T N h => by cases h; exact Or.inl q604⟩
theorem zFok_8_55 : zFok 8 55 3 2 := Or.inr ⟨by decide, by decide, by decide +kernel, fun C T N h => by cases h; exact Or.inr ⟨_, List.mem_of_getElem? (i := 3) rfl, by decide +kernel⟩⟩
theorem zFok_10_9 : zFok 10 9 9 0 := Or.inr ⟨by decide, by decide, by decide +kernel, fun C T N h => by cases h; exact Or.inl q1687⟩
theorem zFok_10_13 : zFok 10 13 9 1 := Or.inr ⟨by decide, by decide, by decide +kernel, fun C T N h => by cases h; exact Or.inl q1688⟩
theorem zFok_10_16 : zFok 10 16 9 2 := Or.inr ⟨by decide, by decide, by decide +kernel, fun C T N h => by cases h; exact Or.inl q1689⟩
theorem zFok_10_19 : zFok 10 19 9 3 := Or.inr ⟨by decide, by decide, by decide +kernel, fun C T N h => by cases h; exact Or.inl q1690⟩
theorem zFok_10_22 : zFok 10 22 9 4 := Or.inr ⟨by decide, by decide, by decide +kernel, fun C T N h => by cases h; exact Or.inl q1691⟩
theorem zFok_10_25 : zFok 10 25 9 5 := Or.inr ⟨by decide, by decide, by decide +kernel, fun C T N h => by cases h; exact Or.inl q1692⟩
theorem zFok_10_28 : zFok 10 28 9 9 := Or.inr ⟨by decide, by decide, by decide +kernel, fun C T N h => by cases h; exact Or.inl q1696⟩
theorem zFok_10_31 : zFok 10 31 9 10 := Or.inr ⟨by decide, by decide, by decide +kernel, fun C T N h => by cases h; exact Or.inl q1697⟩
theorem zFok_10_34 : zFok 10 34 9 11 := Or.inr ⟨by decide, by decide, by decide +kernel, fun C T N h => by cases h; exact Or.inl q1698⟩
theorem zFok_10_37 : zFok 10 37 9 12 := Or.inr ⟨by decide, by decide, by decide +kernel, fun C T N h => by cases h; exact Or.inl q1699⟩
theorem zFok_10_40 : zFok 10 40 9 13 := Or.inr ⟨by decide, by decide, by decide +kernel, fun C T N h => by cases h; exact Or.inl q1700⟩
theorem zFok_10_43 : zFok 10 43 9 14 := Or.inr ⟨by decide, by decide, by decide +kernel, fun C T N h => by cases h; exact Or.inl q1701⟩
theorem zFok_10_46 : zFok 10 46 9 17 := Or.inr ⟨by decide, by decide, by decide +kernel, fun C T N h => by cases h; exact Or.inl q1704⟩
theorem zFok_10_49 : zFok 10 49 9 18 := Or.inr ⟨by decide, by decide, by decide +kernel, fun C T N h => by cases h; exact Or.inl q1705⟩
theorem zFok_10_52 : zFok 10 52 9 19 := Or.inr ⟨by decide, by decide, by decide +kernel, fun C T N h => by cases h; exact Or.inl q1706⟩
theorem zFok_10_56 : zFok 10 56 9 20 := Or.inr ⟨by decide, by decide, by decide +kernel, fun C T N h => by cases h; exact Or.inl q1707⟩
theorem zFok_10_59 : zFok 10 59 9 21 := Or.inr ⟨by decide, by decide, by decide +kernel, fun C T N h => by cases h; exact Or.inl q1708⟩
theorem zFok_10_63 : zFok 10 63 9 22 := Or.inr ⟨by decide, by decide, by decide +kernel, fun C T N h => by cases h; exact Or.inl q1709⟩
theorem zFok_10_66 : zFok 10 66 9 25 := Or.inr ⟨by decide, by decide, by decide +kernel, fun C T N h => by cases h; exact Or.inl q1712⟩
theorem zFok_10_69 : zFok 10 69 9 26 := Or.inr ⟨by decide, by decide, by decide +kernel, fun C T N h => by cases h; exact Or.inl q1713⟩
theorem zFok_10_72 : zFok 10 72 9 27 := Or.inr ⟨by decide, by decide, by decide +kernel, fun C T N h => by cases h; exact Or.inl q1714⟩
theorem zFok_10_76 : zFok 10 76 9 28 := Or.inr ⟨by decide, by decide, by decide +kernel, fun C T N h => by cases h; exact Or.inl q1715⟩
theorem zFok_10_79 : zFok 10 79 9 30 := Or.inr ⟨by decide, by decide, by decide +kernel, fun C T N h => by cases h; exact Or.inl q1717⟩
theorem zFok_10_82 : zFok 10 82 9 31 := Or.inr ⟨by decide, by decide, by decide +kernel, fun C T N h => by cases h; exact Or.inl q1718⟩
theorem zFok_10_85 : zFok 10 85 9 32 := Or.inr ⟨by decide, by decide, by decide +kernel, fun C T N h => by cases h; exact Or.inl q1719⟩
theorem zFok_10_88 : zFok 10 88 9 33 := Or.inr ⟨by decide, by decide, by decide +kernel, fun C T N h => by cases h; exact Or.inl q1720⟩
theorem zFok_10_91 : zFok 10 91 9 34 := Or.inr ⟨by decide, by decide, by decide +kernel, fun C T N h => by cases h; exact Or.inl q1721⟩
theorem zFok_10_95 : zFok 10 95 9 36 := Or.inr ⟨by decide, by decide, by decide +kernel, fun C T N h => by cases h; exact Or.inl q1723⟩
theorem zFok_10_98 : zFok 10 98 9 37 := Or.inr ⟨by decide, by decide, by decide +kernel, fun C T N h => by cases h; exact Or.inl q1724⟩
theorem zFok_10_121 : zFok 10 121 9 6 := Or.inr ⟨by decide, by decide, by decide +kernel, fun C T N h => by cases h; exact Or.inl q1693⟩
theorem zFok_10_148 : zFok 10 148 9 16 := Or.inr ⟨by decide, by decide, by decide +kernel, fun C T N h => by cases h; exact Or.inl q1703⟩
theorem zFok_10_151 : zFok 10 151 9 15 := Or.inr ⟨by decide, by decide, by decide +kernel, fun C T N h => by cases h; exact Or.inl q1702⟩
theorem zFok_10_220 : zFok 10 220 9 24 := Or.inr ⟨by decide, by decide, by decide +kernel, fun C T N h => by cases h; exact Or.inl q1711⟩
theorem zFok_10_211 : zFok 10 211 9 23 := Or.inr ⟨by decide, by decide, by decide +kernel, fun C T N h => by cases h; exact Or.inl q1710⟩
theorem zFok_10_250 : zFok 10 250 9 29 := Or.inr ⟨by decide, by decide, by decide +kernel, fun C T N h => by cases h; exact Or.inl q1716⟩
theorem zFok_10_277 : zFok 10 277 9 35 := Or.inr ⟨by decide, by decide, by decide +kernel, fun C T N h => by cases h; exact Or.inl q1722⟩
theorem zFok_10_307 : zFok 10 307 9 38 := Or.inr ⟨by decide, by decide, by decide +kernel, fun C T N h => by cases h; exact Or.inl q1725⟩
theorem zFok_10_317 : zFok 10 317 9 39 := Or.inr ⟨by decide, by decide, by decide +kernel, fun C T N h => by cases h; exact Or.inl q1726⟩
theorem zFok_10_320 : zFok 10 320 9 40 := Or.inr ⟨by decide, by decide, by decide +kernel, fun C T N h => by cases h; exact Or.inl q1727⟩
theorem zFok_10_336 : zFok 10 336 9 7 := Or.inr ⟨by decide, by decide, by decide +kernel, fun C T N h => by cases h; exact Or.inl q1694⟩
theorem zFok_10_339 : zFok 10 339 9 8 := Or.inr ⟨by decide, by decide, by decide +kernel, fun C T N h => by cases h; exact Or.inl q1695⟩
theorem zFok_12_7 : zFok 12 7 10 4 := Or.inr ⟨by decide, by decide, by decide +kernel, fun C T N h => by cases h; exact Or.inl q169⟩
theorem zFok_12_13 : zFok 12 13 10 5 := Or.inr ⟨by decide, by decide, by decide +kernel, fun C T N h => by cases h; exact Or.inl q170⟩
theorem zFok_12_16 : zFok 12 16 10 2 := Or.inr ⟨by decide, by decide, by decide +kernel, fun C T N h => by cases h; exact Or.inl q167⟩
theorem zFok_12_101 : zFok 12 101 10 3 := Or.inr ⟨by decide, by decide, by decide +kernel, fun C T N h => by cases h; exact Or.inl q168⟩
theorem zFok_12_105 : zFok 12 105 11 0 := Or.inr ⟨by decide, by decide, by decide +kernel, fun C T N h => by cases h; exact Or.inl q916⟩
theorem zFok_12_111 : zFok 12 111 11 2 := Or.inr ⟨by decide, by decide, by decide +kernel, fun C T N h => by cases h; exact Or.inl q919⟩
theorem zFok_12_114 : zFok 12 114 11 3 := Or.inr ⟨by decide, by decide, by decide +kernel, fun C T N h => by cases h; exact Or.inl q920⟩
theorem zFok_12_58 : zFok 12 58 11 1 := Or.inr ⟨by decide, by decide, by decide +kernel, fun C T N h => by cases h; exact Or.inl q918⟩
theorem zFok_12_290 : zFok 12 290 11 5 := Or.inr ⟨by decide, by decide, by decide +kernel, fun C T N h => by cases h; exact Or.inl q924⟩
theorem zFok_12_124 : zFok 12 124 11 4 := Or.inr ⟨by decide, by decide, by decide +kernel, fun C T N h => by cases h; exact Or.inl q922⟩
theorem zFok_12_191 : zFok 12 191 10 7 := Or.inr ⟨by decide, by decide, by decide +kernel, fun C T N h => by cases h; exact Or.inl q172⟩
theorem zFok_15_7 : zFok 15 7 14 0 := Or.inr ⟨by decide, by decide, by decide +kernel, fun C T N h => by cases h; exact Or.inl q210⟩
theorem zFok_16_7 : zFok 16 7 5 0 := Or.inr ⟨by decide, by decide, by decide +kernel, fun C T N h => by cases h; exact Or.inl q488⟩
theorem zFok_16_17 : zFok 16 17 5 1 := Or.inr ⟨by decide, by decide, by decide +kernel, fun C T N h => by cases h; exact Or.inl q489⟩
theorem zFok_16_24 : zFok 16 24 5 2 := Or.inr ⟨by decide, by decide, by decide +kernel, fun C T N h => by cases h; exact Or.inl q490⟩
theorem zFok_16_31 : zFok 16 31 5 3 := Or.inr ⟨by decide, by decide, by decide +kernel, fun C T N h => by cases h; exact Or.inl q487⟩
theorem zFok_18_205 : zFok 18 205 32 0 := Or.inl ⟨rfl, rfl, rfl, rfl⟩
theorem zFok_24_9 : zFok 24 9 11 5 := Or.inr ⟨by decide, by decide, by decide +kernel, fun C T N h => by cases h; exact Or.inl q923⟩
theorem zFok_24_15 : zFok 24 15 11 0 := Or.inr ⟨by decide, by decide, by decide +kernel, fun C T N h => by cases h; exact Or.inl q914⟩
theorem zFok_24_19 : zFok 24 19 11 1 := Or.inr ⟨by decide, by decide, by decide +kernel, fun C T N h => by cases h; exact Or.inl q917⟩
theorem zFok_24_22 : zFok 24 22 11 4 := Or.inr ⟨by decide, by decide, by decide +kernel, fun C T N h => by cases h; exact Or.inl q921⟩
theorem zFok_26_7 : zFok 26 7 12 0 := Or.inr ⟨by decide, by decide, by decide +kernel, fun C T N h => by cases h; exact Or.inl q1141⟩
theorem zFok_27_1 : zFok 27 1 13 3 := Or.inr ⟨by decide, by decide, by decide +kernel, fun C T N h => by cases h; exact Or.inl q1176⟩
theorem zFok_27_13 : zFok 27 13 10 5 := Or.inr ⟨by decide, by decide, by decide +kernel, fun C T N h => by cases h; exact Or.inr ⟨_, List.mem_of_getElem? (i := 0) rfl, by decide +kernel⟩⟩
theorem zFok_27_19 : zFok 27 19 13 2 := Or.inr ⟨by decide, by decide, by decide +kernel, fun C T N h => by cases h; exact Or.inl q1175⟩
theorem zFok_27_22 : zFok 27 22 13 1 := Or.inr ⟨by decide, by decide, by decide +kernel, fun C T N h => by cases h; exact Or.inl q1174⟩
theorem zFok_27_26 : zFok 27 26 13 0 := Or.inr ⟨by decide, by decide, by decide +kernel, fun C T N h => by cases h; exact Or.inl q1173⟩
theorem zFok_28_13 : zFok 28 13 11 0 := Or.inr ⟨by decide, by decide, by decide +kernel, fun C T N h => by cases h; exact Or.inl q915⟩
theorem zFok_29_22 : zFok 29 22 16 1 := Or.inr ⟨by decide, by decide, by decide +kernel, fun C T N h => by cases h; exact Or.inl q1323⟩
theorem zFok_29_15 : zFok 29 15 16 0 := Or.inr ⟨by decide, by decide, by decide +kernel, fun C T N h => by cases h; exact Or.inl q1322⟩
theorem zFok_29_79 : zFok 29 79 16 3 := Or.inr ⟨by decide, by decide, by decide +kernel, fun C T N h => by cases h; exact Or.inl q1324⟩
theorem zFok_33_17 : zFok 33 17 15 0 := Or.inr ⟨by decide, by decide, by decide +kernel, fun C T N h => by cases h; exact Or.inl q1549⟩
theorem zFok_33_21 : zFok 33 21 15 2 := Or.inr ⟨by decide, by decide, by decide +kernel, fun C T N h => by cases h; exact Or.inl q1551⟩
theorem zFok_33_93 : zFok 33 93 15 3 := Or.inr ⟨by decide, by decide, by decide +kernel, fun C T N h => by cases h; exact Or.inl q1552⟩
theorem zFok_33_58 : zFok 33 58 15 1 := Or.inr ⟨by decide, by decide, by decide +kernel, fun C T N h => by cases h; exact Or.inl q1550⟩
theorem zFok_o2 : ∀ f ∈ ([(7, (1, 0)), (15, (1, 1)), (21, (1, 3)), (25, (1, 4)), (29, (1, 6)), (37, (1, 8)), (41, (1, 9)), (47, (1, 10)), (53, (1, 12)), (56, (1, 13)), (59, (1, 15)), (63, (1, 16)), (69, (1, 17)), (76, (1, 18)), (82, (1, 19)), (89, (1, 20)), (93, (1, 23)), (96, (1, 24)), (99, (1, 25)), (102, (1, 26)), (105, (1, 27)), (108, (1, 29)), (111, (1, 30)), (114, (1, 32)), (121, (1, 5)), (138, (1, 2)), (154, (1, 7)), (189, (5, 6)), (157, (6, 0)), (161, (6, 1)), (219, (1, 11)), (216, (1, 21)), (237, (1, 14)), (207, (7, 3)), (204, (4, 0)), (208, (7, 1)), (209, (7, 2)), (201, (4, 1)), (246, (7, 0)), (283, (7, 4)), (286, (3, 0)), (289, (3, 1)), (318, (1, 22)), (479, (1, 28)), (482, (1, 31))] : List (Nat × (Nat × Nat))), zFok 2 f.1 f.2.1 f.2.2 := List.forall_mem_cons.mpr ⟨zFok_2_7, List.forall_mem_cons.mpr ⟨zFok_2_15, List.forall_mem_cons.mpr ⟨zFok_2_21, List.forall_mem_cons.mpr ⟨zFok_2_25, List.forall_mem_cons.mpr ⟨zFok_2_29, List.forall_mem_cons.mpr ⟨zFok_2_37, List.forall_mem_cons.mpr ⟨zFok_2_41, List.forall_mem_cons.mpr ⟨zFok_2_47, List.forall_mem_cons.mpr ⟨zFok_2_53, List.forall_mem_cons.mpr ⟨zFok_2_56, List.forall_mem_cons.mpr ⟨zFok_2_59, List.forall_mem_cons.mpr ⟨zFok_2_63, List.forall_mem_cons.mpr ⟨zFok_2_69, List.forall_mem_cons.mpr ⟨zFok_2_76, List.forall_mem_cons.mpr ⟨zFok_2_82, List.forall_mem_cons.mpr ⟨zFok_2_89, List.forall_mem_cons.mpr ⟨zFok_2_93, List.forall_mem_cons.mpr ⟨zFok_2_96, List.forall_mem_cons.mpr ⟨zFok_2_99, List.forall_mem_cons.mpr ⟨zFok_2_102, List.forall_mem_cons.mpr ⟨zFok_2_105, List.forall_mem_cons.mpr ⟨zFok_2_108, List.forall_mem_cons.mpr ⟨zFok_2_111, List.forall_mem_cons.mpr ⟨zFok_2_114, List.forall_mem_cons.mpr ⟨zFok_2_121, List.forall_mem_cons.mpr ⟨zFok_2_138, List.forall_mem_cons.mpr ⟨zFok_2_154, List.forall_mem_cons.mpr ⟨zFok_2_189, List.forall_mem_cons.mpr ⟨zFok_2_157, List.forall_mem_cons.mpr ⟨zFok_2_161, List.forall_mem_cons.mpr ⟨zFok_2_219, List.forall_mem_cons.mpr ⟨zFok_2_216, List.forall_mem_cons.mpr ⟨zFok_2_237, List.forall_mem_cons.mpr ⟨zFok_2_207, List.forall_mem_cons.mpr ⟨zFok_2_204, List.forall_mem_cons.mpr ⟨zFok_2_208, List.forall_mem_cons.mpr ⟨zFok_2_209, List.forall_mem_cons.mpr ⟨zFok_2_201, List.forall_mem_cons.mpr ⟨zFok_2_246, List.forall_mem_cons.mpr ⟨zFok_2_283, List.forall_mem_cons.mpr ⟨zFok_2_286, List.forall_mem_cons.mpr ⟨zFok_2_289, List.forall_mem_cons.mpr ⟨zFok_2_318, List.forall_mem_cons.mpr ⟨zFok_2_479, List.forall_mem_cons.mpr ⟨zFok_2_482, fun _ h => absurd h List.not_mem_nil⟩⟩⟩⟩⟩⟩⟩⟩⟩⟩⟩⟩⟩⟩⟩⟩⟩⟩⟩⟩⟩⟩⟩⟩⟩⟩⟩⟩⟩⟩⟩⟩⟩⟩⟩⟩⟩⟩⟩⟩⟩⟩⟩⟩⟩
theorem zFok_o3 : ∀ f ∈ ([(1, (2, 1)), (13, (2, 0)), (17, (1, 7)), (58, (1, 5)), (61, (1, 4)), (39, (1, 0)), (22, (1, 6))] : List (Nat × (Nat × Nat))), zFok 3 f.1 f.2.1 f.2.2 := List.forall_mem_cons.mpr ⟨zFok_3_1, List.forall_mem_cons.mpr ⟨zFok_3_13, List.forall_mem_cons.mpr ⟨zFok_3_17, List.forall_mem_cons.mpr ⟨zFok_3_58, List.forall_mem_cons.mpr ⟨zFok_3_61, List.forall_mem_cons.mpr ⟨zFok_3_39, List.forall_mem_cons.mpr ⟨zFok_3_22, fun _ h => absurd h List.not_mem_nil⟩⟩⟩⟩⟩⟩⟩
theorem zFok_o4 : ∀ f ∈ ([(9, (3, 0)), (15, (3, 1)), (18, (3, 2))] : List (Nat × (Nat × Nat))), zFok 4 f.1 f.2.1 f.2.2 := List.forall_mem_cons.mpr ⟨zFok_4_9, List.forall_mem_cons.mpr ⟨zFok_4_15, List.forall_mem_cons.mpr ⟨zFok_4_18, fun _ h => absurd h List.not_mem_nil⟩⟩⟩
theorem zFok_o5 : ∀ f ∈ ([(9, (4, 0)), (15, (4, 1))] : List (Nat × (Nat × Nat))), zFok 5 f.1 f.2.1 f.2.2 := List.forall_mem_cons.mpr ⟨zFok_5_9, List.forall_mem_cons.mpr ⟨zFok_5_15, fun _ h => absurd h List.not_mem_nil⟩⟩
theorem zFok_o6 : ∀ f ∈ ([(7, (5, 6))] : List (Nat × (Nat × Nat))), zFok 6 f.1 f.2.1 f.2.2 := List.forall_mem_cons.mpr ⟨zFok_6_7, fun _ h => absurd h List.not_mem_nil⟩
theorem zFok_o7 : ∀ f ∈ ([(7, (6, 0)), (13, (6, 1))] : List (Nat × (Nat × Nat))), zFok 7 f.1 f.2.1 f.2.2 := List.forall_mem_cons.mpr ⟨zFok_7_7, List.forall_mem_cons.mpr ⟨zFok_7_13, fun _ h => absurd h List.not_mem_nil⟩⟩
theorem zFok_o8 : ∀ f ∈ ([(9, (7, 0)), (15, (7, 1)), (18, (7, 2)), (22, (7, 3)), (31, (4, 1)), (51, (7, 4)), (55, (3, 2))] : List (Nat × (Nat × Nat))), zFok 8 f.1 f.2.1 f.2.2 := List.forall_mem_cons.mpr ⟨zFok_8_9, List.forall_mem_cons.mpr ⟨zFok_8_15, List.forall_mem_cons.mpr ⟨zFok_8_18, List.forall_mem_cons.mpr ⟨zFok_8_22, List.forall_mem_cons.mpr ⟨zFok_8_31, List.forall_mem_cons.mpr ⟨zFok_8_51, List.forall_mem_cons.mpr ⟨zFok_8_55, fun _ h => absurd h List.not_mem_nil⟩⟩⟩⟩⟩⟩⟩
theorem zFok_o10 : ∀ f ∈ ([(9, (9, 0)), (13, (9, 1)), (16, (9, 2)), (19, (9, 3)), (22, (9, 4)), (25, (9, 5)), (28, (9, 9)), (31, (9, 10)), (34, (9, 11)), (37, (9, 12)), (40, (9, 13)), (43, (9, 14)), (46, (9, 17)), (49, (9, 18)), (52, (9, 19)), (56, (9, 20)), (59, (9, 21)), (63, (9, 22)), (66, (9, 25)), (69, (9, 26)), (72, (9, 27)), (76, (9, 28)), (79, (9, 30)), (82, (9, 31)), (85, (9, 32)), (88, (9, 33)), (91, (9, 34)), (95, (9, 36)), (98, (9, 37)), (121, (9, 6)), (148, (9, 16)), (151, (9, 15)), (220, (9, 24)), (211, (9, 23)), (250, (9, 29)), (277, (9, 35)), (307, (9, 38)), (317, (9, 39)), (320, (9, 40)), (336, (9, 7)), (339, (9, 8))] : List (Nat × (Nat × Nat))), zFok 10 f.1 f.2.1 f.2.2 := List.forall_mem_cons.mpr ⟨zFok_10_9, List.forall_mem_cons.mpr ⟨zFok_10_13, List.forall_mem_cons.mpr ⟨zFok_10_16, List.forall_mem_cons.mpr ⟨zFok_10_19, List.forall_mem_cons.mpr ⟨zFok_10_22, List.forall_mem_cons.mpr ⟨zFok_10_25, List.forall_mem_cons.mpr ⟨zFok_10_28, List.forall_mem_cons.mpr ⟨zFok_10_31, List.forall_mem_cons.mpr ⟨zFok_10_34, List.forall_mem_cons.mpr ⟨zFok_10_37, List.forall_mem_cons.mpr ⟨zFok_10_40, List.forall_mem_cons.mpr ⟨zFok_10_43, List.forall_mem_cons.mpr ⟨zFok_10_46, List.forall_mem_cons.mpr ⟨zFok_10_49, List.forall_mem_cons.mpr ⟨zFok_10_52, List.forall_mem_cons.mpr ⟨zFok_10_56, List.forall_mem_cons.mpr ⟨zFok_10_59, List.forall_mem_cons.mpr ⟨zFok_10_63, List.forall_mem_cons.mpr ⟨zFok_10_66, List.forall_mem_cons.mpr ⟨zFok_10_69, List.forall_mem_cons.mpr ⟨zFok_10_72, List.forall_mem_cons.mpr ⟨zFok_10_76, List.forall_mem_cons.mpr ⟨zFok_10_79, List.forall_mem_cons.mpr ⟨zFok_10_82, List.forall_mem_cons.mpr ⟨zFok_10_85, List.forall_mem_cons.mpr ⟨zFok_10_88, List.forall_mem_cons.mpr ⟨zFok_10_91, List.forall_mem_cons.mpr ⟨zFok_10_95, List.forall_mem_cons.mpr ⟨zFok_10_98, List.forall_mem_cons.mpr ⟨zFok_10_121, List.forall_mem_cons.mpr ⟨zFok_10_148, List.forall_mem_cons.mpr ⟨zFok_10_151, List.forall_mem_cons.mpr ⟨zFok_10_220, List.forall_mem_cons.mpr ⟨zFok_10_211, List.forall_mem_cons.mpr ⟨zFok_10_250, List.forall_mem_cons.mpr ⟨zFok_10_277, List.forall_mem_cons.mpr ⟨zFok_10_307, List.forall_mem_cons.mpr ⟨zFok_10_317, List.forall_mem_cons.mpr ⟨zFok_10_320, List.forall_mem_cons.mpr ⟨zFok_10_336, List.forall_mem_cons.mpr ⟨zFok_10_339, fun _ h => absurd h List.not_mem_nil⟩⟩⟩⟩⟩⟩⟩⟩⟩⟩⟩⟩⟩⟩⟩⟩⟩⟩⟩⟩⟩⟩⟩⟩⟩⟩⟩⟩⟩⟩⟩⟩⟩⟩⟩⟩⟩⟩⟩⟩⟩
theorem zFok_o12 : ∀ f ∈ ([(7, (10, 4)), (13, (10, 5)), (16, (10, 2)), (101, (10, 3)), (105, (11, 0)), (111, (11, 2)), (114, (11, 3)), (58, (11, 1)), (290, (11, 5)), (124, (11, 4)), (191, (10, 7))] : List (Nat × (Nat × Nat))), zFok 12 f.1 f.2.1 f.2.2 := List.forall_mem_cons.mpr ⟨zFok_12_7, List.forall_mem_cons.mpr ⟨zFok_12_13, List.forall_mem_cons.mpr ⟨zFok_12_16, List.forall_mem_cons.mpr ⟨zFok_12_101, List.forall_mem_cons.mpr ⟨zFok_12_105, List.forall_mem_cons.mpr ⟨zFok_12_111, List.forall_mem_cons.mpr ⟨zFok_12_114, List.forall_mem_cons.mpr ⟨zFok_12_58, List.forall_mem_cons.mpr ⟨zFok_12_290, List.forall_mem_cons.mpr ⟨zFok_12_124, List.forall_mem_cons.mpr ⟨zFok_12_191, fun _ h => absurd h List.not_mem_nil⟩⟩⟩⟩⟩⟩⟩⟩⟩⟩⟩
theorem zFok_o15 : ∀ f ∈ ([(7, (14, 0))] : List (Nat × (Nat × Nat))), zFok 15 f.1 f.2.1 f.2.2 := List.forall_mem_cons.mpr ⟨zFok_15_7, fun _ h => absurd h List.not_mem_nil⟩
theorem zFok_o16 : ∀ f ∈ ([(7, (5, 0)), (17, (5, 1)), (24, (5, 2)), (31, (5, 3))] : List (Nat × (Nat × Nat))), zFok 16 f.1 f.2.1 f.2.2 := List.forall_mem_cons.mpr ⟨zFok_16_7, List.forall_mem_cons.mpr ⟨zFok_16_17, List.forall_mem_cons.mpr ⟨zFok_16_24, List.forall_mem_cons.mpr ⟨zFok_16_31, fun _ h => absurd h List.not_mem_nil⟩⟩⟩⟩
theorem zFok_o18 : ∀ f ∈ ([(205, (32, 0))] : List (Nat × (Nat × Nat))), zFok 18 f.1 f.2.1 f.2.2 := List.forall_mem_cons.mpr ⟨zFok_18_205, fun _ h => absurd h List.not_mem_nil⟩
theorem zFok_o24 : ∀ f ∈ ([(9, (11, 5)), (15, (11, 0)), (19, (11, 1)), (22, (11, 4))] : List (Nat × (Nat × Nat))), zFok 24 f.1 f.2.1 f.2.2 := List.forall_mem_cons.mpr ⟨zFok_24_9, List.forall_mem_cons.mpr ⟨zFok_24_15, List.forall_mem_cons.mpr ⟨zFok_24_19, List.forall_mem_cons.mpr ⟨zFok_24_22, fun _ h => absurd h List.not_mem_nil⟩⟩⟩⟩
theorem zFok_o26 : ∀ f ∈ ([(7, (12, 0))] : List (Nat × (Nat × Nat))), zFok 26 f.1 f.2.1 f.2.2 := List.forall_mem_cons.mpr ⟨zFok_26_7, fun _ h => absurd h List.not_mem_nil⟩
theorem zFok_o27 : ∀ f ∈ ([(1, (13, 3)), (13, (10, 5)), (19, (13, 2)), (22, (13, 1)), (26, (13, 0))] : List (Nat × (Nat × Nat))), zFok 27 f.1 f.2.1 f.2.2 := List.forall_mem_cons.mpr ⟨zFok_27_1, List.forall_mem_cons.mpr ⟨zFok_27_13, List.forall_mem_cons.mpr ⟨zFok_27_19, List.forall_mem_cons.mpr ⟨zFok_27_22, List.forall_mem_cons.mpr ⟨zFok_27_26, fun _ h => absurd h List.not_mem_nil⟩⟩⟩⟩⟩
theorem zFok_o28 : ∀ f ∈ ([(13, (11, 0))] : List (Nat × (Nat × Nat))), zFok 28 f.1 f.2.1 f.2.2 := List.forall_mem_cons.mpr ⟨zFok_28_13, fun _ h => absurd h List.not_mem_nil⟩
theorem zFok_o29 : ∀ f ∈ ([(22, (16, 1)), (15, (16, 0)), (79, (16, 3))] : List (Nat × (Nat × Nat))), zFok 29 f.1 f.2.1 f.2.2 := List.forall_mem_cons.mpr ⟨zFok_29_22, List.forall_mem_cons.mpr ⟨zFok_29_15, List.forall_mem_cons.mpr ⟨zFok_29_79, fun _ h => absurd h List.not_mem_nil⟩⟩⟩
theorem zFok_o33 : ∀ f ∈ ([(17, (15, 0)), (21, (15, 2)), (93, (15, 3)), (58, (15, 1))] : List (Nat × (Nat × Nat))), zFok 33 f.1 f.2.1 f.2.2 := List.forall_mem_cons.mpr ⟨zFok_33_17, List.forall_mem_cons.mpr ⟨zFok_33_21, List.forall_mem_cons.mpr ⟨zFok_33_93, List.forall_mem_cons.mpr ⟨zFok_33_58, fun _ h => absurd h List.not_mem_nil⟩⟩⟩⟩
theorem zFok_l : ∀ e ∈ zFTl, ∀ f ∈ e.2, zFok e.1 f.1 f.2.1 f.2.2 := List.forall_mem_cons.mpr ⟨zFok_o2, List.forall_mem_cons.mpr ⟨zFok_o3, List.forall_mem_cons.mpr ⟨zFok_o4, List.forall_mem_cons.mpr ⟨zFok_o5, List.forall_mem_cons.mpr ⟨zFok_o6, List.forall_mem_cons.mpr ⟨zFok_o7, List.forall_mem_cons.mpr ⟨zFok_o8, List.forall_mem_cons.mpr ⟨zFok_o10, List.forall_mem_cons.mpr ⟨zFok_o12, List.forall_mem_cons.mpr ⟨zFok_o15, List.forall_mem_cons.mpr ⟨zFok_o16, List.forall_mem_cons.mpr ⟨zFok_o18, List.forall_mem_cons.mpr ⟨zFok_o24, List.forall_mem_cons.mpr ⟨zFok_o26, List.forall_mem_cons.mpr ⟨zFok_o27, List.forall_mem_cons.mpr ⟨zFok_o28, List.forall_mem_cons.mpr ⟨zFok_o29, List.forall_mem_cons.mpr ⟨zFok_o33, fun _ h => absurd h List.not_mem_nil⟩⟩⟩⟩⟩⟩⟩⟩⟩⟩⟩⟩⟩⟩⟩⟩⟩⟩
theorem zFok_all {o i t k : Nat} (h : zFT o i = some (t, k)) : zFok o i t k := by
  unfold zFT at h
  have h1 := zlk_mem h
  cases ho : zlk zFTl o with
  | none => rw [ho] at h1; exact absurd h1 List.not_mem_nil
  | some es =>
    rw [ho] at h1
    exact zFok_l _ (zlk_mem ho) _ h1
def zstl : List (String × String × String) := [("java/lang/Integer$IntegerCache", "high", "I"), ("java/lang/Integer$IntegerCache", "cache", "[Ljava/lang/Integer;"), ("java/lang/String", "COMPACT_STRINGS", "Z"), ("java/util/TreeSet", "PRESENT", "Ljava/lang/Object;"), ("java/lang/Throwable", "UNASSIGNED_STACK", "[Ljava/lang/StackTraceElement;"), ("java/lang/Throwable", "SUPPRESSED_SENTINEL", "Ljava/util/List;"), ("jdk/internal/util/Preconditions", "SIOOBE_FORMATTER", "Ljava/util/function/BiFunction;")]
def zSTok (o i j : Nat) : Prop := ∃ q : String × String × String, zstl[j]? = some q ∧ Cond.fieldLink (znm o) i q.1 q.2.1 q.2.2 ∈ lw_all
theorem zSTok_15_65 : zSTok 15 65 3 := ⟨_, rfl, q1093⟩
theorem zSTok_16_13 : zSTok 16 13 4 := ⟨_, rfl, q462⟩
theorem zSTok_16_20 : zSTok 16 20 5 := ⟨_, rfl, q464⟩
theorem zSTok_18_191 : zSTok 18 191 0 := ⟨_, rfl, q634⟩
theorem zSTok_18_195 : zSTok 18 195 1 := ⟨_, rfl, q636⟩
theorem zSTok_19_1053 : zSTok 19 1053 6 := ⟨_, rfl, q858⟩
theorem zSTok_29_18 : zSTok 29 18 2 := ⟨_, rfl, q731⟩
theorem zSTok_l : ∀ e ∈ zSTl, ∃ o i, e.1 = o * 4096 + i ∧ i < 4096 ∧ zSTok o i e.2 := List.forall_mem_cons.mpr ⟨⟨15, 65, rfl, by decide, zSTok_15_65⟩, List.forall_mem_cons.mpr ⟨⟨16, 13, rfl, by decide, zSTok_16_13⟩, List.forall_mem_cons.mpr ⟨⟨16, 20, rfl, by decide, zSTok_16_20⟩, List.forall_mem_cons.mpr ⟨⟨18, 191, rfl, by decide, zSTok_18_191⟩, List.forall_mem_cons.mpr ⟨⟨18, 195, rfl, by decide, zSTok_18_195⟩, List.forall_mem_cons.mpr ⟨⟨19, 1053, rfl, by decide, zSTok_19_1053⟩, List.forall_mem_cons.mpr ⟨⟨29, 18, rfl, by decide, zSTok_29_18⟩, fun _ h => absurd h List.not_mem_nil⟩⟩⟩⟩⟩⟩⟩
theorem zSTok_all {o i : Nat} {v : Nat} (h : zST o i = some v) : zSTok o i v := by
  unfold zST at h
  cases hi : Nat.blt i 4096 with
  | false => rw [hi] at h; cases h
  | true =>
  rw [hi] at h
  have hi := Nat.le_of_ble_eq_true hi
  obtain ⟨o2, i2, e1, e2, h2⟩ := zSTok_l _ (zlk_mem h)
  dsimp only at e1 h2
  obtain ⟨rfl, rfl⟩ : o2 = o ∧ i2 = i := by omega
  exact h2
def zKTok (o i : Nat) (v : Int ⊕ Nat) : Prop := match v with
  | Sum.inl x => Cond.constant (znm o) i (Int32.ofInt x) ∈ lw_all ∧ zr32 x
  | Sum.inr a => a = 34 ∧ Cond.classLink (znm o) i "[Ljava/lang/Object;" ∈ lw_all
theorem zKTok_10_75 : zKTok 10 75 (Sum.inl (177147)) := ⟨q1681, by unfold zr32; omega⟩
theorem zKTok_10_94 : zKTok 10 94 (Sum.inl (115296)) := ⟨q1682, by unfold zr32; omega⟩
theorem zKTok_22_200 : zKTok 22 200 (Sum.inl (2147483639)) := ⟨q1356, by unfold zr32; omega⟩
theorem zKTok_29_39 : zKTok 29 39 (Sum.inl (2147483647)) := ⟨q1360, by unfold zr32; omega⟩
theorem zKTok_31_110 : zKTok 31 110 (Sum.inr 34) := ⟨rfl, q1603⟩
theorem zKTok_l : ∀ e ∈ zKTl, ∃ o i, e.1 = o * 4096 + i ∧ i < 4096 ∧ zKTok o i e.2 := List.forall_mem_cons.mpr ⟨⟨10, 75, rfl, by decide, zKTok_10_75⟩, List.forall_mem_cons.mpr ⟨⟨10, 94, rfl, by decide, zKTok_10_94⟩, List.forall_mem_cons.mpr ⟨⟨22, 200, rfl, by decide, zKTok_22_200⟩, List.forall_mem_cons.mpr ⟨⟨29, 39, rfl, by decide, zKTok_29_39⟩, List.forall_mem_cons.mpr ⟨⟨31, 110, rfl, by decide, zKTok_31_110⟩, fun _ h => absurd h List.not_mem_nil⟩⟩⟩⟩⟩
theorem zKTok_all {o i : Nat} {v : Int ⊕ Nat} (h : zKT o i = some v) : zKTok o i v := by
  unfold zKT at h
  cases hi : Nat.blt i 4096 with
  | false => rw [hi] at h; cases h
  | true =>
  rw [hi] at h
  have hi := Nat.le_of_ble_eq_true hi
  obtain ⟨o2, i2, e1, e2, h2⟩ := zKTok_l _ (zlk_mem h)
  dsimp only at e1 h2
  obtain ⟨rfl, rfl⟩ : o2 = o ∧ i2 = i := by omega
  exact h2
def zLTok (o i : Nat) (x : Int) : Prop := Cond.constantLong (znm o) i (Int64.ofInt x) ∈ lw_all ∧ zr64 x
theorem zLTok_2_141 : zLTok 2 141 (3) := ⟨q385, by unfold zr64; omega⟩
theorem zLTok_2_132 : zLTok 2 132 (2) := ⟨q383, by unfold zr64; omega⟩
theorem zLTok_2_150 : zLTok 2 150 (32) := ⟨q402, by unfold zr64; omega⟩
theorem zLTok_2_152 : zLTok 2 152 (126) := ⟨q403, by unfold zr64; omega⟩
theorem zLTok_2_440 : zLTok 2 440 (100) := ⟨q1497, by unfold zr64; omega⟩
theorem zLTok_2_468 : zLTok 2 468 (30) := ⟨q1526, by unfold zr64; omega⟩
theorem zLTok_5_33 : zLTok 5 33 (102) := ⟨q256, by unfold zr64; omega⟩
theorem zLTok_5_35 : zLTok 5 35 (104) := ⟨q257, by unfold zr64; omega⟩
theorem zLTok_5_41 : zLTok 5 41 (119) := ⟨q535, by unfold zr64; omega⟩
theorem zLTok_5_43 : zLTok 5 43 (121) := ⟨q536, by unfold zr64; omega⟩
theorem zLTok_10_214 : zLTok 10 214 (-1) := ⟨q1969, by unfold zr64; omega⟩
theorem zLTok_l : ∀ e ∈ zLTl, ∃ o i, e.1 = o * 4096 + i ∧ i < 4096 ∧ zLTok o i e.2 := List.forall_mem_cons.mpr ⟨⟨2, 141, rfl, by decide, zLTok_2_141⟩, List.forall_mem_cons.mpr ⟨⟨2, 132, rfl, by decide, zLTok_2_132⟩, List.forall_mem_cons.mpr ⟨⟨2, 150, rfl, by decide, zLTok_2_150⟩, List.forall_mem_cons.mpr ⟨⟨2, 152, rfl, by decide, zLTok_2_152⟩, List.forall_mem_cons.mpr ⟨⟨2, 440, rfl, by decide, zLTok_2_440⟩, List.forall_mem_cons.mpr ⟨⟨2, 468, rfl, by decide, zLTok_2_468⟩, List.forall_mem_cons.mpr ⟨⟨5, 33, rfl, by decide, zLTok_5_33⟩, List.forall_mem_cons.mpr ⟨⟨5, 35, rfl, by decide, zLTok_5_35⟩, List.forall_mem_cons.mpr ⟨⟨5, 41, rfl, by decide, zLTok_5_41⟩, List.forall_mem_cons.mpr ⟨⟨5, 43, rfl, by decide, zLTok_5_43⟩, List.forall_mem_cons.mpr ⟨⟨10, 214, rfl, by decide, zLTok_10_214⟩, fun _ h => absurd h List.not_mem_nil⟩⟩⟩⟩⟩⟩⟩⟩⟩⟩⟩
theorem zLTok_all {o i : Nat} {v : Int} (h : zLT o i = some v) : zLTok o i v := by
  unfold zLT at h
  cases hi : Nat.blt i 4096 with
  | false => rw [hi] at h; cases h
  | true =>
  rw [hi] at h
  have hi := Nat.le_of_ble_eq_true hi
  obtain ⟨o2, i2, e1, e2, h2⟩ := zLTok_l _ (zlk_mem h)
  dsimp only at e1 h2
  obtain ⟨rfl, rfl⟩ : o2 = o ∧ i2 = i := by omega
  exact h2
def zNTok (o i t : Nat) : Prop := 1 ≤ t ∧ t ≤ 16 ∧ ∀ C T N, zcl[t - 1]? = some (C, T, N) → Cond.classLink (znm o) i C ∈ lw_all
theorem zNTok_1_7 : zNTok 1 7 1 := ⟨by decide, by decide, fun C T N h => by cases h; exact q127⟩
theorem zNTok_1_10 : zNTok 1 10 9 := ⟨by decide, by decide, fun C T N h => by cases h; exact q1675⟩
theorem zNTok_2_32 : zNTok 2 32 2 := ⟨by decide, by decide, fun C T N h => by cases h; exact q139⟩
theorem zNTok_2_66 : zNTok 2 66 10 := ⟨by decide, by decide, fun C T N h => by cases h; exact q158⟩
theorem zNTok_2_73 : zNTok 2 73 14 := ⟨by decide, by decide, fun C T N h => by cases h; exact q193⟩
theorem zNTok_2_80 : zNTok 2 80 3 := ⟨by decide, by decide, fun C T N h => by cases h; exact q214⟩
theorem zNTok_2_19 : zNTok 2 19 4 := ⟨by decide, by decide, fun C T N h => by cases h; exact q137⟩
theorem zNTok_2_45 : zNTok 2 45 7 := ⟨by decide, by decide, fun C T N h => by cases h; exact q154⟩
theorem zNTok_2_417 : zNTok 2 417 16 := ⟨by decide, by decide, fun C T N h => by cases h; exact q1306⟩
theorem zNTok_2_453 : zNTok 2 453 15 := ⟨by decide, by decide, fun C T N h => by cases h; exact q1531⟩
theorem zNTok_2_455 : zNTok 2 455 8 := ⟨by decide, by decide, fun C T N h => by cases h; exact q1533⟩
theorem zNTok_3_71 : zNTok 3 71 6 := ⟨by decide, by decide, fun C T N h => by cases h; exact q508⟩
theorem zNTok_3_44 : zNTok 3 44 4 := ⟨by decide, by decide, fun C T N h => by cases h; exact q506⟩
theorem zNTok_3_26 : zNTok 3 26 5 := ⟨by decide, by decide, fun C T N h => by cases h; exact q438⟩
theorem zNTok_4_10 : zNTok 4 10 3 := ⟨by decide, by decide, fun C T N h => by cases h; exact q682⟩
theorem zNTok_8_42 : zNTok 8 42 3 := ⟨by decide, by decide, fun C T N h => by cases h; exact q590⟩
theorem zNTok_12_59 : zNTok 12 59 11 := ⟨by decide, by decide, fun C T N h => by cases h; exact q908⟩
theorem zNTok_12_222 : zNTok 12 222 12 := ⟨by decide, by decide, fun C T N h => by cases h; exact q1135⟩
theorem zNTok_12_269 : zNTok 12 269 13 := ⟨by decide, by decide, fun C T N h => by cases h; exact q1160⟩
theorem zNTok_15_13 : zNTok 15 13 10 := ⟨by decide, by decide, fun C T N h => by cases h; exact q198⟩
theorem zNTok_l : ∀ e ∈ zNTl, ∃ o i, e.1 = o * 4096 + i ∧ i < 4096 ∧ zNTok o i e.2 := List.forall_mem_cons.mpr ⟨⟨1, 7, rfl, by decide, zNTok_1_7⟩, List.forall_mem_cons.mpr ⟨⟨1, 10, rfl, by decide, zNTok_1_10⟩, List.forall_mem_cons.mpr ⟨⟨2, 32, rfl, by decide, zNTok_2_32⟩, List.forall_mem_cons.mpr ⟨⟨2, 66, rfl, by decide, zNTok_2_66⟩, List.forall_mem_cons.mpr ⟨⟨2, 73, rfl, by decide, zNTok_2_73⟩, List.forall_mem_cons.mpr ⟨⟨2, 80, rfl, by decide, zNTok_2_80⟩, List.forall_mem_cons.mpr ⟨⟨2, 19, rfl, by decide, zNTok_2_19⟩, List.forall_mem_cons.mpr ⟨⟨2, 45, rfl, by decide, zNTok_2_45⟩, List.forall_mem_cons.mpr ⟨⟨2, 417, rfl, by decide, zNTok_2_417⟩, List.forall_mem_cons.mpr ⟨⟨2, 453, rfl, by decide, zNTok_2_453⟩, List.forall_mem_cons.mpr ⟨⟨2, 455, rfl, by decide, zNTok_2_455⟩, List.forall_mem_cons.mpr ⟨⟨3, 71, rfl, by decide, zNTok_3_71⟩, List.forall_mem_cons.mpr ⟨⟨3, 44, rfl, by decide, zNTok_3_44⟩, List.forall_mem_cons.mpr ⟨⟨3, 26, rfl, by decide, zNTok_3_26⟩, List.forall_mem_cons.mpr ⟨⟨4, 10, rfl, by decide, zNTok_4_10⟩, List.forall_mem_cons.mpr ⟨⟨8, 42, rfl, by decide, zNTok_8_42⟩, List.forall_mem_cons.mpr ⟨⟨12, 59, rfl, by decide, zNTok_12_59⟩, List.forall_mem_cons.mpr ⟨⟨12, 222, rfl, by decide, zNTok_12_222⟩, List.forall_mem_cons.mpr ⟨⟨12, 269, rfl, by decide, zNTok_12_269⟩, List.forall_mem_cons.mpr ⟨⟨15, 13, rfl, by decide, zNTok_15_13⟩, fun _ h => absurd h List.not_mem_nil⟩⟩⟩⟩⟩⟩⟩⟩⟩⟩⟩⟩⟩⟩⟩⟩⟩⟩⟩⟩
theorem zNTok_all {o i : Nat} {v : Nat} (h : zNT o i = some v) : zNTok o i v := by
  unfold zNT at h
  cases hi : Nat.blt i 4096 with
  | false => rw [hi] at h; cases h
  | true =>
  rw [hi] at h
  have hi := Nat.le_of_ble_eq_true hi
  obtain ⟨o2, i2, e1, e2, h2⟩ := zNTok_l _ (zlk_mem h)
  dsimp only at e1 h2
  obtain ⟨rfl, rfl⟩ : o2 = o ∧ i2 = i := by omega
  exact h2
def zac (t : Nat) : String := ((zlk [(24, "DependencyPairAnalyzer$Rule"), (25, "DependencyPairAnalyzer$Term"), (26, "DependencyPairAnalyzer$Pair"), (27, "DependencyPairAnalyzer$SizeChangeGraph"), (28, "java/lang/Object")] t).getD "")
def zNAok (o i t : Nat) : Prop := (24 ≤ t ∧ t ≤ 28 ∧ Cond.classLink (znm o) i (zac t) ∈ lw_all) ∨ (t = 29 ∧ Cond.classLink (znm o) i "[[Z" ∈ lw_all)
theorem zNAok_2_13 : zNAok 2 13 24 := Or.inl ⟨by decide, by decide, q135⟩
theorem zNAok_2_19 : zNAok 2 19 25 := Or.inl ⟨by decide, by decide, q137⟩
theorem zNAok_2_45 : zNAok 2 45 26 := Or.inl ⟨by decide, by decide, q154⟩
theorem zNAok_2_51 : zNAok 2 51 29 := Or.inr ⟨rfl, q156⟩
theorem zNAok_2_80 : zNAok 2 80 27 := Or.inl ⟨by decide, by decide, q214⟩
theorem zNAok_31_2 : zNAok 31 2 28 := Or.inl ⟨by decide, by decide, q1604⟩
theorem zNAok_33_15 : zNAok 33 15 28 := Or.inl ⟨by decide, by decide, q1547⟩
theorem zNAok_l : ∀ e ∈ zNAl, ∃ o i, e.1 = o * 4096 + i ∧ i < 4096 ∧ zNAok o i e.2 := List.forall_mem_cons.mpr ⟨⟨2, 13, rfl, by decide, zNAok_2_13⟩, List.forall_mem_cons.mpr ⟨⟨2, 19, rfl, by decide, zNAok_2_19⟩, List.forall_mem_cons.mpr ⟨⟨2, 45, rfl, by decide, zNAok_2_45⟩, List.forall_mem_cons.mpr ⟨⟨2, 51, rfl, by decide, zNAok_2_51⟩, List.forall_mem_cons.mpr ⟨⟨2, 80, rfl, by decide, zNAok_2_80⟩, List.forall_mem_cons.mpr ⟨⟨31, 2, rfl, by decide, zNAok_31_2⟩, List.forall_mem_cons.mpr ⟨⟨33, 15, rfl, by decide, zNAok_33_15⟩, fun _ h => absurd h List.not_mem_nil⟩⟩⟩⟩⟩⟩⟩
theorem zNAok_all {o i : Nat} {v : Nat} (h : zNA o i = some v) : zNAok o i v := by
  unfold zNA at h
  cases hi : Nat.blt i 4096 with
  | false => rw [hi] at h; cases h
  | true =>
  rw [hi] at h
  have hi := Nat.le_of_ble_eq_true hi
  obtain ⟨o2, i2, e1, e2, h2⟩ := zNAok_l _ (zlk_mem h)
  dsimp only at e1 h2
  obtain ⟨rfl, rfl⟩ : o2 = o ∧ i2 = i := by omega
  exact h2
def zNwC : List (String × String) := [("DependencyPairAnalyzer$Term", "java/lang/Comparable"), ("DependencyPairAnalyzer$SizeChangeGraph", "java/lang/Comparable"), ("java/lang/Integer", "java/lang/Comparable"), ("[I", "java/lang/Cloneable"), ("DependencyPairAnalyzer$Term", "java/lang/Object"), ("DependencyPairAnalyzer$SyntaxException", "DependencyPairAnalyzer$SyntaxException")]
def zan (t : Nat) : String := ((zlk [(20, "[I"), (21, "[B"), (22, "[Z"), (23, "[J"), (24, "[LDependencyPairAnalyzer$Rule;"), (25, "[LDependencyPairAnalyzer$Term;"), (26, "[LDependencyPairAnalyzer$Pair;"), (27, "[LDependencyPairAnalyzer$SizeChangeGraph;"), (28, "[Ljava/lang/Object;"), (29, "[[Z")] t).getD "")
def zXok (o i : Nat) (ts : List Nat) : Prop := ∃ nm, Cond.classLink (znm o) i nm ∈ lw_all ∧ ∀ u ∈ ts, (1 ≤ u ∧ u ≤ 16 ∧ ∀ C T N, zcl[u - 1]? = some (C, T, N) → C = nm ∨ (C, nm) ∈ zNwC) ∨ (u = 32 ∧ ("java/lang/Integer" = nm ∨ ("java/lang/Integer", nm) ∈ zNwC)) ∨ (20 ≤ u ∧ u ≤ 28 ∧ nm = zan u)
theorem zXok_2_260 : zXok 2 260 [32] := ⟨_, q984, List.forall_mem_cons.mpr ⟨Or.inr (Or.inl ⟨rfl, Or.inl rfl⟩), fun _ h => absurd h List.not_mem_nil⟩⟩
theorem zXok_2_80 : zXok 2 80 [3] := ⟨_, q214, List.forall_mem_cons.mpr ⟨Or.inl ⟨by decide, by decide, fun C T N h => by cases h; exact Or.inl rfl⟩, fun _ h => absurd h List.not_mem_nil⟩⟩
theorem zXok_2_19 : zXok 2 19 [4] := ⟨_, q137, List.forall_mem_cons.mpr ⟨Or.inl ⟨by decide, by decide, fun C T N h => by cases h; exact Or.inl rfl⟩, fun _ h => absurd h List.not_mem_nil⟩⟩
theorem zXok_4_10 : zXok 4 10 [3] := ⟨_, q682, List.forall_mem_cons.mpr ⟨Or.inl ⟨by decide, by decide, fun C T N h => by cases h; exact Or.inl rfl⟩, fun _ h => absurd h List.not_mem_nil⟩⟩
theorem zXok_4_23 : zXok 4 23 [20] := ⟨_, q1087, List.forall_mem_cons.mpr ⟨Or.inr (Or.inr ⟨by decide, by decide, rfl⟩), fun _ h => absurd h List.not_mem_nil⟩⟩
theorem zXok_5_10 : zXok 5 10 [4] := ⟨_, q693, List.forall_mem_cons.mpr ⟨Or.inl ⟨by decide, by decide, fun C T N h => by cases h; exact Or.inl rfl⟩, fun _ h => absurd h List.not_mem_nil⟩⟩
theorem zXok_9_8 : zXok 9 8 [4] := ⟨_, q902, List.forall_mem_cons.mpr ⟨Or.inl ⟨by decide, by decide, fun C T N h => by cases h; exact Or.inl rfl⟩, fun _ h => absurd h List.not_mem_nil⟩⟩
theorem zXok_12_99 : zXok 12 99 [3, 4, 32] := ⟨_, q671, List.forall_mem_cons.mpr ⟨Or.inl ⟨by decide, by decide, fun C T N h => by cases h; exact Or.inr (List.mem_of_getElem? (i := 1) rfl)⟩, List.forall_mem_cons.mpr ⟨Or.inl ⟨by decide, by decide, fun C T N h => by cases h; exact Or.inr (List.mem_of_getElem? (i := 0) rfl)⟩, List.forall_mem_cons.mpr ⟨Or.inr (Or.inl ⟨rfl, Or.inr (List.mem_of_getElem? (i := 2) rfl)⟩), fun _ h => absurd h List.not_mem_nil⟩⟩⟩⟩
theorem zXok_18_1 : zXok 18 1 [32] := ⟨_, q638, List.forall_mem_cons.mpr ⟨Or.inr (Or.inl ⟨rfl, Or.inl rfl⟩), fun _ h => absurd h List.not_mem_nil⟩⟩
theorem zXok_26_13 : zXok 26 13 [10] := ⟨_, q1155, List.forall_mem_cons.mpr ⟨Or.inl ⟨by decide, by decide, fun C T N h => by cases h; exact Or.inl rfl⟩, fun _ h => absurd h List.not_mem_nil⟩⟩
theorem zXok_31_311 : zXok 31 311 [21] := ⟨_, q1368, List.forall_mem_cons.mpr ⟨Or.inr (Or.inr ⟨by decide, by decide, rfl⟩), fun _ h => absurd h List.not_mem_nil⟩⟩
theorem zXok_31_110 : zXok 31 110 [28] := ⟨_, q1603, List.forall_mem_cons.mpr ⟨Or.inr (Or.inr ⟨by decide, by decide, rfl⟩), fun _ h => absurd h List.not_mem_nil⟩⟩
theorem zXok_l : ∀ e ∈ zXTl, ∃ o i, e.1 = o * 4096 + i ∧ i < 4096 ∧ zXok o i e.2 := List.forall_mem_cons.mpr ⟨⟨2, 260, rfl, by decide, zXok_2_260⟩, List.forall_mem_cons.mpr ⟨⟨2, 80, rfl, by decide, zXok_2_80⟩, List.forall_mem_cons.mpr ⟨⟨2, 19, rfl, by decide, zXok_2_19⟩, List.forall_mem_cons.mpr ⟨⟨4, 10, rfl, by decide, zXok_4_10⟩, List.forall_mem_cons.mpr ⟨⟨4, 23, rfl, by decide, zXok_4_23⟩, List.forall_mem_cons.mpr ⟨⟨5, 10, rfl, by decide, zXok_5_10⟩, List.forall_mem_cons.mpr ⟨⟨9, 8, rfl, by decide, zXok_9_8⟩, List.forall_mem_cons.mpr ⟨⟨12, 99, rfl, by decide, zXok_12_99⟩, List.forall_mem_cons.mpr ⟨⟨18, 1, rfl, by decide, zXok_18_1⟩, List.forall_mem_cons.mpr ⟨⟨26, 13, rfl, by decide, zXok_26_13⟩, List.forall_mem_cons.mpr ⟨⟨31, 311, rfl, by decide, zXok_31_311⟩, List.forall_mem_cons.mpr ⟨⟨31, 110, rfl, by decide, zXok_31_110⟩, fun _ h => absurd h List.not_mem_nil⟩⟩⟩⟩⟩⟩⟩⟩⟩⟩⟩⟩
theorem zXok_all {o i : Nat} {v : List Nat} (h : zXT o i = some v) : zXok o i v := by
  unfold zXT at h
  cases hi : Nat.blt i 4096 with
  | false => rw [hi] at h; cases h
  | true =>
  rw [hi] at h
  have hi := Nat.le_of_ble_eq_true hi
  obtain ⟨o2, i2, e1, e2, h2⟩ := zXok_l _ (zlk_mem h)
  dsimp only at e1 h2
  obtain ⟨rfl, rfl⟩ : o2 = o ∧ i2 = i := by omega
  exact h2
def zNwM : List Jvm.Cond := [(Jvm.Cond.methodLinkNest "DependencyPairAnalyzer" (34 : Nat) ({ cls := "DependencyPairAnalyzer$Reader", name := "<init>", desc := "(LDependencyPairAnalyzer;)V" } : Jvm.MethodName) "DependencyPairAnalyzer"),
  (Jvm.Cond.methodLinkNest "DependencyPairAnalyzer$Term" (37 : Nat) ({ cls := "DependencyPairAnalyzer", name := "isBetween", desc := "(JJJ)Z" } : Jvm.MethodName) "DependencyPairAnalyzer"),
  (Jvm.Cond.methodLinkNest "DependencyPairAnalyzer$Reader" (49 : Nat) ({ cls := "DependencyPairAnalyzer", name := "build", desc := "(I)V" } : Jvm.MethodName) "DependencyPairAnalyzer"),
  (Jvm.Cond.methodLinkNest "DependencyPairAnalyzer" (457 : Nat) ({ cls := "DependencyPairAnalyzer$TermComparator", name := "<init>", desc := "()V" } : Jvm.MethodName) "DependencyPairAnalyzer")]
def zITok (o i j : Nat) : Prop := (j = 1 ∧ Cond.methodLink (znm o) i objectInit ∈ lw_all) ∨ (j = 2 ∧ ((o = 2 ∧ Cond.methodLink (znm o) i yX0_isBetween ∈ lw_all) ∨ (o ≠ 2 ∧ Cond.methodLinkNest (znm o) i yX0_isBetween "DependencyPairAnalyzer" ∈ zNwM))) ∨ (j = 3 ∧ Cond.methodLink (znm o) i arraycopyName ∈ lw_all) ∨ (j = 4 ∧ Cond.methodLink (znm o) i ⟨"[I", "clone", "()Ljava/lang/Object;"⟩ ∈ lw_all) ∨ (j = 5 ∧ Cond.methodLink (znm o) i ⟨"java/lang/Object", "getClass", "()Ljava/lang/Class;"⟩ ∈ lw_all)
theorem zITok_2_1 : zITok 2 1 1 := Or.inl ⟨rfl, q132⟩
theorem zITok_2_134 : zITok 2 134 2 := Or.inr (Or.inl ⟨rfl, Or.inl ⟨rfl, q384⟩⟩)
theorem zITok_2_195 : zITok 2 195 3 := Or.inr (Or.inr (Or.inl ⟨rfl, q561⟩))
theorem zITok_3_7 : zITok 3 7 1 := Or.inl ⟨rfl, q144⟩
theorem zITok_4_3 : zITok 4 3 1 := Or.inl ⟨rfl, q220⟩
theorem zITok_4_22 : zITok 4 22 4 := Or.inr (Or.inr (Or.inr (Or.inl ⟨rfl, q1081⟩)))
theorem zITok_5_3 : zITok 5 3 1 := Or.inl ⟨rfl, q246⟩
theorem zITok_5_19 : zITok 5 19 3 := Or.inr (Or.inr (Or.inl ⟨rfl, q247⟩))
theorem zITok_5_37 : zITok 5 37 2 := Or.inr (Or.inl ⟨rfl, Or.inr ⟨by decide, List.mem_of_getElem? (i := 1) rfl⟩⟩)
theorem zITok_7_1 : zITok 7 1 1 := Or.inl ⟨rfl, q513⟩
theorem zITok_8_3 : zITok 8 3 1 := Or.inl ⟨rfl, q586⟩
theorem zITok_9_1 : zITok 9 1 1 := Or.inl ⟨rfl, q1538⟩
theorem zITok_10_3 : zITok 10 3 1 := Or.inl ⟨rfl, q1680⟩
theorem zITok_11_1 : zITok 11 1 1 := Or.inl ⟨rfl, q166⟩
theorem zITok_13_1 : zITok 13 1 1 := Or.inl ⟨rfl, q209⟩
theorem zITok_16_1 : zITok 16 1 1 := Or.inl ⟨rfl, q461⟩
theorem zITok_24_3 : zITok 24 3 1 := Or.inl ⟨rfl, q913⟩
theorem zITok_27_7 : zITok 27 7 1 := Or.inl ⟨rfl, q1172⟩
theorem zITok_29_3 : zITok 29 3 1 := Or.inl ⟨rfl, q1314⟩
theorem zITok_31_150 : zITok 31 150 3 := Or.inr (Or.inr (Or.inl ⟨rfl, q1370⟩))
theorem zITok_31_86 : zITok 31 86 5 := Or.inr (Or.inr (Or.inr (Or.inr ⟨rfl, q1578⟩)))
theorem zITok_l : ∀ e ∈ zITl, ∃ o i, e.1 = o * 4096 + i ∧ i < 4096 ∧ zITok o i e.2 := List.forall_mem_cons.mpr ⟨⟨2, 1, rfl, by decide, zITok_2_1⟩, List.forall_mem_cons.mpr ⟨⟨2, 134, rfl, by decide, zITok_2_134⟩, List.forall_mem_cons.mpr ⟨⟨2, 195, rfl, by decide, zITok_2_195⟩, List.forall_mem_cons.mpr ⟨⟨3, 7, rfl, by decide, zITok_3_7⟩, List.forall_mem_cons.mpr ⟨⟨4, 3, rfl, by decide, zITok_4_3⟩, List.forall_mem_cons.mpr ⟨⟨4, 22, rfl, by decide, zITok_4_22⟩, List.forall_mem_cons.mpr ⟨⟨5, 3, rfl, by decide, zITok_5_3⟩, List.forall_mem_cons.mpr ⟨⟨5, 19, rfl, by decide, zITok_5_19⟩, List.forall_mem_cons.mpr ⟨⟨5, 37, rfl, by decide, zITok_5_37⟩, List.forall_mem_cons.mpr ⟨⟨7, 1, rfl, by decide, zITok_7_1⟩, List.forall_mem_cons.mpr ⟨⟨8, 3, rfl, by decide, zITok_8_3⟩, List.forall_mem_cons.mpr ⟨⟨9, 1, rfl, by decide, zITok_9_1⟩, List.forall_mem_cons.mpr ⟨⟨10, 3, rfl, by decide, zITok_10_3⟩, List.forall_mem_cons.mpr ⟨⟨11, 1, rfl, by decide, zITok_11_1⟩, List.forall_mem_cons.mpr ⟨⟨13, 1, rfl, by decide, zITok_13_1⟩, List.forall_mem_cons.mpr ⟨⟨16, 1, rfl, by decide, zITok_16_1⟩, List.forall_mem_cons.mpr ⟨⟨24, 3, rfl, by decide, zITok_24_3⟩, List.forall_mem_cons.mpr ⟨⟨27, 7, rfl, by decide, zITok_27_7⟩, List.forall_mem_cons.mpr ⟨⟨29, 3, rfl, by decide, zITok_29_3⟩, List.forall_mem_cons.mpr ⟨⟨31, 150, rfl, by decide, zITok_31_150⟩, List.forall_mem_cons.mpr ⟨⟨31, 86, rfl, by decide, zITok_31_86⟩, fun _ h => absurd h List.not_mem_nil⟩⟩⟩⟩⟩⟩⟩⟩⟩⟩⟩⟩⟩⟩⟩⟩⟩⟩⟩⟩⟩
theorem zITok_all {o i : Nat} {v : Nat} (h : zIT o i = some v) : zITok o i v := by
  unfold zIT at h
  cases hi : Nat.blt i 4096 with
  | false => rw [hi] at h; cases h
  | true =>
  rw [hi] at h
  have hi := Nat.le_of_ble_eq_true hi
  obtain ⟨o2, i2, e1, e2, h2⟩ := zITok_l _ (zlk_mem h)
  dsimp only at e1 h2
  obtain ⟨rfl, rfl⟩ : o2 = o ∧ i2 = i := by omega
  exact h2
theorem zow_lt : ∀ mi, zow mi < 999 := by
  intro mi
  unfold zow
  cases h : zlk zmt mi with
  | none => decide
  | some e =>
    have h1 := zlk_mem h
    have h2 : (zmt.all fun e => decide (e.2.2.2.1 < 999)) = true := by decide +kernel
    exact of_decide_eq_true (List.all_eq_true.mp h2 _ h1)
