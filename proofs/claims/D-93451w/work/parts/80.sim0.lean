/-! SIMULATION, I: how the abstract heap lies in the machine's heap -/
set_option maxRecDepth 100000
def TX8 : u_T := fun _ => ("", "", "", false)
def zcl : List vw_C := [(RX0, TX0, 33), (RX1, TX1, 2), (RX2, TX2, 3), (RX3, TX3, 2), (RX5, TX5, 7), (RX6, TX6, 2), (RX7, TX7, 5), (RX8, TX8, 0), (RX4, TX4, 41), (RJ1, TJ1, 9), (RJ17, TJ17, 6), (RJ19, TJ19, 1), (RJ21, TJ21, 4), (RJ4, TJ4, 1), (RJ26, TJ26, 4), (RJ23, TJ23, 4)]
/-- the machine's side: classes and slots, first new cell, old cells, array classes, the first heap, the statics' values, the script -/
abbrev ZP : Type := va_G × Nat × (Nat → Nat) × (Nat → ClassId) × Heap × (Nat → ZV) × List Int
def zpD (Z : ZP) : va_G := Z.1
def zpb (Z : ZP) : Nat := Z.2.1
def zpo (Z : ZP) : Nat → Nat := Z.2.2.1
def zpc (Z : ZP) : Nat → ClassId := Z.2.2.2.1
def zpH (Z : ZP) : Heap := Z.2.2.2.2.1
def zps (Z : ZP) : Nat → ZV := Z.2.2.2.2.2.1
def zpx (Z : ZP) : List Int := Z.2.2.2.2.2.2
def zrho (Z : ZP) (a : Nat) : Nat := if a < 300 then zpo Z a else zpb Z + (a - 300)
def zev (Z : ZP) (v : ZV) : Value := match v with
  | Sum.inl x => .int (Int32.ofInt x)
  | Sum.inr (Sum.inl x) => .long (Int64.ofInt x)
  | Sum.inr (Sum.inr (Sum.inl none)) => .null
  | Sum.inr (Sum.inr (Sum.inl (some a))) => .ref (zrho Z a)
  | Sum.inr (Sum.inr (Sum.inr _)) => .null
theorem zev_I (Z : ZP) (x : Int) : zev Z (zI x) = .int (Int32.ofInt x) := rfl
theorem zev_L (Z : ZP) (x : Int) : zev Z (zL x) = .long (Int64.ofInt x) := rfl
theorem zev_N (Z : ZP) : zev Z (zO none) = .null := rfl
theorem zev_R (Z : ZP) (a : Nat) : zev Z (zO (some a)) = .ref (zrho Z a) := rfl
theorem zev_O (Z : ZP) (o : Option Nat) : zev Z (zO o) = va_rf (o.map (zrho Z)) := by cases o <;> rfl
def zeo (Z : ZP) (A : AH) (a : Nat) : va_E :=
  if tg A a = 20 ∨ tg A a = 21 ∨ tg A a = 22 then .inl (zpc Z (tg A a), (ia A a).length, .inl (fun j => Int32.ofInt ((ia A a).getD j 0)))
  else if tg A a = 23 then .inl (zpc Z (tg A a), (la A a).length, .inr (.inl (fun j => Int64.ofInt ((la A a).getD j 0))))
  else if 24 ≤ tg A a then .inl (zpc Z (tg A a), (ra A a).length, .inr (.inr (.inr (.inr (fun j => ((ra A a).getD j none).map (zrho Z))))))
  else .inr (tg A a - 1, (List.range (znf (tg A a))).map (fun k => zev Z (fd A a k)))
def zE (Z : ZP) (A : AH) : va_W := (List.range (nx A - 300)).map (fun i => (zpb Z + i, zeo Z A (300 + i)))
def ztys (Z : ZP) : List (ClassId × FieldType) := [(zpc Z 20, .int), (zpc Z 21, .byte), (zpc Z 22, .boolean), (zpc Z 23, .long), (zpc Z 24, .object "DependencyPairAnalyzer$Rule"), (zpc Z 25, .object "DependencyPairAnalyzer$Term"), (zpc Z 26, .object "DependencyPairAnalyzer$Pair"), (zpc Z 27, .object "DependencyPairAnalyzer$SizeChangeGraph"), (zpc Z 28, .object "java/lang/Object"), (zpc Z 29, .array .boolean)]
/-- the region that the run may write -/
abbrev zA (Z : ZP) : Nat → Prop := fun q => zpb Z ≤ q
theorem zE_get {Z : ZP} {A : AH} {a : Nat} (h : 300 ≤ a) (h2 : a < nx A) : (zE Z A)[a - 300]? = some (zrho Z a, zeo Z A a) := by
  unfold zE
  rw [List.getElem?_map, List.getElem?_range (by omega)]
  simp only [Option.map_some]
  rw [show 300 + (a - 300) = a by omega]
  unfold zrho
  rw [if_neg (by omega)]
theorem zE_len {Z : ZP} {A : AH} : (zE Z A).length = nx A - 300 := by simp [zE]
theorem zE_D {Z : ZP} {A : AH} : va_D (zA Z) (zE Z A) := by
  refine ⟨fun i j p q h1 h2 e => ?_, fun k q h => ?_⟩
  · unfold zE at h1 h2
    rw [List.getElem?_map] at h1 h2
    obtain ⟨x, hx, rfl⟩ := Option.map_eq_some_iff.mp h1
    obtain ⟨y, hy, rfl⟩ := Option.map_eq_some_iff.mp h2
    obtain ⟨hx1, hx2⟩ := List.getElem?_eq_some_iff.mp hx
    obtain ⟨hy1, hy2⟩ := List.getElem?_eq_some_iff.mp hy
    simp at hx2 hy2
    dsimp only at e
    omega
  · unfold zE at h
    rw [List.getElem?_map] at h
    obtain ⟨x, hx, rfl⟩ := Option.map_eq_some_iff.mp h
    exact Nat.le_add_right _ _
/-- one cell changes -/
theorem zE_set {Z : ZP} {A B : AH} {a : Nat} {y : va_E} (h : 300 ≤ a) (h2 : a < nx A) (hn : nx B = nx A) (ho : ∀ b, 300 ≤ b → b < nx A → b ≠ a → zeo Z B b = zeo Z A b) (hy : zeo Z B a = y) : zE Z B = (zE Z A).set (a - 300) (zrho Z a, y) := by
  apply List.ext_getElem?
  intro i
  rw [List.getElem?_set]
  by_cases hi : i < nx A - 300
  · by_cases e : a - 300 = i
    · rw [if_pos e, if_pos (by rw [zE_len]; omega), ← hy]
      subst e
      exact zE_get h (by rw [hn]; exact h2)
    · rw [if_neg e]
      have g1 := zE_get (Z := Z) (A := B) (a := 300 + i) (by omega) (by rw [hn]; omega)
      have g2 := zE_get (Z := Z) (A := A) (a := 300 + i) (by omega) (by omega)
      rw [show 300 + i - 300 = i by omega] at g1 g2
      rw [g1, g2, ho _ (by omega) (by omega) (by omega)]
  · rw [List.getElem?_eq_none (by rw [zE_len, hn]; omega)]
    split
    · rw [if_neg (by rw [zE_len]; omega)]
    · rw [List.getElem?_eq_none (by rw [zE_len]; omega)]
/-- one cell is new -/
theorem zE_push {Z : ZP} {A B : AH} {y : va_E} (h : 300 ≤ nx A) (hn : nx B = nx A + 1) (ho : ∀ b, 300 ≤ b → b < nx A → zeo Z B b = zeo Z A b) (hy : zeo Z B (nx A) = y) : zE Z B = zE Z A ++ [(zrho Z (nx A), y)] := by
  unfold zE
  rw [hn, show nx A + 1 - 300 = (nx A - 300) + 1 by omega, List.range_succ, List.map_append]
  congr 1
  · apply List.map_congr_left
    intro i hi
    have := List.mem_range.mp hi
    rw [ho _ (by omega) (by omega)]
  · simp only [List.map_cons, List.map_nil]
    rw [show 300 + (nx A - 300) = nx A by omega, hy]
    unfold zrho
    rw [if_neg (by omega)]
/-- ints in range -/
def zr32 (x : Int) : Prop := -2147483648 ≤ x ∧ x < 2147483648
def zr64 (x : Int) : Prop := -9223372036854775808 ≤ x ∧ x < 9223372036854775808
theorem zr32_of {x : Int} (h : zr32 x) : (Int32.ofInt x).toInt = x := by
  exact Int32.toInt_ofInt_of_le h.1 h.2
theorem zr64_of {x : Int} (h : zr64 x) : (Int64.ofInt x).toInt = x := by
  exact Int64.toInt_ofInt_of_le h.1 h.2
theorem zr32_to (x : Int32) : zr32 x.toInt := ⟨Int32.le_toInt x, Int32.toInt_lt x⟩
theorem zr64_to (x : Int64) : zr64 x.toInt := ⟨Int64.le_toInt x, Int64.toInt_lt x⟩
