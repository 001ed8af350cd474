/-! SIMULATION, II: the judgement zG, locals, numbers -/
set_option maxRecDepth 100000
/-- old cells' tags: the script, the Integers' cache, the Integers -/
def zot (a : Nat) : Nat := if a = 0 then 30 else if a = 1 then 31 else if 40 ≤ a ∧ a < 296 then 32 else 0
def zfok (k : Nat) (v : ZV) : Prop := match v with
  | Sum.inl x => (k = 0 ∧ zr32 x) ∨ (k = 1 ∧ (x = 0 ∨ x = 1)) ∨ (k = 2 ∧ -128 ≤ x ∧ x ≤ 127)
  | Sum.inr (Sum.inr (Sum.inl _)) => k = 3
  | _ => False
def zcok (A : AH) (a : Nat) : Prop :=
  (tg A a = 20 → ∀ x ∈ ia A a, zr32 x) ∧ (tg A a = 21 → ∀ x ∈ ia A a, -128 ≤ x ∧ x ≤ 127) ∧ (tg A a = 22 → ∀ x ∈ ia A a, x = 0 ∨ x = 1) ∧ (tg A a = 23 → ∀ x ∈ la A a, zr64 x) ∧
  (24 ≤ tg A a → tg A a ≤ 28 → ∀ b, some b ∈ ra A a → zel (tg A a) (tg A b) = true) ∧ (tg A a ≤ 16 → ∀ k, k < znf (tg A a) → zfok (zfk (tg A a) k) (fd A a k)) ∧ (20 ≤ tg A a → zlen A a ≤ 1000000)
def zWF (Z : ZP) (A : AH) : Prop := 300 ≤ nx A ∧ (∀ a, nx A ≤ a → tg A a = 0) ∧ (∀ a, 300 ≤ a → a < nx A → (1 ≤ tg A a ∧ tg A a ≤ 16) ∨ (20 ≤ tg A a ∧ tg A a ≤ 29)) ∧ (∀ a, a < 300 → tg A a = zot a) ∧
  (∀ a, 300 ≤ a → a < nx A → zcok A a) ∧ ia A 0 = zpx Z ∧ ra A 1 = (List.range 256).map (fun k => some (40 + k)) ∧ (∀ k, k < 256 → fd A (40 + k) 0 = zI ((k : Int) - 128)) ∧ (∀ j, sg A j = zps Z j) ∧ (∀ x ∈ zpx Z, zr32 x) ∧ (zpx Z).length ≤ 256
theorem zWF.fresh {Z : ZP} {A : AH} (h : zWF Z A) {a : Nat} (h1 : 1 ≤ tg A a) (h2 : tg A a ≤ 29) : 300 ≤ a ∧ a < nx A := by
  obtain ⟨-, w2, -, w4, -⟩ := h
  constructor
  · rcases Nat.lt_or_ge a 300 with q | q
    · have := w4 a q
      unfold zot at this
      split at this
      · omega
      · split at this
        · omega
        · split at this <;> omega
    · exact q
  · rcases Nat.lt_or_ge a (nx A) with q | q
    · exact q
    · have := w2 a q
      omega
def zlok (v : ZV) : Prop := match v with | Sum.inl x => zr32 x | Sum.inr (Sum.inl _) => False | _ => True
def zsok (v : ZV) : Prop := match v with | Sum.inl x => zr32 x | Sum.inr (Sum.inl x) => zr64 x | Sum.inr (Sum.inr (Sum.inl _)) => True | _ => False
def zLv (Z : ZP) (ls : List ZV) (i : Nat) : Option (Nat × Value) := match ls[i]? with
  | some (Sum.inl x) => some (i, .int (Int32.ofInt x))
  | some (Sum.inr (Sum.inr (Sum.inl o))) => some (i, zev Z (zO o))
  | _ => none
def zLk (Z : ZP) (ls : List ZV) : List (Nat × Value) := (List.range ls.length).filterMap (zLv Z ls)
theorem zLk_mem {Z : ZP} {ls : List ZV} {q : Nat × Value} : q ∈ zLk Z ls ↔ zLv Z ls q.1 = some q := by
  unfold zLk
  rw [List.mem_filterMap]
  constructor
  · rintro ⟨i, -, h⟩
    have e : q.1 = i := by
      unfold zLv at h
      split at h
      · cases h; rfl
      · cases h; rfl
      · cases h
    rw [e]; exact h
  · intro h
    refine ⟨q.1, List.mem_range.mpr ?_, h⟩
    unfold zLv at h
    split at h
    · rename_i g; exact (List.getElem?_eq_some_iff.mp g).1
    · rename_i g; exact (List.getElem?_eq_some_iff.mp g).1
    · cases h
theorem zLk_int {Z : ZP} {rls : Array Slot} {n : Nat} {ls : List ZV} (h : lv_has rls n (zLk Z ls)) {i : Nat} {x : Int} (hi : ls[i]? = some (zI x)) : rls[i]? = some (.val (.int (Int32.ofInt x))) :=
  h.2.2 (i, .int (Int32.ofInt x)) (zLk_mem.mpr (by unfold zLv; rw [hi]; rfl))
theorem zLk_ref {Z : ZP} {rls : Array Slot} {n : Nat} {ls : List ZV} (h : lv_has rls n (zLk Z ls)) {i : Nat} {o : Option Nat} (hi : ls[i]? = some (zO o)) : rls[i]? = some (.val (zev Z (zO o))) :=
  h.2.2 (i, zev Z (zO o)) (zLk_mem.mpr (by unfold zLv; rw [hi]; rfl))
/-- a local is stored -/
theorem zLk_set {Z : ZP} {rls : Array Slot} {n i : Nat} {ls : List ZV} {v : ZV} (hv : zlok v) (hu : v ≠ zU) (hls : ∀ v ∈ ls, zlok v) (h : lv_has rls n ((i, zev Z v) :: (zLk Z ls).filter (fun q => !(q.1 == i) && !(q.1 + 1 == i && q.2.category == 2)))) : lv_has rls n (zLk Z (ls.set i v)) := by
  refine ⟨h.1, h.2.1, fun q hq => h.2.2 q ?_⟩
  have hq2 := zLk_mem.mp hq
  by_cases e : q.1 = i
  · refine List.mem_cons.mpr (Or.inl ?_)
    unfold zLv at hq2
    rw [List.getElem?_set, e] at hq2
    simp only [if_pos] at hq2
    by_cases hl : i < ls.length
    · rw [if_pos hl] at hq2
      obtain ⟨q1, q2⟩ := q
      rcases v with x | x | x | x
      · cases hq2; rfl
      · exact hv.elim
      · cases hq2; rfl
      · exact absurd rfl hu
    · rw [if_neg hl] at hq2
      cases hq2
  · refine List.mem_cons.mpr (Or.inr (List.mem_filter.mpr ⟨zLk_mem.mpr ?_, ?_⟩))
    · unfold zLv at hq2 ⊢
      rw [List.getElem?_set, if_neg (fun z => e z.symm)] at hq2
      exact hq2
    · have hc : q.2.category = 1 := by
        obtain ⟨q1, q2⟩ := q
        unfold zLv at hq2
        split at hq2
        · cases hq2; rfl
        · rename_i o _
          cases hq2
          cases o <;> rfl
        · cases hq2
      simp [e, hc]
theorem zLk_new {Z : ZP} {rls : Array Slot} {n : Nat} {ls : List ZV} (hs : rls.size = n) (hw : lv_wf rls) (h : ∀ (i : Nat) (v : ZV), ls[i]? = some v → v ≠ zU → rls[i]? = some (Slot.val (zev Z v))) (hl : ∀ v ∈ ls, zlok v) : lv_has rls n (zLk Z ls) := by
  refine ⟨hs, hw, fun q hq => ?_⟩
  have hq2 := zLk_mem.mp hq
  obtain ⟨q1, q2⟩ := q
  unfold zLv at hq2
  split at hq2
  · rename_i x g
    cases hq2
    exact h _ _ g (fun z => by cases z)
  · rename_i o g
    cases hq2
    exact h _ _ g (fun z => by cases z)
  · cases hq2
/-! numbers -/
theorem zr32_zw (x : Int) : zr32 (zw x) := by
  unfold zr32 zw
  exact ⟨by have := Int.le_bmod (x := x) (m := 4294967296) (by decide); omega, by have := Int.bmod_lt (x := x) (m := 4294967296) (by decide); omega⟩
theorem zo_w (x : Int) : Int32.ofInt (zw x) = Int32.ofInt x := by
  apply Int32.toInt_inj.mp
  rw [zr32_of (zr32_zw x), Int32.toInt_ofInt]; rfl
theorem zo_add (a b : Int) : Int32.ofInt a + Int32.ofInt b = Int32.ofInt (zw (a + b)) := by rw [zo_w, Int32.ofInt_add]
theorem zo_sub (a b : Int) : Int32.ofInt a - Int32.ofInt b = Int32.ofInt (zw (a - b)) := by rw [zo_w, Int32.ofInt_sub]
theorem zo_mul (a b : Int) : Int32.ofInt a * Int32.ofInt b = Int32.ofInt (zw (a * b)) := by rw [zo_w, Int32.ofInt_mul]
theorem zo_to (x : Int32) : Int32.ofInt x.toInt = x := Int32.ofInt_toInt x
theorem zo_to64 (x : Int64) : Int64.ofInt x.toInt = x := Int64.ofInt_toInt x
theorem zo_eq {a b : Int} (ha : zr32 a) (hb : zr32 b) : Int32.ofInt a = Int32.ofInt b ↔ a = b := by
  rw [← Int32.toInt_inj, zr32_of ha, zr32_of hb]
theorem zo_lt {a b : Int} (ha : zr32 a) (hb : zr32 b) : Int32.ofInt a < Int32.ofInt b ↔ a < b := by
  rw [Int32.lt_iff_toInt_lt, zr32_of ha, zr32_of hb]
theorem zo_le {a b : Int} (ha : zr32 a) (hb : zr32 b) : Int32.ofInt a ≤ Int32.ofInt b ↔ a ≤ b := by
  rw [Int32.le_iff_toInt_le, zr32_of ha, zr32_of hb]
theorem zr32_0 : zr32 0 := ⟨by decide, by decide⟩
theorem zo_nat {j : Int} (h : zr32 j) (h0 : 0 ≤ j) : (Int32.ofInt j).toNatClampNeg = j.toNat := by
  show (Int32.ofInt j).toInt.toNat = _
  rw [zr32_of h]
theorem zo_in {j : Int} {n : Nat} (h : zr32 j) (h0 : 0 ≤ j) (h1 : j.toNat < n) : vp_in (Int32.ofInt j) n := by
  unfold vp_in
  rintro (q | q)
  · rw [show (0 : Int32) = Int32.ofInt 0 from rfl, zo_lt h zr32_0] at q; omega
  · rw [zo_nat h h0] at q; omega
theorem zo_nn {j : Int} (h : zr32 j) (h0 : 0 ≤ j) : ¬ Int32.ofInt j < 0 := by
  rw [show (0 : Int32) = Int32.ofInt 0 from rfl, zo_lt h zr32_0]; omega
def zG (Z : ZP) (p : Program) (l : Launch) (e : Env) (R : Room) (s : State) (m : MethodId) (args : Array Value) (below : List Frame) (meth : Method) (c : Code) (mi : Nat) (As : AH) (Q : State → Prop) (pc : Nat) (ls st : List ZV) (A : AH) : Prop :=
  (∀ v ∈ ls, zlok v) → (∀ v ∈ st, zsok v) → zWF Z A → ∀ (rls : Array Slot) (H : Heap) (locs : List Loc), lv_has rls (zml mi) (zLk Z ls) → ls.length = zml mi → va_P (zpD Z) zcl (zE Z A) H → va_S (zA Z) (zpH Z) H locs →
    W p l e R s m args below meth c H locs (nx A - nx As) (sl A - sl As) Q (F0 m pc rls (st.map (zev Z)))
