/-! SIMULATION, XIX: ends: returns, throws -/
set_option maxRecDepth 100000
def zEnd (Z : ZP) (B : AH) (t : State) : Prop := va_P (zpD Z) zcl (zE Z B) t.heap ∧ zWF Z B ∧ va_S (zA Z) (zpH Z) t.heap []
def zro (Z : ZP) (r : ZR) : Outcome := match r with | Sum.inl v => .returned (v.map (zev Z)) | Sum.inr a => .threw (zrho Z a)
def zrok (r : ZR) : Prop := match r with | Sum.inl (some v) => zsok v | _ => True
def zQc (Z : ZP) (r : ZR) (B : AH) : Array Value → State → Outcome → State → Prop := fun _ _ o t => o = zro Z r ∧ zrok r ∧ zEnd Z B t
def zXC (Z : ZP) (r : ZR) (B : AH) : String → State → State → Prop := fun E _ t => ∃ a, r = Sum.inr a ∧ E = "DependencyPairAnalyzer$SyntaxException" ∧ t.frames.head? = some (.throwing (zrho Z a)) ∧ zEnd Z B t
def zFX (Z : ZP) (p : Program) (s : State) (m : MethodId) (args : Array Value) (meth : Method) (c : Code) (mi : Nat) (As : AH) : Prop :=
  zFr Z p s m args meth c mi As ∧ meth.locks = false ∧ meth.sig.returnType = zrt mi ∧ (zwh mi = false → ∀ x ∈ c.exceptionTable.toList, False) ∧ (zwh mi = true → c.exceptionTable.toList = tableOf (zhh mi)) ∧ mi < 313
def zrkb (i : Nat) : Bool := match zrk i, zrt i with
  | 0, some .int => true
  | 1, some .boolean => true
  | 2, some .char => true
  | 3, some (.object _) => true
  | 3, some (.array _) => true
  | 4, none => true
  | _, _ => false
theorem zrkb_all : (List.range 313).all zrkb = true := by decide +kernel
theorem zrkb_i {i : Nat} (h : i < 313) : zrkb i = true := List.all_eq_true.mp zrkb_all i (List.mem_range.mpr h)
theorem znc {x : Int} (h0 : 0 ≤ x) (h1 : x ≤ 65535) : narrow .char (.int (Int32.ofInt x)) = .int (Int32.ofInt x) := by
  have e : (Int32.ofInt x).toUInt32.toNat = x.toNat := by
    show (BitVec.ofInt 32 x).toNat = x.toNat
    rw [BitVec.toNat_ofInt]; omega
  have e2 : (Int32.ofInt x).toUInt32.toUInt16.toUInt32 = (Int32.ofInt x).toUInt32 := by
    apply UInt32.toNat_inj.mp
    rw [UInt16.toNat_toUInt32, UInt32.toNat_toUInt16, e]
    omega
  show Value.int ((Int32.ofInt x).toUInt32.toUInt16.toUInt32.toInt32) = _
  rw [e2]
  rfl
theorem zrt_int {mi : Nat} (hi : mi < 313) {x : Int} (hz : zrfit (zrk mi) x = true) : ∃ ty, zrt mi = some ty ∧ narrow ty (.int (Int32.ofInt x)) = .int (Int32.ofInt x) := by
  have h := zrkb_i hi
  unfold zrkb at h
  unfold zrfit at hz
  split at h
  · rename_i e1 e2; exact ⟨_, e2, rfl⟩
  · rename_i e1 e2
    rw [e1] at hz
    refine ⟨_, e2, ?_⟩
    simp at hz
    rcases hz with rfl | rfl <;> rfl
  · rename_i e1 e2
    rw [e1] at hz
    simp at hz
    exact ⟨_, e2, znc hz.1 hz.2⟩
  · rename_i e1 e2; rw [e1] at hz; simp at hz
  · rename_i e1 e2; rw [e1] at hz; simp at hz
  · rename_i e1 e2; rw [e1] at hz; simp at hz
  · cases h
theorem zrt_ref {mi : Nat} (hi : mi < 313) (hz : zrk mi = 3) : ∃ ty, zrt mi = some ty ∧ ((∃ n, ty = .object n) ∨ ∃ t, ty = .array t) := by
  have h := zrkb_i hi
  unfold zrkb at h
  split at h
  · rename_i e1 e2; omega
  · rename_i e1 e2; omega
  · rename_i e1 e2; omega
  · rename_i e1 e2; exact ⟨_, e2, Or.inl ⟨_, rfl⟩⟩
  · rename_i e1 e2; exact ⟨_, e2, Or.inr ⟨_, rfl⟩⟩
  · rename_i e1 e2; omega
  · cases h
theorem zrt_void {mi : Nat} (hi : mi < 313) (hz : zrk mi = 4) : zrt mi = none := by
  have h := zrkb_i hi
  unfold zrkb at h
  split at h
  · rename_i e1 e2; omega
  · rename_i e1 e2; omega
  · rename_i e1 e2; omega
  · rename_i e1 e2; omega
  · rename_i e1 e2; omega
  · rename_i e1 e2; exact e2
  · cases h
section SIM
variable {Z : ZP} {p : Program} {l : Launch} {e : Env} {R : Room} {s : State} {m : MethodId} {args : Array Value} {below : List Frame} {meth : Method} {c : Code} {mi : Nat} {As : AH} {Q : State → Prop} {pc : Nat} {ls st : List ZV} {A : AH}
theorem zrecv5 (hst : zSt Z s) (h3 : zWF Z A) {H : Heap} (h6 : va_P (zpD Z) zcl (zE Z A) H) {a : Nat} (ht : tg A a = 5) : ∃ cell : Cell, H[zrho Z a]? = some cell ∧ cell.vm = .none ∧ s.vm.findClass "DependencyPairAnalyzer$SyntaxException" = some cell.cls := by
  have hr := h3.fresh (by omega : 1 ≤ tg A a) (by omega)
  have he := zE_get (Z := Z) hr.1 hr.2
  rw [zeo_obj (by omega), ht] at he
  obtain ⟨q', h1, cell, g1, g2, g3, -⟩ := h6 _ _ he
  exact ⟨cell, g1, g3, by rw [g2]; exact (hst.1.1 4 _ rfl).2.1⟩
theorem z_out {E : String} {ce : Cell} {q : Addr} {mc ms : Nat} {H : Heap} {locs : List Loc} {cells slots : Nat} {rls : Array Slot} {rest : List Value} {free : Addr → Prop} {Qc : Array Value → State → Outcome → State → Prop} {XC : String → State → State → Prop} (hout : ∀ x ∈ c.exceptionTable.toList, False) (hlocks : meth.locks = false) (hcell : H[q]? = some ce) (hv : ce.vm = .none) (hcl : s.vm.findClass E = some ce.cls)
    (hx : ∀ t : State, t.heap = H → t.frames.head? = some (.throwing q) → XC E s t) (hf : ∀ z ∈ locs, free z.base) (hc : cells ≤ mc) (hs : slots ≤ ms) :
    vx_W p l e R s m args below meth c H locs cells slots (vx_MQ below Qc XC args s mc ms free) (F0 m pc rls rest) q := by
  intro T hT X
  obtain ⟨st1, hrun, hend, hW, hsm⟩ := X.leaveThrown q (g := F0 m pc rls rest) rfl rfl rfl (fun x hx => (hout x hx).elim) hlocks
  have hcell9 : (T.setFrames (.throwing q :: below)).heap[q]? = some ce := by
    show T.heap[q]? = some ce
    rw [hT]; exact hcell
  exact ⟨_, st1, .threw q, hrun, hend, Or.inr ⟨q, rfl, E, ce, locs, hx _ hT (congrArg List.head? hend), hcell9, hv, hcl, hW, hsm.mono hc hs, hf⟩⟩
theorem zHT_none (h : zHT mi pc = none) : zwh mi = false := by
  unfold zHT at h
  unfold zwh
  split at h
  · cases h
  · rename_i h1
    split at h
    · cases h
    · rename_i h2
      simp [h1, h2]
theorem g_thrO (F : zFX Z p s m args meth c mi As) (h3 : zWF Z A) {H : Heap} {locs : List Loc} {rls : Array Slot} {rest : List Value} (h6 : va_P (zpD Z) zcl (zE Z A) H) (h7 : va_S (zA Z) (zpH Z) H locs) {a : Nat} (ht : tg A a = 5) (hh : zHT mi pc = none) : vx_W p l e R s m args below meth c H locs (nx A - nx As) (sl A - sl As) (vx_MQ below (zQc Z (Sum.inr a) A) (zXC Z (Sum.inr a) A) args s (nx A - nx As) (sl A - sl As) (zA Z)) (F0 m pc rls rest) (zrho Z a) := by
  obtain ⟨F1, F2, F3, F4, F5, F6⟩ := F
  have hst := F1.2.2.2.2.2.1
  obtain ⟨ce, k1, k2, k3⟩ := zrecv5 hst h3 h6 ht
  refine z_out (F4 (zHT_none hh)) F2 k1 k2 k3 (fun t ht1 ht2 => ⟨a, rfl, rfl, ht2, ?_, h3, ?_⟩) h7.2.2 (Nat.le_refl _) (Nat.le_refl _)
  · rw [ht1]; exact h6
  · rw [ht1]; exact ⟨h7.1, h7.2.1, fun l hl => absurd hl List.not_mem_nil⟩
end SIM
