/-! SIMULATION, V: what holds of the machine's tables and of its old cells all through the run -/
set_option maxRecDepth 100000
def zNwA : List String := ["DependencyPairAnalyzer$Rule", "DependencyPairAnalyzer$Term", "DependencyPairAnalyzer$Pair", "DependencyPairAnalyzer$SizeChangeGraph", "java/lang/Object"]
def zNwI : List (String × MethodName × MethodName) := [("java/util/TreeMap$KeyIterator", ⟨"java/util/Iterator", "hasNext", "()Z"⟩, ⟨"java/util/TreeMap$PrivateEntryIterator", "hasNext", "()Z"⟩),
  ("java/util/TreeMap$KeyIterator", ⟨"java/util/Iterator", "next", "()Ljava/lang/Object;"⟩, ⟨"java/util/TreeMap$KeyIterator", "next", "()Ljava/lang/Object;"⟩),
  ("DependencyPairAnalyzer$TermComparator", ⟨"java/util/Comparator", "compare", "(Ljava/lang/Object;Ljava/lang/Object;)I"⟩, ⟨"DependencyPairAnalyzer$TermComparator", "compare", "(Ljava/lang/Object;Ljava/lang/Object;)I"⟩),
  ("DependencyPairAnalyzer$SizeChangeGraph", ⟨"java/lang/Comparable", "compareTo", "(Ljava/lang/Object;)I"⟩, ⟨"DependencyPairAnalyzer$SizeChangeGraph", "compareTo", "(Ljava/lang/Object;)I"⟩),
  ("DependencyPairAnalyzer$Term", ⟨"java/lang/Comparable", "compareTo", "(Ljava/lang/Object;)I"⟩, ⟨"DependencyPairAnalyzer$Term", "compareTo", "(Ljava/lang/Object;)I"⟩),
  ("java/lang/Integer", ⟨"java/lang/Comparable", "compareTo", "(Ljava/lang/Object;)I"⟩, ⟨"java/lang/Integer", "compareTo", "(Ljava/lang/Object;)I"⟩),
  ("java/util/TreeMap", ⟨"java/util/NavigableMap", "navigableKeySet", "()Ljava/util/NavigableSet;"⟩, ⟨"java/util/TreeMap", "navigableKeySet", "()Ljava/util/NavigableSet;"⟩),
  ("java/util/TreeMap$KeySet", ⟨"java/util/NavigableSet", "iterator", "()Ljava/util/Iterator;"⟩, ⟨"java/util/TreeMap$KeySet", "iterator", "()Ljava/util/Iterator;"⟩)]
def zNwD : List MethodName := [⟨"java/util/TreeMap$PrivateEntryIterator", "nextEntry", "()Ljava/util/TreeMap$Entry;"⟩, ⟨"java/util/AbstractCollection", "isEmpty", "()Z"⟩, ⟨"java/util/AbstractCollection", "size", "()I"⟩]
def zNwP : List MethodName := [⟨"java/lang/AbstractStringBuilder", "ensureCapacityInternal", "(I)V"⟩, ⟨"java/lang/AbstractStringBuilder", "newCapacity", "(I)I"⟩]
def zNwN : List (Nat × String × String) := [(53, "size", "()I"), (61, "containsKey", "(Ljava/lang/Object;)Z"), (69, "put", "(Ljava/lang/Object;Ljava/lang/Object;)Ljava/lang/Object;"), (77, "clear", "()V")]
/-- a call by TreeSet of what NavigableMap has from Map -/
def zNav (i : Nat) (n d : String) (U : State) : Prop := (∃ (d0 ci c : Nat) (m0 : MethodId), U.vm.findClass "java/util/TreeSet" = some d0 ∧ U.vm.findClass "java/util/NavigableMap" = some c ∧ U.methodNamed? ⟨"java/util/Map", n, d⟩ = some m0 ∧
    ∀ pl : Platform, pl.magicAccessors = ({} : Platform).magicAccessors → U.vm.MethodLinksFF pl d0 i ci c m0) ∧
  va_Nw (.declares ⟨"java/util/Map", n, d⟩) U ∧ va_Nw (.publicMethod ⟨"java/util/TreeMap", n, d⟩) U ∧ va_Nw (.unhidden "java/util/TreeMap" n d) U ∧ va_Nw (.castable "java/util/TreeMap" "java/util/NavigableMap") U
theorem zNav_warm {i : Nat} {n d : String} {s U : State} (hW : s.WarmedH U.vm) (h : zNav i n d s) : zNav i n d U := by
  obtain ⟨⟨d0, ci, c, m0, h1, h2, h3, h4⟩, h5, h6, h7, h8⟩ := h
  have hv := hW.alike
  refine ⟨⟨d0, ci, c, m0, by rw [hv.findClass]; exact h1, by rw [hv.findClass]; exact h2, ?_, fun pl hp => hW.methodLinksFF (h4 pl hp)⟩, va_Nw.warmD hW h5, va_tabs rfl (rfl : (s.setVm U.vm).vm = U.vm) (by rw [Cond.publicMethod_setVm hv]; exact h6), va_tabs rfl (rfl : (s.setVm U.vm).vm = U.vm) (by rw [Cond.unhidden_setVm hv]; exact h7), va_Nw.warmC hW h8⟩
  have e := State.methodNamed?_setVm (s := s) (vm' := U.vm) hv ⟨"java/util/Map", n, d⟩
  exact e.trans h3
/-- all of it -/
def zSt (Z : ZP) (U : State) : Prop := va_K (zpD Z) zcl (ztys Z) U ∧ (∀ w ∈ zNwF, va_Nw w U) ∧ (∀ w ∈ zNwM, va_Nw w U) ∧ (∀ q ∈ zNwC, va_Nw (.castable q.1 q.2) U) ∧ (∀ C ∈ zNwA, va_AO C U) ∧ (Cond.arrayOver (.array .boolean)).before #[] U = true ∧
  (∀ q ∈ zNwI, va_Fw q.1 q.2.1 q.2.2 U) ∧ (∀ x ∈ zNwD, va_Nw (.declares x) U) ∧ (∀ (j : Nat) (q : String × String × String), zstl[j]? = some q → va_Z q.1 q.2.1 q.2.2 (zev Z (zps Z j)) (zA Z) U (zpH Z)) ∧
  va_T (.object "java/lang/Integer") (zrho Z 1) 256 (fun k => .ref (zrho Z (40 + k))) (zA Z) U (zpH Z) ∧ vb_C (fun k => zrho Z (40 + k)) (zA Z) U (zpH Z) ∧ va_X (zrho Z 0) (zpx Z).length (fun j => Int32.ofInt ((zpx Z).getD j 0)) U (zpH Z) ∧ zrho Z 0 < zpb Z ∧ va_Mi "[Ljava/lang/Object;" (zrho Z 34) U ∧ va_Dc U ∧ ((∀ q ∈ zNwN, zNav q.1 q.2.1 q.2.2 U) ∧ (∀ y ∈ zNwP, va_Nw (.privateMethod y) U)) ∧ (∀ j, zsok (zps Z j))
theorem zw_F : ∀ w ∈ zNwF, ∀ {s U : State}, s.WarmedH U.vm → va_Nw w s → va_Nw w U := by
  intro w hw
  have h : ∃ a i b n d h, w = Cond.fieldLinkNest a i b n d h := by
    revert w
    exact List.forall_mem_cons.mpr ⟨⟨_, _, _, _, _, _, rfl⟩, List.forall_mem_cons.mpr ⟨⟨_, _, _, _, _, _, rfl⟩, List.forall_mem_cons.mpr ⟨⟨_, _, _, _, _, _, rfl⟩, List.forall_mem_cons.mpr ⟨⟨_, _, _, _, _, _, rfl⟩, List.forall_mem_cons.mpr ⟨⟨_, _, _, _, _, _, rfl⟩, List.forall_mem_cons.mpr ⟨⟨_, _, _, _, _, _, rfl⟩, List.forall_mem_cons.mpr ⟨⟨_, _, _, _, _, _, rfl⟩, List.forall_mem_cons.mpr ⟨⟨_, _, _, _, _, _, rfl⟩, List.forall_mem_cons.mpr ⟨⟨_, _, _, _, _, _, rfl⟩, List.forall_mem_cons.mpr ⟨⟨_, _, _, _, _, _, rfl⟩, List.forall_mem_cons.mpr ⟨⟨_, _, _, _, _, _, rfl⟩, List.forall_mem_cons.mpr ⟨⟨_, _, _, _, _, _, rfl⟩, List.forall_mem_cons.mpr ⟨⟨_, _, _, _, _, _, rfl⟩, List.forall_mem_cons.mpr ⟨⟨_, _, _, _, _, _, rfl⟩, List.forall_mem_cons.mpr ⟨⟨_, _, _, _, _, _, rfl⟩, List.forall_mem_cons.mpr ⟨⟨_, _, _, _, _, _, rfl⟩, List.forall_mem_cons.mpr ⟨⟨_, _, _, _, _, _, rfl⟩, List.forall_mem_cons.mpr ⟨⟨_, _, _, _, _, _, rfl⟩, List.forall_mem_cons.mpr ⟨⟨_, _, _, _, _, _, rfl⟩, List.forall_mem_cons.mpr ⟨⟨_, _, _, _, _, _, rfl⟩, fun _ h => absurd h List.not_mem_nil⟩⟩⟩⟩⟩⟩⟩⟩⟩⟩⟩⟩⟩⟩⟩⟩⟩⟩⟩⟩
  obtain ⟨a, i, b, n, d, h, rfl⟩ := h
  exact fun {s U} hW hZ => va_Nw.warmF hW hZ
theorem zw_M : ∀ w ∈ zNwM, ∀ {s U : State}, s.WarmedH U.vm → va_Nw w s → va_Nw w U := by
  intro w hw
  have h : ∃ a i x h, w = Cond.methodLinkNest a i x h := by
    revert w
    exact List.forall_mem_cons.mpr ⟨⟨_, _, _, _, rfl⟩, List.forall_mem_cons.mpr ⟨⟨_, _, _, _, rfl⟩, List.forall_mem_cons.mpr ⟨⟨_, _, _, _, rfl⟩, List.forall_mem_cons.mpr ⟨⟨_, _, _, _, rfl⟩, fun _ h => absurd h List.not_mem_nil⟩⟩⟩⟩
  obtain ⟨a, i, x, h, rfl⟩ := h
  exact fun {s U} hW hZ => va_Nw.warmM hW hZ
theorem zw_I : ∀ q ∈ zNwI, q.2.1.cls ≠ "java/lang/invoke/MethodHandle" ∧ q.2.1.cls ≠ "java/lang/invoke/VarHandle" := by decide +kernel
theorem zAO_moved {t : FieldType} {u U : State} (hvm : u.vm.Alike U.vm) (h : (Cond.arrayOver (.array t)).before #[] u = true) : (Cond.arrayOver (.array t)).before #[] U = true := by
  have h' := h
  unfold Cond.before Cond.holds at h'
  simp only [Cond.value, beq_iff_eq] at h'
  cases hc : u.vm.findClass (FieldType.array t).toString with
  | none => rw [hc] at h'; simp at h'
  | some comp =>
    rw [hc] at h'
    simp only [Option.bind_some, Option.bind_eq_some_iff, Option.map_eq_some_iff] at h'
    obtain ⟨c, hi, k, hk, hb⟩ := h'
    obtain ⟨k', hk', he⟩ := hvm.2.2 _ _ hk
    have hi2 : (U.vm.classes.findIdx? fun (x : Class) => match x.kind with | .array component _ => component == comp | _ => false) = some c := by
      have e1 := va_idx_bare U.vm comp
      have e2 := va_idx_bare u.vm comp
      have e3 : U.vm.bare = u.vm.bare := by first | exact hvm.bare_eq | exact hvm.bare_eq.symm
      rw [e3] at e1
      exact (e1.symm.trans e2).trans hi
    have hkind : k'.kind = k.kind := by rw [he]
    have f1 : U.vm.findClass (FieldType.array t).toString = some comp := by rw [hvm.findClass]; exact hc
    have f2 : ∀ x, U.vm.findClass x = u.vm.findClass x := fun x => by rw [hvm.findClass]
    unfold Cond.before Cond.holds
    simp only [Cond.value, beq_iff_eq]
    rw [f1]
    simp only [Option.bind_some, Option.bind_eq_some_iff, Option.map_eq_some_iff]
    refine ⟨c, hi2, k', hk', ?_⟩
    rw [hkind, f2]
    exact hb
theorem zSt_warm {Z : ZP} {s U : State} (hW : s.WarmedH U.vm) (h : zSt Z s) : zSt Z U := by
  obtain ⟨a1, a2, a3, a4, a5, a6, a7, a8, a9, b1, b2, b3, b4, b5, b6, b8, b7⟩ := h
  have hv := hW.alike
  refine ⟨va_K.moved hv a1, fun w hw => zw_F w hw hW (a2 w hw), fun w hw => zw_M w hw hW (a3 w hw), fun q hq => va_Nw.warmC hW (a4 q hq), fun C hC => va_AO.moved hv (a5 C hC), ?_, fun q hq => va_Fw.moved (zw_I q hq) hv (a7 q hq), fun x hx => va_Nw.warmD hW (a8 x hx), fun j q hq => va_Z.moved hv (a9 j q hq), va_T.moved hv b1, vb_C.moved hv b2, va_X.moved hv b3, b4, va_Mi.moved hv b5, va_Dc.moved hv b6, ⟨fun q hq => zNav_warm hW (b8.1 q hq), fun y hy => va_tabs rfl (rfl : (s.setVm U.vm).vm = U.vm) (by rw [Cond.privateMethod_setVm hv]; exact b8.2 y hy)⟩, b7⟩
  exact zAO_moved hv a6
