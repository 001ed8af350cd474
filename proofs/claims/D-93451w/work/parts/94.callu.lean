/-! SIMULATION, XV: calls through interfaces, of inherited and private methods -/
set_option maxRecDepth 100000
theorem lw_ws {y : MethodName} {b : ByteArray} {L : Nat} {r : Option FieldType} (h : Cond.code y b L r ∈ lw_all) : ∀ w ∈ ws_ y b L r, w ∈ lw_all := fun w hw => (lw_meth h w hw).1
theorem zmemF {o ix mj : Nat} {C : String} {x : MethodName} (q1 : Cond.methodLink (znm o) ix x ∈ lw_all) (q2 : Cond.selects C x (zmn mj) ∈ lw_all) (q3 : Cond.instanceMethod (zmn mj) ∈ lw_all) (q5 : Cond.initialized (zmn mj).cls ∈ lw_all) (q4 : Cond.code (zmn mj) (zcb mj) (zml mj) (zrt mj) ∈ lw_all) : ∀ w ∈ va_wsF (znm o) ix C x (zmn mj) (ws_ (zmn mj) (zcb mj) (zml mj) (zrt mj)), w ∈ lw_all := by
  unfold va_wsF
  exact List.forall_mem_cons.mpr ⟨q1, List.forall_mem_cons.mpr ⟨q2, List.forall_mem_cons.mpr ⟨q3, List.forall_mem_cons.mpr ⟨q5, lw_ws q4⟩⟩⟩⟩
theorem zmemU {o ix mj : Nat} {C owner : String} {x : MethodName} (q1 : Cond.methodLink (znm o) ix x ∈ lw_all) (q6 : Cond.sameMethod x.cls owner x.name x.desc ∈ lw_all) (q2 : Cond.selects C x (zmn mj) ∈ lw_all) (q3 : Cond.instanceMethod (zmn mj) ∈ lw_all) (q5 : Cond.initialized (zmn mj).cls ∈ lw_all) (q4 : Cond.code (zmn mj) (zcb mj) (zml mj) (zrt mj) ∈ lw_all) : ∀ w ∈ va_wsU (znm o) ix C owner x (zmn mj) (ws_ (zmn mj) (zcb mj) (zml mj) (zrt mj)), w ∈ lw_all := by
  unfold va_wsU
  exact List.forall_mem_cons.mpr ⟨q1, List.forall_mem_cons.mpr ⟨q6, List.forall_mem_cons.mpr ⟨q2, List.forall_mem_cons.mpr ⟨q3, List.forall_mem_cons.mpr ⟨q5, lw_ws q4⟩⟩⟩⟩⟩
theorem zmemSU {o ix mj : Nat} (q1 : Cond.methodLink (znm o) ix (zmn mj) ∈ lw_all) (q6 : Cond.sameMethod (zmn mj).cls (zmn mj).cls (zmn mj).name (zmn mj).desc ∈ lw_all) (q2 : Cond.superclass (znm o) (zmn mj).cls ∈ lw_all) (q3 : Cond.instanceMethod (zmn mj) ∈ lw_all) (q5 : Cond.initialized (zmn mj).cls ∈ lw_all) (q4 : Cond.code (zmn mj) (zcb mj) (zml mj) (zrt mj) ∈ lw_all) : ∀ w ∈ va_wsSU (znm o) ix (zmn mj) (ws_ (zmn mj) (zcb mj) (zml mj) (zrt mj)), w ∈ lw_all := by
  unfold va_wsSU
  exact List.forall_mem_cons.mpr ⟨q1, List.forall_mem_cons.mpr ⟨q6, List.forall_mem_cons.mpr ⟨q2, List.forall_mem_cons.mpr ⟨q3, List.forall_mem_cons.mpr ⟨q5, lw_ws q4⟩⟩⟩⟩⟩
theorem zca_I (Z : ZP) (s : State) (args : Array Value) (hts : ∀ w ∈ lw_all, w.before args s = true) (_ : zSt Z s) : ∃ cC, ClassAt s "java/lang/Integer" cC := by
  obtain ⟨cI, iS, hKn⟩ := u_known (C := RJ8) (T := TJ8) (N := 1) (n := 1) hts in_J8 (hts _ q639)
  exact ⟨cI, hKn.2⟩
theorem zca_t (j : Nat) {C : String} {T : u_T} {N : Nat} (hj : zcl[j]? = some (C, T, N)) (Z : ZP) (s : State) (args : Array Value) (_ : ∀ w ∈ lw_all, w.before args s = true) (hst : zSt Z s) : ∃ cC, ClassAt s C cC := ⟨_, (hst.1.1 _ _ hj).2⟩
/-- a private method of a superclass -/
theorem zsel_priv {C : String} {y : MethodName} {s : State} {args : Array Value} {n : Nat} (hy : y.cls ≠ "java/lang/invoke/MethodHandle" ∧ y.cls ≠ "java/lang/invoke/VarHandle")
    (hins : (Cond.instantiable C n).before args s = true) (hsame : (Cond.sameMethod y.cls y.cls y.name y.desc).before args s = true) (hpriv : (Cond.privateMethod y).before args s = true) (hinst : (Cond.instanceMethod y).before args s = true) : (Cond.selects C y y).before args s = true := by
  obtain ⟨c, k, hc, hk, -⟩ := Cond.instantiable_spec hins
  obtain ⟨cn, ck, r1, hcn, hck, hni, hf, hn1⟩ := Cond.sameMethod_found hsame
  obtain ⟨mk, methM, hnamed, hmethM, -, -⟩ := Cond.instanceMethod_spec hinst
  have hfound : s.methodFound? y.cls y.name y.desc = some mk := State.methodFound?_of_named hnamed hy
  have hcls : mk.cls = cn := Option.some.inj ((findClass_of_methodNamed hnamed).symm.trans hcn)
  have hsel : selectMethod {} s.vm c mk = .method mk := selectMethod_private hmethM (Cond.privateMethod_at hpriv mk methM hnamed hmethM)
  simp only [Cond.before, Cond.holds, Cond.value, hc, hfound, hnamed, hsel, hcls, hck]
  simp; exact hni
theorem zk_P {o ix mj na : Nat} (hw : zwh mj = false) (hcl : (zmn mj).cls = "java/lang/AbstractStringBuilder") (q1 : Cond.methodLink (znm o) ix (zmn mj) ∈ lw_all) (q2 : Cond.instanceMethod (zmn mj) ∈ lw_all) (q3 : Cond.initialized (zmn mj).cls ∈ lw_all) (q5 : zmn mj ∈ zNwP) (q6 : Cond.sameMethod (zmn mj).cls (zmn mj).cls (zmn mj).name (zmn mj).desc ∈ lw_all) (q7 : Cond.instantiable "java/lang/StringBuilder" 4 ∈ lw_all) (q4 : Cond.code (zmn mj) (zcb mj) (zml mj) (zrt mj) ∈ lw_all) (hd : (parseMethodDescriptor (zmn mj).desc).map (fun d => d.parameters.length) = some na) : zCV o ix 16 mj (na + 1) := by
  intro Z p l e R s m args below meth c cc nL H locs cells slots mc ms rm Pc Qc XC free b vs rest pc rls hC hrec hn hs hdec
  obtain ⟨hF, hst, hM, hrc, hrs, hR, hbl, hpc, hrest, hroom⟩ := hC
  rw [zws_n hw] at hM
  have hmh : (zmn mj).cls ≠ "java/lang/invoke/MethodHandle" ∧ (zmn mj).cls ≠ "java/lang/invoke/VarHandle" := by rw [hcl]; decide
  have hts := hF.2.2.2.2
  have hpr : (Cond.privateMethod (zmn mj)).before args s = true := va_any rfl (hst.2.2.2.2.2.2.2.2.2.2.2.2.2.2.2.1.2 _ q5)
  have hsel := zsel_priv hmh (hts _ q7) (hts _ q6) hpr (hts _ q2)
  have hc0 : Cond.code (zmn mj) (zcb mj) (zml mj) (zrt mj) ∈ ws_ (zmn mj) (zcb mj) (zml mj) (zrt mj) := List.mem_cons_self
  have hcw : va_CU R s args (znm o) "java/lang/StringBuilder" (zmn mj).cls ix (zmn mj) (zmn mj) (zcb mj) (zml mj) (zrt mj) (ws_ (zmn mj) (zcb mj) (zml mj) (zrt mj)) rm mc ms na := by
    refine ⟨⟨hrc, hrs, hR.1, hR.2, pay_in hts (lw_meth q4), hc0⟩, hts _ q4, hts _ q3, hmh, fun sig h => ?_, hts _ q1, hts _ q6, va_Decl.of (hts _ q2) (hts _ q4), hsel, hts _ q2⟩
    rw [h] at hd
    exact (Option.some.inj hd).symm
  exact vx_runU (rest := rest) hF hM hcw ⟨hbl, hrec _ rfl, hpc⟩ rfl (by omega) hs rfl (by show 2 * 0 + _ ≤ 8; omega) hdec hroom
/-- TreeSet's calls of Map's methods through NavigableMap: the step -/
theorem znav_step {p : Program} {l : Launch} {e : Env} {R : Room} {s : State} {m : MethodId} {args : Array Value} {below : List Frame} {meth : Method} {c : Code} {T : State} {locs : List Loc} {cells slots : Nat} (X : Stand p l e R s m args below meth c T locs cells slots) (hexec : p.tables.exec = Jvm.exec)
    {index count ci cI : Nat} {r0 m' : MethodId} {r meth' : Method} (hl : s.vm.MethodLinksFF e.platform m.cls index ci cI r0) (hrm : s.vm.method? r0 = some r) (hstR : r.isStatic = false)
    {a : Addr} {cell : Cell} {kcell : Class} (hcell : T.heap[a]? = some cell) (hobj : ∀ c, cell.vm ≠ .statics c) (hkcell : s.vm.classes[cell.cls]? = some kcell) (hinst : s.vm.assignable cell.cls cI = true)
    (hsel : selectMethod e.platform s.vm cell.cls r0 = .method m') (hm' : s.vm.method? m' = some meth')
    (hway : ((cell.cls :: s.vm.superclasses cell.cls).any fun k => (declaredIn s.vm r.name r.desc k).any fun (_, y) => y.isPrivate || y.isStatic) = false)
    (hpub : hasFlag meth'.accessFlags Acc.public_ = true) (habs : meth'.isAbstract = false)
    {g : JFrame} (hg : g.method = m) {argsL rest : List Value} (hlen : argsL.length = r.sig.parameters.length) (hstack : g.stack = argsL.reverse ++ .ref a :: rest)
    (hdg : decode c.code g.pc = .ok (.invokeinterface index count, 5)) :
    ∃ vm', Stand p l e R s m args below meth c (T.setVm vm') locs cells slots ∧
      ∀ target, (∀ acts, Steps p.tables e below (doInvoke e ((T.setVm vm').setTop { g with stack := rest }) acts m' (.ref a :: argsL).toArray).1 target) → Steps p.tables e below (T.setTop g) target := by
  obtain ⟨dk, cfile, nt, name, desc, ck, okk, methO, hd, hcf, hcp, hnt, hcl, -, hck, hvia, hpoly, hnone, hff, hok, -, -, -, -⟩ := hl.here
  have hright : s.rightAt m.cls index (.method r0) = true := by
    obtain ⟨dk2, cf2, ref, _, hd2, hcf2, _, hn2, hfind2, _⟩ := hcl.here
    cases hd.symm.trans hd2
    cases hcf.symm.trans hcf2
    have hfound := State.methodFound?_faceFind hfind2 hck hvia hpoly hnone hff hok
    have hn : namesOf? cfile.constantPool index = some (.method ref name desc) := by simp [namesOf?, hcp, hnt, hn2]
    simp [State.rightAt, hd, hcf, hn, hfound]
  have hE : s.MethodEntryUp e T.vm m.cls index cI r0 ci := State.methodEntryFF X.warmed hl hright
  have alike := hE.warmed.alike
  obtain ⟨dk₂, hdk₂, hres⟩ := hE.classReady
  obtain ⟨dk₃, hdk₃, hed⟩ := alike.2.2 _ _ hd
  cases hdk₂.symm.trans hdk₃
  obtain ⟨ck₂, hck₂, hec⟩ := alike.2.2 _ _ hck
  obtain ⟨kcell₂, hkcell₂, -⟩ := alike.2.2 _ _ hkcell
  refine ⟨T.vm.calledUp m.cls ci index cI r0, X.noted hE.warmed, fun target hrest => ?_⟩
  subst hg
  jvm_step X.here [hexec, hdg, Op.invokeinterface.wp_coldFace (e := e) (s := T) (s₀ := s) (f := g) (count := count) X.here.top X.warmed hE hd hcf (Or.inr hcp) hck hvia,
    Op.invokeinterface.wp_ready (e := e) (s := T.setVm (T.vm.calledUp g.method.cls ci index cI r0)) (f := g) (count := count) (r := r) (meth := meth') (m := m') (args := argsL) (rest := rest) (cell := cell) (kcell := kcell₂) (ck := dk₂) (nk := ck₂) (cf := cfile) (ci := ci) (nt := nt) (named := cI)
      X.here.top hE.ready (by show (T.vm.calledUp g.method.cls ci index cI r0).method? r0 = some r; rw [alike.method?]; exact hrm) hstR hlen hstack hcell hobj hkcell₂ hdk₂ (by rw [hed]; exact hcf) hcp hres hck₂ (by rw [hec]; exact hvia)
      (by show (T.vm.calledUp g.method.cls ci index cI r0).assignable cell.cls cI = true; rw [alike.assignable]; exact hinst)
      (by show selectMethod e.platform (T.vm.calledUp g.method.cls ci index cI r0) cell.cls r0 = .method m'; rw [alike.selectMethod]; exact hsel)
      (by show (T.vm.calledUp g.method.cls ci index cI r0).method? m' = some meth'; rw [alike.method?]; exact hm')
      (Or.inr (Or.inr (by show ((cell.cls :: (T.vm.calledUp g.method.cls ci index cI r0).superclasses cell.cls).any fun k => (declaredIn (T.vm.calledUp g.method.cls ci index cI r0) r.name r.desc k).any fun (_, y) => y.isPrivate || y.isStatic) = false; simp only [alike.superclasses, alike.declaredIn]; exact hway)))
      (Or.inl hpub) habs]
  exact hrest
theorem zk_N {ix mj na : Nat} {n d : String} (hq : (ix, n, d) ∈ zNwN) (hw : zwh mj = false) (hy : zmn mj = ⟨"java/util/TreeMap", n, d⟩) (q2 : Cond.selects "java/util/TreeMap" ⟨"java/util/Map", n, d⟩ ⟨"java/util/TreeMap", n, d⟩ ∈ lw_all) (q3 : Cond.instanceMethod ⟨"java/util/TreeMap", n, d⟩ ∈ lw_all) (q5 : Cond.initialized "java/util/TreeMap" ∈ lw_all) (q4 : Cond.code (zmn mj) (zcb mj) (zml mj) (zrt mj) ∈ lw_all) (hd : (parseMethodDescriptor d).map (fun d => d.parameters.length) = some na) : zCF 15 ix 10 mj (na + 1) := by
  intro Z p l e R s m args below meth c cc nL H locs cells slots mc ms rm Pc Qc XC free b vs rest pc ct rls hC hrec hn hs hdec
  obtain ⟨hF, hst, hM, hrc, hrs, hR, hbl, hpc, hrest, hroom⟩ := hC
  rw [zws_n hw] at hM
  have hts := hF.2.2.2.2
  obtain ⟨⟨d0, ci, cI, r0, hd0, hcI, hr0, hlk⟩, hdecl, hpub, hunh, hcast⟩ := hst.2.2.2.2.2.2.2.2.2.2.2.2.2.2.2.1.1 _ hq
  have hini := hts _ q5
  have hK : vx_Back l R p e below s args (zmn mj) 5 8 (PreOf R mc ms Pc) (PostOf Qc mc ms free) (vx_Post XC mc ms free) := vx_back (bytes := zcb mj) (maxL := zml mj) (ret := zrt mj) hM hbl hrc hrs hR.1 hR.2 (pay_in hts (lw_meth q4)) List.mem_cons_self (fun a' U hW => by rw [hy]; exact word_at hW (Or.inl (by first | rfl | simp [Cond.onTables, Cond.keeps, Cond.steady])) hini)
  obtain ⟨hx, hb, hml, ho, -⟩ := hF
  obtain ⟨cellB, hcB, hoB, hclB⟩ := hrec "java/util/TreeMap" rfl
  obtain ⟨hfc, kB, hkB, -⟩ := (hst.1.1 9 _ rfl).2
  have hkB' : s.vm.classes[cellB.cls]? = some kB := by
    have e1 := Option.some.inj (hfc.symm.trans hclB)
    rw [← e1]; exact hkB
  obtain ⟨r0', r, hn0, hrm, hstR, hsigR⟩ := Cond.declares_spec hdecl
  cases hr0.symm.trans hn0
  obtain ⟨hnameR, hdescR⟩ := name_of_methodNamed hr0 hrm
  obtain ⟨mk, methM, hnamed, hmethM, -, habM⟩ := Cond.instanceMethod_spec (hts _ q3)
  obtain ⟨c2, r2, m2, w1, w2, w3, w4, -⟩ := Cond.selects_spec (hts _ q2)
  cases hclB.symm.trans w1
  cases (State.methodFound?_of_named hr0 ⟨(by decide : "java/util/Map" ≠ "java/lang/invoke/MethodHandle"), (by decide : "java/util/Map" ≠ "java/lang/invoke/VarHandle")⟩).symm.trans w2
  cases hnamed.symm.trans w3
  obtain ⟨c3, t3, v1, v2, v3⟩ := Cond.castable_spec hcast
  cases hclB.symm.trans v1
  cases hcI.symm.trans v2
  have hdm : d0 = m.cls := Option.some.inj (hd0.symm.trans ho)
  subst hdm
  have hW8 : 2 * 0 + (rest.map fun v => v.category).sum ≤ 8 := by omega
  intro T hT X
  have hpl : e.platform.magicAccessors = ({} : Platform).magicAccessors := by rw [X.admits.platform]
  have hselP : selectMethod e.platform s.vm cellB.cls r0 = .method mk := by rw [Launch.admits_selectMethod X.admits]; exact w4
  have hpubM : hasFlag methM.accessFlags Acc.public_ = true := Cond.publicMethod_spec hnamed hmethM hpub
  have hway : ((cellB.cls :: s.vm.superclasses cellB.cls).any fun k => (declaredIn s.vm r.name r.desc k).any fun (_, z) => z.isPrivate || z.isStatic) = false := by
    rw [hnameR, hdescR]; exact Cond.unhidden_spec hclB hunh
  have hlen : vs.length = r.sig.parameters.length := by
    rw [hsigR] at hd
    have e2 : r.sig.parameters.length = na := Option.some.inj hd
    omega
  obtain ⟨vm₁, X₁, hstep₁⟩ := znav_step X hx (hlk _ hpl) hrm hstR (a := b) (cell := cellB) (kcell := kB) (by rw [hT]; exact hcB) (fun z h => by rw [h] at hoB; cases hoB) hkB' v3 hselP hmethM hway hpubM habM (g := F0 m pc rls (vs.reverse ++ .ref b :: rest)) rfl (argsL := vs) (rest := rest) hlen rfl (count := ct) (by rw [hb]; exact hdec)
  rcases hK m meth c ⟨T.setVm vm₁, locs, cells, slots⟩ { F0 m pc rls (vs.reverse ++ .ref b :: rest) with stack := rest } (.invokeinterface ix ct) mk (Value.ref b :: vs).toArray X₁ rfl (hs.trans hml.symm) (by rw [hb]; exact hdec) hW8 (by rw [hy]; exact X₁.named hnamed) ⟨hroom.1, hroom.2, hpc (T.setVm vm₁) hT X₁.warmed⟩ with ⟨v, ⟨U', l2, c2, s2⟩, X', ⟨g', mk, t, L, e1, e2, hq, h1, hL, h2, h3⟩, hsteps⟩ | ⟨q, ⟨U', l2, c2, s2⟩, X', ⟨g', mk, t, L, E, ce, e1, e2, hq, hce, hcv, hcl, h1, hL, h2, h3⟩, hsteps⟩
  · dsimp only [Pt.U, Pt.locs, Pt.cells, Pt.slots] at X' e1 e2 h1 h2 h3 hsteps
    subst h1; subst h2; subst h3
    exact Or.inl ⟨v, (T.setVm vm₁).calling g' mk (Value.ref b :: vs).toArray, t, U', L, hT, X', hL, e1, e2, hq, fun target h => hstep₁ _ fun acts => by rw [doInvoke_state]; exact hsteps.trans h⟩
  · dsimp only [Pt.U, Pt.locs, Pt.cells, Pt.slots] at X' e1 e2 h1 h2 h3 hsteps hcl
    subst h1; subst h2; subst h3
    exact Or.inr ⟨q, (T.setVm vm₁).calling g' mk (Value.ref b :: vs).toArray, t, U', L, E, ce, hT, X', hL, e1, e2, hq, hce, hcv, vx_cls X₁.warmed hcl, hstep₁ _ fun acts => by rw [doInvoke_state]; exact hsteps⟩

theorem zc_2_335_2013 : zCF 2 335 13 285 1 := zk_F (C := "java/util/TreeMap$KeyIterator") (x := ⟨"java/util/Iterator", "hasNext", "()Z"⟩) rfl (zca_t 12 rfl) rfl (zmemF q1195 (by rw [zn285]; exact q1199) (by rw [zn285]; exact q1201) (by rw [zn285]; exact q119) zq285) (by rw [zn285]; exact List.mem_of_getElem? (i := 0) rfl) (by decide +kernel)
theorem zc_2_340_2013 : zCF 2 340 13 288 1 := zk_F (C := "java/util/TreeMap$KeyIterator") (x := ⟨"java/util/Iterator", "next", "()Ljava/lang/Object;"⟩) rfl (zca_t 12 rfl) rfl (zmemF q1205 (by rw [zn288]; exact q1208) (by rw [zn288]; exact q1210) (by rw [zn288]; exact q120) zq288) (by rw [zn288]; exact List.mem_of_getElem? (i := 1) rfl) (by decide +kernel)
theorem zc_2_462_15 : zCV 2 462 15 257 1 := zk_U (C := "java/util/PriorityQueue") (owner := "java/util/AbstractCollection") (x := ⟨"java/util/PriorityQueue", "isEmpty", "()Z"⟩) rfl rfl (zmemU q1620 q1621 (by rw [zn257]; exact q1623) (by rw [zn257]; exact q1624) (by rw [zn257]; exact q92) zq257) zn257 (by decide +kernel)
theorem zc_12_117_2008 : zCF 12 117 8 123 3 := zk_F (C := "DependencyPairAnalyzer$TermComparator") (x := ⟨"java/util/Comparator", "compare", "(Ljava/lang/Object;Ljava/lang/Object;)I"⟩) rfl (zca_t 7 rfl) rfl (zmemF q893 (by rw [zn123]; exact q897) (by rw [zn123]; exact q899) (by rw [zn123]; exact q126) zq123) (by rw [zn123]; exact List.mem_of_getElem? (i := 2) rfl) (by decide +kernel)
theorem zc_12_107_2003 : zCF 12 107 3 99 2 := zk_F (C := "DependencyPairAnalyzer$SizeChangeGraph") (x := ⟨"java/lang/Comparable", "compareTo", "(Ljava/lang/Object;)I"⟩) rfl (zca_t 2 rfl) rfl (zmemF q673 (by rw [zn99]; exact q677) (by rw [zn99]; exact q679) (by rw [zn99]; exact q95) zq99) (by rw [zn99]; exact List.mem_of_getElem? (i := 3) rfl) (by decide +kernel)
theorem zc_12_107_2004 : zCF 12 107 4 115 2 := zk_F (C := "DependencyPairAnalyzer$Term") (x := ⟨"java/lang/Comparable", "compareTo", "(Ljava/lang/Object;)I"⟩) rfl (zca_t 3 rfl) rfl (zmemF q673 (by rw [zn115]; exact q688) (by rw [zn115]; exact q690) (by rw [zn115]; exact q96) zq115) (by rw [zn115]; exact List.mem_of_getElem? (i := 4) rfl) (by decide +kernel)
theorem zc_12_107_2032 : zCF 12 107 32 270 2 := zk_F (C := "java/lang/Integer") (x := ⟨"java/lang/Comparable", "compareTo", "(Ljava/lang/Object;)I"⟩) rfl zca_I rfl (zmemF q673 (by rw [zn270]; exact q699) (by rw [zn270]; exact q701) (by rw [zn270]; exact q105) zq270) (by rw [zn270]; exact List.mem_of_getElem? (i := 5) rfl) (by decide +kernel)
theorem zc_13_7_15 : zCV 13 7 15 310 1 := zk_A (C := "java/util/PriorityQueue") (owner := "java/util/AbstractCollection") (x := ⟨"java/util/AbstractCollection", "size", "()I"⟩) rfl rfl (zmemU q1626 q1628 (by rw [zn310]; exact q1629) (by rw [zn310]; exact q1630) (by rw [zn310]; exact q125) zq310) (List.mem_of_getElem? (i := 2) rfl) (by decide +kernel)
theorem zc_15_77_2010 : zCF 15 77 10 234 1 := zk_N (List.mem_of_getElem? (i := 3) rfl) rfl zn234 q1059 q628 q91 zq234 (by decide +kernel)
theorem zc_15_61_2010 : zCF 15 61 10 251 2 := zk_N (List.mem_of_getElem? (i := 1) rfl) rfl zn251 q1072 q1074 q91 zq251 (by decide +kernel)
theorem zc_15_69_2010 : zCF 15 69 10 236 3 := zk_N (List.mem_of_getElem? (i := 2) rfl) rfl zn236 q1097 q656 q91 zq236 (by decide +kernel)
theorem zc_15_53_2010 : zCF 15 53 10 235 1 := zk_N (List.mem_of_getElem? (i := 0) rfl) rfl zn235 q1115 q652 q91 zq235 (by decide +kernel)
theorem zc_15_34_2010 : zCF 15 34 10 252 1 := zk_F (C := "java/util/TreeMap") (x := ⟨"java/util/NavigableMap", "navigableKeySet", "()Ljava/util/NavigableSet;"⟩) rfl (zca_t 9 rfl) rfl (zmemF q1127 (by rw [zn252]; exact q1130) (by rw [zn252]; exact q1132) (by rw [zn252]; exact q91) zq252) (by rw [zn252]; exact List.mem_of_getElem? (i := 6) rfl) (by decide +kernel)
theorem zc_15_40_2012 : zCF 15 40 12 283 1 := zk_F (C := "java/util/TreeMap$KeySet") (x := ⟨"java/util/NavigableSet", "iterator", "()Ljava/util/Iterator;"⟩) rfl (zca_t 11 rfl) rfl (zmemF q1146 (by rw [zn283]; exact q1150) (by rw [zn283]; exact q1152) (by rw [zn283]; exact q118) zq283) (by rw [zn283]; exact List.mem_of_getElem? (i := 7) rfl) (by decide +kernel)
theorem zc_28_7_13 : zCV 28 7 13 286 1 := zk_U (C := "java/util/TreeMap$KeyIterator") (owner := "java/util/TreeMap$PrivateEntryIterator") (x := ⟨"java/util/TreeMap$KeyIterator", "nextEntry", "()Ljava/util/TreeMap$Entry;"⟩) rfl rfl (zmemU q1213 q1214 (by rw [zn286]; exact q1216) (by rw [zn286]; exact q1217) (by rw [zn286]; exact q119) zq286) zn286 (by decide +kernel)
theorem zc_29_100_16 : zCV 29 100 16 292 2 := zk_P rfl rfl (by rw [zn292]; exact q1344) (by rw [zn292]; exact q1346) (by rw [zn292]; exact q121) (by rw [zn292]; exact List.mem_of_getElem? (i := 0) rfl) (by rw [zn292]; exact q2221) q1307 zq292 (by rw [zn292]; decide +kernel)
theorem zc_29_83_16 : zCV 29 83 16 289 1 := zk_U (C := "java/lang/StringBuilder") (owner := "java/lang/AbstractStringBuilder") (x := ⟨"java/lang/AbstractStringBuilder", "isLatin1", "()Z"⟩) rfl rfl (zmemU q726 q728 (by rw [zn289]; exact q729) (by rw [zn289]; exact q727) (by rw [zn289]; exact q121) zq289) zn289 (by decide +kernel)
theorem zc_29_104_16 : zCV 29 104 16 293 2 := zk_P rfl rfl (by rw [zn293]; exact q1348) (by rw [zn293]; exact q1350) (by rw [zn293]; exact q121) (by rw [zn293]; exact List.mem_of_getElem? (i := 1) rfl) (by rw [zn293]; exact q2222) q1307 zq293 (by rw [zn293]; decide +kernel)
theorem zc_30_50_1016 : zCU 30 50 16 291 2 := zk_SU rfl rfl (zmemSU (by rw [zn291]; exact q1341) (by rw [zn291]; exact q2220) (by rw [zn291]; exact q723) (by rw [zn291]; exact q1342) (by rw [zn291]; exact q121) zq291) (by rw [zn291]; decide +kernel)
theorem zc_30_343_1016 : zCU 30 343 16 294 1 := zk_SU rfl rfl (zmemSU (by rw [zn294]; exact q1413) (by rw [zn294]; exact q2224) (by rw [zn294]; exact q723) (by rw [zn294]; exact q1414) (by rw [zn294]; exact q121) zq294) (by rw [zn294]; decide +kernel)
theorem zc_30_329_1016 : zCU 30 329 16 295 2 := zk_SU rfl rfl (zmemSU (by rw [zn295]; exact q1424) (by rw [zn295]; exact q2225) (by rw [zn295]; exact q723) (by rw [zn295]; exact q1425) (by rw [zn295]; exact q121) zq295) (by rw [zn295]; decide +kernel)
theorem zc_33_149_2008 : zCF 33 149 8 123 3 := zk_F (C := "DependencyPairAnalyzer$TermComparator") (x := ⟨"java/util/Comparator", "compare", "(Ljava/lang/Object;Ljava/lang/Object;)I"⟩) rfl (zca_t 7 rfl) rfl (zmemF q1613 (by rw [zn123]; exact q897) (by rw [zn123]; exact q899) (by rw [zn123]; exact q126) zq123) (by rw [zn123]; exact List.mem_of_getElem? (i := 2) rfl) (by decide +kernel)
