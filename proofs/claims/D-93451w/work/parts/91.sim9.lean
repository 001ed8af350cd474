/-! SIMULATION, XII: Object's constructor, arraycopy, clone, getClass -/
set_option maxRecDepth 100000
theorem zwt_cat {Z : ZP} : ∀ st : List ZV, ((st.map (zev Z)).map fun v => v.category).sum = zwt st
  | [] => rfl
  | v :: st => by
    have h := zwt_cat (Z := Z) st
    rcases v with x | x | (_ | x) | x <;> simp [zwt, zev, Value.category] at h ⊢ <;> omega
theorem zcpy_len {α : Type} {s d : List α} {sp dp n : Nat} (h1 : sp + n ≤ s.length) (h2 : dp + n ≤ d.length) : (zcpy s d sp dp n).length = d.length := by
  unfold zcpy
  simp
  omega
theorem zcpy_get {α : Type} {s d : List α} {sp dp n : Nat} (h1 : sp + n ≤ s.length) (h2 : dp + n ≤ d.length) (k : Nat) (x : α) : (zcpy s d sp dp n).getD k x = if dp ≤ k ∧ k < dp + n then s.getD (sp + (k - dp)) x else d.getD k x := by
  unfold zcpy
  rw [List.getD_eq_getElem?_getD, List.getD_eq_getElem?_getD, List.getD_eq_getElem?_getD]
  have l1 : (d.take dp).length = dp := by simp; omega
  have l2 : ((s.drop sp).take n).length = n := by simp; omega
  by_cases q : k < dp
  · rw [if_neg (by omega), List.getElem?_append_left (by omega), List.getElem?_take, if_pos q]
  · rw [List.getElem?_append_right (by omega), l1]
    by_cases q2 : k < dp + n
    · rw [if_pos ⟨by omega, q2⟩, List.getElem?_append_left (by omega), List.getElem?_take, if_pos (by omega), List.getElem?_drop]
    · rw [if_neg (by omega), List.getElem?_append_right (by omega), l2, List.getElem?_drop]
      congr 2
      omega
theorem zcpy_mem {α : Type} {s d : List α} {sp dp n : Nat} {P : α → Prop} (hs : ∀ x ∈ s, P x) (hd : ∀ x ∈ d, P x) : ∀ x ∈ zcpy s d sp dp n, P x := by
  intro x hx
  unfold zcpy at hx
  rcases List.mem_append.mp hx with q | q
  · exact hd x (List.mem_of_mem_take q)
  · rcases List.mem_append.mp q with q | q
    · exact hs x (List.mem_of_mem_drop (List.mem_of_mem_take q))
    · exact hd x (List.mem_of_mem_drop q)
section SIM
variable {Z : ZP} {p : Program} {l : Launch} {e : Env} {R : Room} {s : State} {m : MethodId} {args : Array Value} {below : List Frame} {meth : Method} {c : Code} {mi : Nat} {As : AH} {Q : State → Prop} {pc : Nat} {ls st : List ZV} {A : AH}
theorem g_in1 (F : zFr Z p s m args meth c mi As) (hRf : 1 ≤ R.frames) (hRl : 64 ≤ R.locals) {ix a : Nat} (hd : decode (zcb mi) pc = .ok (.invokespecial ix, 3)) (hf : zIT (zow mi) ix = some 1) (hw : zwt st ≤ 8) (kk : zG Z p l e R s m args below meth c mi As Q (pc + 3) ls st A) : zG Z p l e R s m args below meth c mi As Q pc ls (zO (some a) :: st) A := by
  intro h1 h2 h3 rls H locs h4 h5 h6 h7
  obtain ⟨hx, hb, hml, hown, hts, hst, hSs, hpb, hsz, hnx, hin⟩ := F
  have hl : Cond.methodLink (znm (zow mi)) ix objectInit ∈ lw_all := by
    rcases zITok_all hf with ⟨-, q⟩ | ⟨q, -⟩ | ⟨q, -⟩ | ⟨q, -⟩ | ⟨q, -⟩
    · exact q
    all_goals cases q
  refine W.objInit hx hb hown (hts _ hl) (hts _ q133) (hts _ q134) rfl (by rw [hml]; exact h4.1) rfl hd hRf ?_ (kk h1 (zall_t h2) h3 rls H locs h4 h5 h6 h7)
  show 2 * 0 + _ + 12 ≤ R.locals
  rw [zwt_cat]
  omega
theorem zcopyW (F : zFr Z p s m args meth c mi As) {ix : Nat} (hf : zIT (zow mi) ix = some 3) : Cond.methodLink (znm (zow mi)) ix arraycopyName ∈ lw_all := by
  rcases zITok_all hf with ⟨q, -⟩ | ⟨q, -⟩ | ⟨-, q⟩ | ⟨q, -⟩ | ⟨q, -⟩
  · cases q
  · cases q
  · exact q
  · cases q
  · cases q
theorem znat_arr : nativeFrameWords "java/lang/System" "arraycopy" 5 + 11 ≤ 56 := by decide +kernel
set_option maxHeartbeats 1000000 in
theorem g_in3i (F : zFr Z p s m args meth c mi As) (hRf : 1 ≤ R.frames) (hRl : 64 ≤ R.locals) {ix sa da : Nat} {n dp sp : Int} (hd : decode (zcb mi) pc = .ok (.invokestatic ix, 3)) (hf : zIT (zow mi) ix = some 3) (hw : zwt st ≤ 8) (n0 : 0 ≤ n) (d0 : 0 ≤ dp) (s0 : 0 ≤ sp) (ht : tg A sa = tg A da) (ht2 : tg A da = 20 ∨ tg A da = 21) (b1 : sp.toNat + n.toNat ≤ (ia A sa).length) (b2 : dp.toNat + n.toNat ≤ (ia A da).length) (kk : zG Z p l e R s m args below meth c mi As Q (pc + 3) ls st (pI A da (zcpy (ia A sa) (ia A da) sp.toNat dp.toNat n.toNat))) : zG Z p l e R s m args below meth c mi As Q pc ls (zI n :: zI dp :: zO (some da) :: zI sp :: zO (some sa) :: st) A := by
  have F' := F
  intro h1 h2 h3 rls H locs h4 h5 h6 h7
  obtain ⟨hx, hb, hml, hown, hts, hst, hSs, hpb, hsz, hnx, hin⟩ := F
  have hr := h3.fresh (a := da) (by omega) (by omega)
  have hrs := h3.fresh (a := sa) (by omega) (by omega)
  have he := zE_get (Z := Z) hr.1 hr.2
  have hes := zE_get (Z := Z) hrs.1 hrs.2
  rw [zeo_int (by omega)] at he
  rw [zeo_int (by omega)] at hes
  have hok := h3.2.2.2.2.1 da hr.1 hr.2
  have hoks := h3.2.2.2.2.1 sa hrs.1 hrs.2
  have nr : zr32 n := zall_h h2
  have dr : zr32 dp := zall_h (zall_t h2)
  have sr : zr32 sp := zall_h (zall_t (zall_t (zall_t h2)))
  have hwf : zWF Z (pI A da (zcpy (ia A sa) (ia A da) sp.toNat dp.toNat n.toNat)) := zWF_pI h3 hr.1 (zcpy_len b1 b2) ⟨fun q => zcpy_mem (hoks.1 (by omega)) (hok.1 q), fun q => zcpy_mem (hoks.2.1 (by omega)) (hok.2.1 q), fun q => by omega⟩
  have hE := zE_pI (Z := Z) (A := A) (a := da) (n := (ia A da).length) (l := zcpy (ia A sa) (ia A da) sp.toNat dp.toNat n.toNat) (f := va_cpy (fun j => Int32.ofInt ((ia A sa).getD j 0)) (fun j => Int32.ofInt ((ia A da).getD j 0)) sp.toNat dp.toNat n.toNat) hr.1 hr.2 (by omega) (zcpy_len b1 b2) (fun k => by
    rw [zcpy_get b1 b2]
    unfold va_cpy
    split <;> rfl)
  have hty : ∃ ty, (ztys Z)[tg A da - 20]? = some (zpc Z (tg A da), ty) ∧ refKind ty = false ∧ ∀ x ∈ ia A sa, fits ty (.int (Int32.ofInt x)) = true := by
    rcases ht2 with q | q
    · rw [q]; exact ⟨_, rfl, rfl, fun x _ => rfl⟩
    · rw [q]
      refine ⟨_, rfl, rfl, fun x hx => ?_⟩
      have hb := hoks.2.1 (by omega) x hx
      exact (zfit_real (Z := Z) (k := 2) (ty := .byte) (v := zI x) (Or.inr (Or.inr (Or.inl ⟨rfl, rfl⟩))) (Or.inr (Or.inr ⟨rfl, hb⟩))).2
  obtain ⟨ty, t1, t2, t3⟩ := hty
  refine va_copyi (ty := ty) hx hb (by rw [hml]; exact h4.1.symm) hown (hts _ (zcopyW F' hf)) (hts _ q249) (hts _ q248) (hts _ q97) hst.1 h6 zE_D h7 (sa - 300) (da - 300) (tg A da - 20) (tg A da - 20) hes he (by rw [ht]; exact t1) t1 t2 (zo_nn sr s0) (zo_nn dr d0) (zo_nn nr n0) (by rw [zo_nat sr s0, zo_nat nr n0]; exact b1) (by rw [zo_nat dr d0, zo_nat nr n0]; exact b2) ?_ hRf ?_ hd (fun H1 locs1 hP hD hS => ?_)
  · intro i hi
    rw [zo_nat nr n0] at hi
    rw [zo_nat sr s0]
    refine t3 _ ?_
    rw [List.getD_eq_getElem?_getD, List.getElem?_eq_getElem (by omega)]
    exact List.getElem_mem _
  · rw [zwt_cat]
    have := znat_arr
    omega
  · rw [zo_nat sr s0, zo_nat dr d0, zo_nat nr n0, ← hE] at hP
    exact kk h1 (zall_t (zall_t (zall_t (zall_t (zall_t h2))))) hwf rls H1 locs1 h4 h5 hP hS
set_option maxHeartbeats 1000000 in
theorem g_in3r (F : zFr Z p s m args meth c mi As) (hRf : 1 ≤ R.frames) (hRl : 64 ≤ R.locals) {ix sa da : Nat} {n dp sp : Int} (hd : decode (zcb mi) pc = .ok (.invokestatic ix, 3)) (hf : zIT (zow mi) ix = some 3) (hw : zwt st ≤ 8) (n0 : 0 ≤ n) (d0 : 0 ≤ dp) (s0 : 0 ≤ sp) (ht : tg A sa = tg A da) (ht2 : tg A da = 24 ∨ tg A da = 25 ∨ tg A da = 28) (b1 : sp.toNat + n.toNat ≤ (ra A sa).length) (b2 : dp.toNat + n.toNat ≤ (ra A da).length) (kk : zG Z p l e R s m args below meth c mi As Q (pc + 3) ls st (pR A da (zcpy (ra A sa) (ra A da) sp.toNat dp.toNat n.toNat))) : zG Z p l e R s m args below meth c mi As Q pc ls (zI n :: zI dp :: zO (some da) :: zI sp :: zO (some sa) :: st) A := by
  have F' := F
  intro h1 h2 h3 rls H locs h4 h5 h6 h7
  obtain ⟨hx, hb, hml, hown, hts, hst, hSs, hpb, hsz, hnx, hin⟩ := F
  have hr := h3.fresh (a := da) (by omega) (by omega)
  have hrs := h3.fresh (a := sa) (by omega) (by omega)
  have he := zE_get (Z := Z) hr.1 hr.2
  have hes := zE_get (Z := Z) hrs.1 hrs.2
  rw [zeo_ref (by omega)] at he
  rw [zeo_ref (by omega)] at hes
  have hok := h3.2.2.2.2.1 da hr.1 hr.2
  have hoks := h3.2.2.2.2.1 sa hrs.1 hrs.2
  have nr : zr32 n := zall_h h2
  have dr : zr32 dp := zall_h (zall_t h2)
  have sr : zr32 sp := zall_h (zall_t (zall_t (zall_t h2)))
  have hwf : zWF Z (pR A da (zcpy (ra A sa) (ra A da) sp.toNat dp.toNat n.toNat)) := zWF_pR h3 hr.1 (zcpy_len b1 b2) (fun g1 g2 b hb => by
    have := zcpy_mem (P := fun o => ∀ b, o = some b → zel (tg A da) (tg A b) = true) (s := ra A sa) (d := ra A da) (sp := sp.toNat) (dp := dp.toNat) (n := n.toNat) (fun o ho b e => by rw [← ht]; exact hoks.2.2.2.2.1 (by omega) (by omega) b (by rw [← e]; exact ho)) (fun o ho b e => hok.2.2.2.2.1 g1 g2 b (by rw [← e]; exact ho))
    exact this _ hb b rfl)
  have hE := zE_pR (Z := Z) (A := A) (a := da) (n := (ra A da).length) (l := zcpy (ra A sa) (ra A da) sp.toNat dp.toNat n.toNat) (f := va_cpy (fun j => ((ra A sa).getD j none).map (zrho Z)) (fun j => ((ra A da).getD j none).map (zrho Z)) sp.toNat dp.toNat n.toNat) hr.1 hr.2 (by omega) (zcpy_len b1 b2) (fun k => by
    rw [zcpy_get b1 b2]
    unfold va_cpy
    split <;> rfl)
  have hty : ∃ (E C : String) (T : u_T) (N u : Nat), (ztys Z)[tg A da - 20]? = some (zpc Z (tg A da), .object E) ∧ 1 ≤ u ∧ u ≤ 16 ∧ zcl[u - 1]? = some (C, T, N) ∧ (∀ v, zel (tg A da) v = true → v = u) ∧ (C = E ∨ (C, E) ∈ zNwC) := by
    rcases ht2 with q | q | q
    · rw [q]; exact ⟨_, _, _, _, 6, rfl, by decide, by decide, rfl, fun v hv => by simpa [zel] using hv, Or.inl rfl⟩
    · rw [q]; exact ⟨_, _, _, _, 4, rfl, by decide, by decide, rfl, fun v hv => by simpa [zel] using hv, Or.inl rfl⟩
    · rw [q]; exact ⟨_, _, _, _, 4, rfl, by decide, by decide, rfl, fun v hv => by simpa [zel] using hv, Or.inr (List.mem_of_getElem? (i := 4) rfl)⟩
  obtain ⟨E, C, T, N, u, t1, u1, u2, hc, hu, hce⟩ := hty
  refine va_copyq (C := C) (E0 := E) (E1 := E) hx hb (by rw [hml]; exact h4.1.symm) hown (hts _ (zcopyW F' hf)) (hts _ q249) (hts _ q248) (hts _ q97) hst.1 h6 zE_D h7 (sa - 300) (da - 300) (tg A da - 20) (tg A da - 20) hes he (by rw [ht]; exact t1) t1 (zo_nn sr s0) (zo_nn dr d0) (zo_nn nr n0) (by rw [zo_nat sr s0, zo_nat nr n0]; exact b1) (by rw [zo_nat dr d0, zo_nat nr n0]; exact b2) ?_ ?_ hRf ?_ hd (fun H1 locs1 hP hD hS => ?_)
  · intro i hi y hy
    rw [zo_nat nr n0] at hi
    rw [zo_nat sr s0] at hy
    obtain ⟨b, hb1, rfl⟩ := Option.map_eq_some_iff.mp hy
    have hm : some b ∈ ra A sa := by
      rw [List.getD_eq_getElem?_getD, List.getElem?_eq_getElem (by omega)] at hb1
      rw [← hb1]
      exact List.getElem_mem _
    have hv := hoks.2.2.2.2.1 (by omega) (by omega) b hm
    rw [ht] at hv
    have hbu := hu _ hv
    exact zrecv hst hSs h3 h6 h7 (by omega) (by omega) (by rw [hbu]; exact hc)
  · intro comp c0 g1 g2
    rcases hce with rfl | q
    · exact vb_asgS comp c0 g1 g2
    · exact vb_asgC (hst.2.2.2.1 _ q) comp c0 g1 g2
  · rw [zwt_cat]
    have := znat_arr
    omega
  · rw [zo_nat sr s0, zo_nat dr d0, zo_nat nr n0, ← hE] at hP
    exact kk h1 (zall_t (zall_t (zall_t (zall_t (zall_t h2))))) hwf rls H1 locs1 h4 h5 hP hS
set_option maxHeartbeats 1000000 in
theorem g_in4 (F : zFr Z p s m args meth c mi As) (hm : nx As ≤ nx A) (hms : sl As ≤ sl A) (hRf : 1 ≤ R.frames) (hRl : 64 ≤ R.locals) {ix a : Nat} (hd : decode (zcb mi) pc = .ok (.invokevirtual ix, 3)) (hf : zIT (zow mi) ix = some 4) (hw : zwt st ≤ 8) (ht : tg A a = 20) (hR : nx A + 1 - nx As ≤ R.cells) (hR2 : sl A + (ia A a).length - sl As ≤ R.slots) (kk : zG Z p l e R s m args below meth c mi As Q (pc + 3) ls (zO (some (nx A)) :: st) (nA A 20 (ia A a))) : zG Z p l e R s m args below meth c mi As Q pc ls (zO (some a) :: st) A := by
  intro h1 h2 h3 rls H locs h4 h5 h6 h7
  obtain ⟨hx, hb, hml, hown, hts, hst, hSs, hpb, hsz, hnx, hin⟩ := F
  have hl : Cond.methodLink (znm (zow mi)) ix ⟨"[I", "clone", "()Ljava/lang/Object;"⟩ ∈ lw_all := by
    rcases zITok_all hf with ⟨q, -⟩ | ⟨q, -⟩ | ⟨q, -⟩ | ⟨-, q⟩ | ⟨q, -⟩
    · cases q
    · cases q
    · cases q
    · exact q
    · cases q
  have hr := h3.fresh (a := a) (by omega) (by omega)
  have he := zE_get (Z := Z) hr.1 hr.2
  rw [zeo_int (by omega), ht] at he
  have hok := h3.2.2.2.2.1 a hr.1 hr.2
  have hlen := hok.2.2.2.2.2.2 (by omega)
  have el : zlen A a = (ia A a).length := by unfold zlen; rw [ht, if_pos (by decide)]
  have hw1 := h3.1
  refine va_clone (ad := "[I") (ty := .int) hx hb (by rw [hml]; exact h4.1.symm) hown (hts _ hl) (hts _ q1082) (hts _ q1083) (hts _ q1084) (hts _ q1085) (hst.2.2.2.1 _ (List.mem_of_getElem? (i := 3) rfl)) hst.1 h6 zE_D h7 (fun q hq => by rw [hpb] at hq; exact hq) (a - 300) 0 he rfl (hst.1.2 0 _ rfl).2 ?_ hRf (by rw [zwt_cat]; omega) (by omega) (by show sl A - sl As + (ia A a).length ≤ _; omega) hd (fun q H1 hK hP hD hS => ?_)
  · intro i v hv
    rw [vp_cell_i] at hv
    by_cases hi : i < (ia A a).length
    · rw [arrV_read _ _ hi] at hv
      cases hv
      rfl
    · rw [Array.getElem?_eq_none (by rw [arrV_size]; omega)] at hv
      cases hv
  · refine zW_sz (fun z1 z2 => ?_)
    have hq := zq_new hw1 hP hD (by omega)
    subst hq
    rw [← zE_nA (Z := Z) (A := A) (t := 20) (n := (ia A a).length) (l := ia A a) (f := fun j => Int32.ofInt ((ia A a).getD j 0)) hw1 (by decide) rfl (fun j => rfl)] at hP
    have hk := kk h1 (zall_c (v := zO (some (nx A))) trivial (zall_t h2)) (zWF_nA h3 (by decide) (by omega) ⟨fun _ => hok.1 ht, fun q => by omega, fun q => by omega⟩) rls H1 locs h4 h5 hP hS
    exact W.cs (by rw [nx_nA]; omega) (by rw [sl_nA]; show sl A - sl As + (ia A a).length = _; omega) hk
theorem g_in5 (F : zFr Z p s m args meth c mi As) (hRf : 1 ≤ R.frames) (hRl : 64 ≤ R.locals) {ix a : Nat} (hd : decode (zcb mi) pc = .ok (.invokevirtual ix, 3)) (hf : zIT (zow mi) ix = some 5) (hw : zwt st ≤ 8) (ht : tg A a = 28) (kk : zG Z p l e R s m args below meth c mi As Q (pc + 3) ls (zO (some 34) :: st) A) : zG Z p l e R s m args below meth c mi As Q pc ls (zO (some a) :: st) A := by
  intro h1 h2 h3 rls H locs h4 h5 h6 h7
  obtain ⟨hx, hb, hml, hown, hts, hst, hSs, hpb, hsz, hnx, hin⟩ := F
  have hl : Cond.methodLink (znm (zow mi)) ix ⟨"java/lang/Object", "getClass", "()Ljava/lang/Class;"⟩ ∈ lw_all := by
    rcases zITok_all hf with ⟨q, -⟩ | ⟨q, -⟩ | ⟨q, -⟩ | ⟨q, -⟩ | ⟨-, q⟩
    · cases q
    · cases q
    · cases q
    · cases q
    · exact q
  have hr := h3.fresh (a := a) (by omega) (by omega)
  have he := zE_get (Z := Z) hr.1 hr.2
  rw [zeo_ref (by omega), ht] at he
  have hcell := h6 _ _ he
  have hk := kk h1 (zall_c (v := zO (some 34)) trivial (zall_t h2)) h3 rls H locs h4 h5 h6 h7
  have hfc : s.vm.findClass "[Ljava/lang/Object;" = some (zpc Z 28) := by
    obtain ⟨_, _, _, _, _, h⟩ := (hst.1.2 8 _ rfl).2; exact h
  obtain ⟨-, -, -, -, -, -, -, -, -, -, -, -, -, b5, b6, -⟩ := hst
  exact va_getC (C := "[Ljava/lang/Object;") hx hb (by rw [hml]; exact h4.1.symm) hown (hts _ hl) (va_Dc.use b6) (hts _ q2246) (hts _ q1579) (hts _ q1599) b5 ⟨_, hcell, rfl, hfc⟩ hRf (by rw [zwt_cat]; omega) hd hk
end SIM
