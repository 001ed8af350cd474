/-! SIMULATION, VII: putfield, statics, constants, casts -/
set_option maxRecDepth 100000
section SIM
variable {Z : ZP} {p : Program} {l : Launch} {e : Env} {R : Room} {s : State} {m : MethodId} {args : Array Value} {below : List Frame} {meth : Method} {c : Code} {mi : Nat} {As : AH} {Q : State → Prop} {pc : Nat} {ls st : List ZV} {A : AH}
theorem zput_spec {t k : Nat} (h : zput mi t k = true) : zfn t k = 0 ∨ (zfn t k = zow mi ∧ zini.contains mi = true) := by
  unfold zput at h
  unfold zfn
  split at h
  · rename_i e; exact Or.inl e
  · rw [Bool.and_eq_true] at h
    exact Or.inr ⟨Nat.eq_of_beq_eq_true h.1, h.2⟩
set_option maxHeartbeats 1000000 in
theorem g_putf (F : zFr Z p s m args meth c mi As) {ix t k a : Nat} {v : ZV} (hd : decode (zcb mi) pc = .ok (.putfield ix, 3)) (hf : zFT (zow mi) ix = some (t, k)) (ht : tg A a = t) (hv : zfit (zfk t k) v = true) (hp : zput mi t k = true) (kk : zG Z p l e R s m args below meth c mi As Q (pc + 3) ls st (pF A a k v)) : zG Z p l e R s m args below meth c mi As Q pc ls (v :: zO (some a) :: st) A := by
  intro h1 h2 h3 rls H locs h4 h5 h6 h7
  obtain ⟨hx, hb, hml, hown, hts, hst, hSs, hpb, hsz, hnx, hin⟩ := F
  subst ht
  rcases zFok_all hf with ⟨e32, rfl, eo, rfl⟩ | ⟨t1, t2, hkn, hlk⟩
  · exfalso
    rcases zput_spec hp with q | ⟨q, -⟩
    · rw [e32] at q; exact absurd q (by decide)
    · rw [e32] at q
      have := zow_lt mi
      rw [← q] at this
      exact absurd this (by decide)
  · obtain ⟨C, T, N, ty0, hc, hN, hins, hty, hnm, hkt, hfi, qi, qn⟩ := zTok_all _ t1 t2
    have hr := h3.fresh t1 (by omega)
    have he := zE_get (Z := Z) hr.1 hr.2
    rw [zeo_obj t2] at he
    have hvok := zfit_fok hv (zall_h h2)
    have hreal := zfit_real (Z := Z) (hkt k (by rw [← hN]; exact hkn)) hvok
    have hE := zE_pF (Z := Z) (v := v) hr.1 hr.2 t2 hkn
    have hwf : zWF Z (pF A a k v) := zWF_pF h3 hr.1 (fun _ => hvok)
    have hlen : k < ((List.range (znf (tg A a))).map (fun k => zev Z (fd A a k))).length := by simp; exact hkn
    have hkN : k < N := by rw [← hN]; exact hkn
    have cont : ∀ (H1 : Heap) (locs1 : List Loc), va_P (zpD Z) zcl ((zE Z A).set (a - 300) (zrho Z a, .inr (tg A a - 1, ((List.range (znf (tg A a))).map (fun k => zev Z (fd A a k))).set k (zev Z v)))) H1 → va_D (zA Z) ((zE Z A).set (a - 300) (zrho Z a, .inr (tg A a - 1, ((List.range (znf (tg A a))).map (fun k => zev Z (fd A a k))).set k (zev Z v)))) → va_S (zA Z) (zpH Z) H1 locs1 → W p l e R s m args below meth c H1 locs1 (nx A - nx As) (sl A - sl As) Q (F0 m (pc + 3) rls (st.map (zev Z))) := by
      intro H1 locs1 hP hD hS
      rw [← hE] at hP
      exact kk h1 (zall_t (zall_t h2)) hwf rls H1 locs1 h4 h5 hP hS
    rcases hlk C T N hc with hw | ⟨host, hw, hnf⟩
    · rcases hfi k hkN with ⟨f1, f2⟩ | ⟨f1, f2, f3⟩ | f1
      · exact va_put (own := znm (zow mi)) (ref := (T k).1) hx hb hts hins ty0 hty hnm hown hst.1 h6 zE_D h7 (a - 300) he hc k hkN (hts _ hw) (fun _ h => h) f1 (hty k hkN) hreal.1 hreal.2 hlen hd cont
      · rcases zput_spec hp with q | ⟨q, q2⟩
        · exact absurd q f2
        · exact va_putF (own := znm (zow mi)) (ref := (T k).1) hx hb hts hins ty0 hty hnm hown hst.1 h6 zE_D h7 (a - 300) he hc k hkN (hts _ hw) (fun _ h => h) f1 (hin q2) (by rw [f3, q]) (hty k hkN) hreal.1 hreal.2 hlen hd cont
      · exfalso
        rcases zput_spec hp with q | ⟨q, -⟩
        · rw [f1] at q; cases q
        · have := zow_lt mi
          omega
    · have f0 : zfn (tg A a) k = 0 := by
        rcases zput_spec hp with q | ⟨q, -⟩
        · exact q
        · rcases hnf with q2 | q2
          · exact q2
          · exact absurd q q2
      rcases hfi k hkN with ⟨f1, f2⟩ | ⟨f1, f2, f3⟩ | f1
      · exact va_putN (own := znm (zow mi)) (ref := (T k).1) (host := host) hx hb hts hins ty0 hty hnm hown hst.1 h6 zE_D h7 (a - 300) he hc k hkN (va_Nw.use rfl (hst.2.1 _ hw)) (fun _ h => h) f1 (hty k hkN) hreal.1 hreal.2 hlen hd cont
      · exact absurd f0 f2
      · rw [f1] at f0; cases f0
theorem g_gets (F : zFr Z p s m args meth c mi As) {ix j : Nat} (hd : decode (zcb mi) pc = .ok (.getstatic ix, 3)) (hf : zST (zow mi) ix = some j) (kk : zG Z p l e R s m args below meth c mi As Q (pc + 3) ls (sg A j :: st) A) : zG Z p l e R s m args below meth c mi As Q pc ls st A := by
  intro h1 h2 h3 rls H locs h4 h5 h6 h7
  have F' := F
  obtain ⟨hx, hb, hml, hown, hts, hst, hSs, hpb, hsz, hnx, hin⟩ := F
  obtain ⟨q, hq, hw⟩ := zSTok_all hf
  obtain ⟨-, -, -, -, -, -, -, -, a9, -, -, -, -, -, -, -, b7⟩ := hst
  have e9 : sg A j = zps Z j := h3.2.2.2.2.2.2.2.2.1 j
  refine zW_sz (fun z1 z2 => ?_)
  have hk := kk h1 (zall_c (v := sg A j) (by rw [e9]; exact b7 j) h2) h3 rls H locs h4 h5 h6 h7
  rw [List.map_cons, e9] at hk
  exact va_gets (C := q.1) (n := q.2.1) (d := q.2.2) (ref := q.1) hx hb ((a9 j q hq).kept (fun x hx hn => hSs.2.1 x hx hn)) (zS_s F' z1 h7) hown (hts _ hw) (fun _ h => h) hd hk
theorem g_ldc (F : zFr Z p s m args meth c mi As) {ix : Nat} {v : Int} (hd : decode (zcb mi) pc = .ok (.ldc ix, 2)) (hf : zKT (zow mi) ix = some (Sum.inl v)) (kk : zG Z p l e R s m args below meth c mi As Q (pc + 2) ls (zI v :: st) A) : zG Z p l e R s m args below meth c mi As Q pc ls st A := by
  intro h1 h2 h3 rls H locs h4 h5 h6 h7
  obtain ⟨hx, hb, hml, hown, hts, hst, hSs, hpb, hsz, hnx, hin⟩ := F
  have hw : Cond.constant (znm (zow mi)) ix (Int32.ofInt v) ∈ lw_all ∧ zr32 v := zKTok_all hf
  exact lv_ldc hx hb hown (hts _ hw.1) hd (kk h1 (zall_c (v := zI v) hw.2 h2) h3 rls H locs h4 h5 h6 h7)
theorem g_ldcM (F : zFr Z p s m args meth c mi As) {ix a : Nat} (hd : decode (zcb mi) pc = .ok (.ldc ix, 2)) (hf : zKT (zow mi) ix = some (Sum.inr a)) (kk : zG Z p l e R s m args below meth c mi As Q (pc + 2) ls (zO (some a) :: st) A) : zG Z p l e R s m args below meth c mi As Q pc ls st A := by
  intro h1 h2 h3 rls H locs h4 h5 h6 h7
  obtain ⟨hx, hb, hml, hown, hts, hst, hSs, hpb, hsz, hnx, hin⟩ := F
  have hw : a = 34 ∧ Cond.classLink (znm (zow mi)) ix "[Ljava/lang/Object;" ∈ lw_all := zKTok_all hf
  obtain ⟨rfl, hw⟩ := hw
  obtain ⟨-, -, -, -, -, -, -, -, -, -, -, -, -, b5, -⟩ := hst
  exact va_ldcM hx hb hown (hts _ hw) b5 hd (kk h1 (zall_c (v := zO (some 34)) trivial h2) h3 rls H locs h4 h5 h6 h7)
theorem g_ldc2 (F : zFr Z p s m args meth c mi As) {ix : Nat} {v : Int} (hd : decode (zcb mi) pc = .ok (.ldc2_w ix, 3)) (hf : zLT (zow mi) ix = some v) (kk : zG Z p l e R s m args below meth c mi As Q (pc + 3) ls (zL v :: st) A) : zG Z p l e R s m args below meth c mi As Q pc ls st A := by
  intro h1 h2 h3 rls H locs h4 h5 h6 h7
  obtain ⟨hx, hb, hml, hown, hts, hst, hSs, hpb, hsz, hnx, hin⟩ := F
  have hw : Cond.constantLong (znm (zow mi)) ix (Int64.ofInt v) ∈ lw_all ∧ zr64 v := zLTok_all hf
  exact lv_ldc2 hx hb hown (hts _ hw.1) hd (kk h1 (zall_c (v := zL v) hw.2 h2) h3 rls H locs h4 h5 h6 h7)
/-- the machine's cell of a tagged cell: its class -/
theorem zrecv (hst : zSt Z s) (hSs : va_S (zA Z) (zpH Z) s.heap []) (h3 : zWF Z A) {H : Heap} {locs : List Loc} (h6 : va_P (zpD Z) zcl (zE Z A) H) (h7 : va_S (zA Z) (zpH Z) H locs) {a : Nat} (t1 : 1 ≤ tg A a) (t2 : tg A a ≤ 16) {C : String} {T : u_T} {N : Nat} (hc : zcl[tg A a - 1]? = some (C, T, N)) : ∃ cell : Cell, H[zrho Z a]? = some cell ∧ cell.vm.isStatics = false ∧ s.vm.findClass C = some cell.cls := by
  have hr := h3.fresh t1 (by omega)
  have he := zE_get (Z := Z) hr.1 hr.2
  rw [zeo_obj t2] at he
  exact va_recv hst.1 h6 hc he
theorem zold32 (h3 : zWF Z A) {a : Nat} (e32 : tg A a = 32) : ∃ j, j < 256 ∧ a = 40 + j := by
  obtain ⟨-, w2, w3, w4, -⟩ := h3
  have ha : a < 300 := by
    rcases Nat.lt_or_ge a 300 with q | q
    · exact q
    · exfalso
      rcases Nat.lt_or_ge a (nx A) with q2 | q2
      · have := w3 a q q2; omega
      · have := w2 a q2; omega
  have hz := w4 a ha
  rw [e32] at hz
  unfold zot at hz
  split at hz
  · omega
  · split at hz
    · omega
    · split at hz
      · exact ⟨a - 40, by omega, by omega⟩
      · omega
theorem zrecv32 (hpb : (zpH Z).size = zpb Z) (hst : zSt Z s) (h3 : zWF Z A) {H : Heap} {locs : List Loc} (h7 : va_S (zA Z) (zpH Z) H locs) {a : Nat} (e32 : tg A a = 32) : ∃ cell : Cell, H[zrho Z a]? = some cell ∧ cell.vm.isStatics = false ∧ s.vm.findClass "java/lang/Integer" = some cell.cls := by
  obtain ⟨j, hj, rfl⟩ := zold32 h3 e32
  obtain ⟨-, -, -, -, -, -, -, -, -, -, hB, -⟩ := hst
  obtain ⟨cell, k1, k2, k3, -⟩ := (hB.1 j hj).kept h7.2.1
  exact ⟨cell, k1, k2, k3⟩
end SIM
