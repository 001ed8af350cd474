/-! SIMULATION, X: new arrays, lengths, casts -/
set_option maxRecDepth 100000
theorem zrep {α : Type} (n j : Nat) (x : α) : (List.replicate n x).getD j x = x := by
  rw [List.getD_eq_getElem?_getD, List.getElem?_replicate]
  split <;> rfl
section SIM
variable {Z : ZP} {p : Program} {l : Launch} {e : Env} {R : Room} {s : State} {m : MethodId} {args : Array Value} {below : List Frame} {meth : Method} {c : Code} {mi : Nat} {As : AH} {Q : State → Prop} {pc : Nat} {ls st : List ZV} {A : AH}
set_option maxHeartbeats 1000000 in
theorem g_new_int (F : zFr Z p s m args meth c mi As) (hm : nx As ≤ nx A) (hms : sl As ≤ sl A) {k : Int} (hd : decode (zcb mi) pc = .ok (.newarray .int, 2)) (h0 : 0 ≤ k) (hk1 : k ≤ 1000000) (hR : nx A + 1 - nx As ≤ R.cells) (hR2 : sl A + k.toNat - sl As ≤ R.slots) (kk : zG Z p l e R s m args below meth c mi As Q (pc + 2) ls (zO (some (nx A)) :: st) (nA A 20 (List.replicate k.toNat 0))) : zG Z p l e R s m args below meth c mi As Q pc ls (zI k :: st) A := by
  intro h1 h2 h3 rls H locs h4 h5 h6 h7
  obtain ⟨hx, hb, hml, hown, hts, hst, hSs, hpb, hsz, hnx, hin⟩ := F
  have hw1 := h3.1
  have hkr : zr32 k := zall_h h2
  refine va_newa (atype := .int) (ty := .int) (N' := k.toNat) (a0 := (k.toNat, .inl (fun _ => 0))) hx hb (hts _ q152) rfl hst.1 h6 zE_D h7 (fun q hq => by rw [hpb] at hq; exact hq) (fun cA => rfl) (zo_nn hkr h0) (zo_nat hkr h0) (by show k.toNat * 4 ≤ 536870912; omega) (by omega) (by omega) hd (fun q cA H1 hK hP hD hS => ?_)
  have hc : cA = zpc Z 20 := zRA hst (by decide) (by decide) (hK.2 10 _ rfl).2
  subst hc
  refine zW_sz (fun z1 z2 => ?_)
  have hq := zq_new hw1 hP hD (by omega)
  subst hq
  rw [← zE_nA (Z := Z) (A := A) (t := 20) (n := k.toNat) (l := List.replicate k.toNat 0) (f := fun _ => 0) hw1 (by decide) (by rw [List.length_replicate]) (fun j => by rw [zrep]; rfl)] at hP
  have hk := kk h1 (zall_c (v := zO (some (nx A))) trivial (zall_t h2)) (zWF_nA h3 (by decide) (by rw [List.length_replicate]; omega) ⟨fun _ x hx => by rw [List.eq_of_mem_replicate hx]; exact zr32_0, fun _ x hx => by rw [List.eq_of_mem_replicate hx]; omega, fun _ x hx => Or.inl (List.eq_of_mem_replicate hx)⟩) rls H1 locs h4 h5 hP hS
  exact W.cs (by rw [nx_nA]; omega) (by rw [sl_nA, List.length_replicate]; omega) hk
set_option maxHeartbeats 1000000 in
theorem g_new_byte (F : zFr Z p s m args meth c mi As) (hm : nx As ≤ nx A) (hms : sl As ≤ sl A) {k : Int} (hd : decode (zcb mi) pc = .ok (.newarray .byte, 2)) (h0 : 0 ≤ k) (hk1 : k ≤ 1000000) (hR : nx A + 1 - nx As ≤ R.cells) (hR2 : sl A + k.toNat - sl As ≤ R.slots) (kk : zG Z p l e R s m args below meth c mi As Q (pc + 2) ls (zO (some (nx A)) :: st) (nA A 21 (List.replicate k.toNat 0))) : zG Z p l e R s m args below meth c mi As Q pc ls (zI k :: st) A := by
  intro h1 h2 h3 rls H locs h4 h5 h6 h7
  obtain ⟨hx, hb, hml, hown, hts, hst, hSs, hpb, hsz, hnx, hin⟩ := F
  have hw1 := h3.1
  have hkr : zr32 k := zall_h h2
  refine va_newa (atype := .byte) (ty := .byte) (N' := k.toNat) (a0 := (k.toNat, .inl (fun _ => 0))) hx hb (hts _ q153) rfl hst.1 h6 zE_D h7 (fun q hq => by rw [hpb] at hq; exact hq) (fun cA => rfl) (zo_nn hkr h0) (zo_nat hkr h0) (by show k.toNat * 1 ≤ 536870912; omega) (by omega) (by omega) hd (fun q cA H1 hK hP hD hS => ?_)
  have hc : cA = zpc Z 21 := zRA hst (by decide) (by decide) (hK.2 10 _ rfl).2
  subst hc
  refine zW_sz (fun z1 z2 => ?_)
  have hq := zq_new hw1 hP hD (by omega)
  subst hq
  rw [← zE_nA (Z := Z) (A := A) (t := 21) (n := k.toNat) (l := List.replicate k.toNat 0) (f := fun _ => 0) hw1 (by decide) (by rw [List.length_replicate]) (fun j => by rw [zrep]; rfl)] at hP
  have hk := kk h1 (zall_c (v := zO (some (nx A))) trivial (zall_t h2)) (zWF_nA h3 (by decide) (by rw [List.length_replicate]; omega) ⟨fun _ x hx => by rw [List.eq_of_mem_replicate hx]; exact zr32_0, fun _ x hx => by rw [List.eq_of_mem_replicate hx]; omega, fun _ x hx => Or.inl (List.eq_of_mem_replicate hx)⟩) rls H1 locs h4 h5 hP hS
  exact W.cs (by rw [nx_nA]; omega) (by rw [sl_nA, List.length_replicate]; omega) hk
set_option maxHeartbeats 1000000 in
theorem g_new_boolean (F : zFr Z p s m args meth c mi As) (hm : nx As ≤ nx A) (hms : sl As ≤ sl A) {k : Int} (hd : decode (zcb mi) pc = .ok (.newarray .boolean, 2)) (h0 : 0 ≤ k) (hk1 : k ≤ 1000000) (hR : nx A + 1 - nx As ≤ R.cells) (hR2 : sl A + k.toNat - sl As ≤ R.slots) (kk : zG Z p l e R s m args below meth c mi As Q (pc + 2) ls (zO (some (nx A)) :: st) (nA A 22 (List.replicate k.toNat 0))) : zG Z p l e R s m args below meth c mi As Q pc ls (zI k :: st) A := by
  intro h1 h2 h3 rls H locs h4 h5 h6 h7
  obtain ⟨hx, hb, hml, hown, hts, hst, hSs, hpb, hsz, hnx, hin⟩ := F
  have hw1 := h3.1
  have hkr : zr32 k := zall_h h2
  refine va_newa (atype := .boolean) (ty := .boolean) (N' := k.toNat) (a0 := (k.toNat, .inl (fun _ => 0))) hx hb (hts _ q192) rfl hst.1 h6 zE_D h7 (fun q hq => by rw [hpb] at hq; exact hq) (fun cA => rfl) (zo_nn hkr h0) (zo_nat hkr h0) (by show k.toNat * 1 ≤ 536870912; omega) (by omega) (by omega) hd (fun q cA H1 hK hP hD hS => ?_)
  have hc : cA = zpc Z 22 := zRA hst (by decide) (by decide) (hK.2 10 _ rfl).2
  subst hc
  refine zW_sz (fun z1 z2 => ?_)
  have hq := zq_new hw1 hP hD (by omega)
  subst hq
  rw [← zE_nA (Z := Z) (A := A) (t := 22) (n := k.toNat) (l := List.replicate k.toNat 0) (f := fun _ => 0) hw1 (by decide) (by rw [List.length_replicate]) (fun j => by rw [zrep]; rfl)] at hP
  have hk := kk h1 (zall_c (v := zO (some (nx A))) trivial (zall_t h2)) (zWF_nA h3 (by decide) (by rw [List.length_replicate]; omega) ⟨fun _ x hx => by rw [List.eq_of_mem_replicate hx]; exact zr32_0, fun _ x hx => by rw [List.eq_of_mem_replicate hx]; omega, fun _ x hx => Or.inl (List.eq_of_mem_replicate hx)⟩) rls H1 locs h4 h5 hP hS
  exact W.cs (by rw [nx_nA]; omega) (by rw [sl_nA, List.length_replicate]; omega) hk
set_option maxHeartbeats 1000000 in
theorem g_new_long (F : zFr Z p s m args meth c mi As) (hm : nx As ≤ nx A) (hms : sl As ≤ sl A) {k : Int} (hd : decode (zcb mi) pc = .ok (.newarray .long, 2)) (h0 : 0 ≤ k) (hk1 : k ≤ 1000000) (hR : nx A + 1 - nx As ≤ R.cells) (hR2 : sl A + k.toNat - sl As ≤ R.slots) (kk : zG Z p l e R s m args below meth c mi As Q (pc + 2) ls (zO (some (nx A)) :: st) (nJ A 23 (List.replicate k.toNat 0))) : zG Z p l e R s m args below meth c mi As Q pc ls (zI k :: st) A := by
  intro h1 h2 h3 rls H locs h4 h5 h6 h7
  obtain ⟨hx, hb, hml, hown, hts, hst, hSs, hpb, hsz, hnx, hin⟩ := F
  have hw1 := h3.1
  have hkr : zr32 k := zall_h h2
  refine va_newa (atype := .long) (ty := .long) (N' := k.toNat) (a0 := (k.toNat, .inr (.inl (fun _ => 0)))) hx hb (hts _ q1811) rfl hst.1 h6 zE_D h7 (fun q hq => by rw [hpb] at hq; exact hq) (fun cA => rfl) (zo_nn hkr h0) (zo_nat hkr h0) (by show k.toNat * 8 ≤ 536870912; omega) (by omega) (by omega) hd (fun q cA H1 hK hP hD hS => ?_)
  have hc : cA = zpc Z 23 := zRA hst (by decide) (by decide) (hK.2 10 _ rfl).2
  subst hc
  refine zW_sz (fun z1 z2 => ?_)
  have hq := zq_new hw1 hP hD (by omega)
  subst hq
  rw [← zE_nJ (Z := Z) (A := A) (n := k.toNat) (l := List.replicate k.toNat 0) (f := fun _ => 0) hw1 (by rw [List.length_replicate]) (fun j => by rw [zrep]; rfl)] at hP
  have hk := kk h1 (zall_c (v := zO (some (nx A))) trivial (zall_t h2)) (zWF_nJ h3 (by rw [List.length_replicate]; omega) (fun x hx => by rw [List.eq_of_mem_replicate hx]; unfold zr64; omega)) rls H1 locs h4 h5 hP hS
  exact W.cs (by rw [nx_nJ]; omega) (by rw [sl_nJ, List.length_replicate]; omega) hk
set_option maxHeartbeats 1000000 in
theorem g_anew (F : zFr Z p s m args meth c mi As) (hm : nx As ≤ nx A) (hms : sl As ≤ sl A) {ix t : Nat} {k : Int} (hd : decode (zcb mi) pc = .ok (.anewarray ix, 3)) (hf : zNA (zow mi) ix = some t) (ht29 : t ≠ 29) (h0 : 0 ≤ k) (hk1 : k ≤ 1000000) (hR : nx A + 1 - nx As ≤ R.cells) (hR2 : sl A + k.toNat - sl As ≤ R.slots) (kk : zG Z p l e R s m args below meth c mi As Q (pc + 3) ls (zO (some (nx A)) :: st) (nR A t (List.replicate k.toNat none))) : zG Z p l e R s m args below meth c mi As Q pc ls (zI k :: st) A := by
  intro h1 h2 h3 rls H locs h4 h5 h6 h7
  obtain ⟨hx, hb, hml, hown, hts, hst, hSs, hpb, hsz, hnx, hin⟩ := F
  have hw1 := h3.1
  have hkr : zr32 k := zall_h h2
  rcases zNAok_all hf with ⟨t1, t2, hlk⟩ | ⟨q, -⟩
  · have hAO : va_AO (zac t) s := by
      have hh : ∀ t, 24 ≤ t → t ≤ 28 → zac t ∈ zNwA := by
        intro t g1 g2
        match t, g1, g2 with
        | 24, _, _ => exact List.mem_of_getElem? (i := 0) rfl
        | 25, _, _ => exact List.mem_of_getElem? (i := 1) rfl
        | 26, _, _ => exact List.mem_of_getElem? (i := 2) rfl
        | 27, _, _ => exact List.mem_of_getElem? (i := 3) rfl
        | 28, _, _ => exact List.mem_of_getElem? (i := 4) rfl
        | n + 29, _, g2 => omega
      exact hst.2.2.2.2.1 _ (hh t t1 t2)
    have hcn : ∀ cA, va_RA s cA (.object (zac t)) → s.vm.findClass (zan t) = some cA := by
      intro cA ⟨_, _, _, _, _, h⟩
      have hh : ∀ t, 24 ≤ t → t ≤ 28 → "[" ++ (FieldType.object (zac t)).toString = zan t := by
        intro t g1 g2
        match t, g1, g2 with
        | 24, _, _ => decide +kernel
        | 25, _, _ => decide +kernel
        | 26, _, _ => decide +kernel
        | 27, _, _ => decide +kernel
        | 28, _, _ => decide +kernel
        | n + 29, _, g2 => omega
      rw [← hh t t1 t2]; exact h
    refine va_newq (C := zac t) (N' := k.toNat) hx hb hown (hts _ hlk) hAO hst.1 h6 zE_D h7 (fun q hq => by rw [hpb] at hq; exact hq) (zo_nn hkr h0) (zo_nat hkr h0) (by omega) (by omega) (by omega) hd (fun q cA H1 hK hP hD hS => ?_)
    have hc : cA = zpc Z t := zRA hst (by omega) (by omega) (hcn _ (hK.2 10 _ rfl).2)
    subst hc
    refine zW_sz (fun z1 z2 => ?_)
    have hq := zq_new hw1 hP hD (by omega)
    subst hq
    rw [← zE_nR hw1 t1] at hP
    have hk := kk h1 (zall_c (v := zO (some (nx A))) trivial (zall_t h2)) (zWF_nR h3 t1 t2 (by omega)) rls H1 locs h4 h5 hP hS
    exact W.cs (by rw [nx_nR]; omega) (by rw [sl_nR, List.length_replicate]; omega) hk
  · exact absurd q ht29
theorem g_alen (F : zFr Z p s m args meth c mi As) {a : Nat} (hd : decode (zcb mi) pc = .ok (.arraylength, 1)) (ht : zarr (tg A a) ≠ 0) (kk : zG Z p l e R s m args below meth c mi As Q (pc + 1) ls (zI (zlen A a : Nat) :: st) A) : zG Z p l e R s m args below meth c mi As Q pc ls (zO (some a) :: st) A := by
  have F' := F
  intro h1 h2 h3 rls H locs h4 h5 h6 h7
  obtain ⟨hx, hb, hml, hown, hts, hst, hSs, hpb, hsz, hnx, hin⟩ := F
  have hcase : (20 ≤ tg A a ∧ tg A a ≤ 29) ∨ tg A a = 30 ∨ tg A a = 31 := by
    unfold zarr at ht
    split at ht
    · omega
    · split at ht
      · omega
      · split at ht
        · omega
        · exact absurd rfl ht
  rcases hcase with ⟨t1, t2⟩ | t30 | t31
  · have hr := h3.fresh (a := a) (by omega) t2
    have he := zE_get (Z := Z) hr.1 hr.2
    have hok := h3.2.2.2.2.1 a hr.1 hr.2
    have hlen := hok.2.2.2.2.2.2 t1
    have hk := kk h1 (zall_c (v := zI (zlen A a : Nat)) (show zr32 _ by unfold zr32; omega) (zall_t h2)) h3 rls H locs h4 h5 h6 h7
    rw [List.map_cons, zev_I, Int32.ofInt_eq_ofNat] at hk
    obtain ⟨ty, hty⟩ := ztys_at (Z := Z) (t := tg A a) t1 t2
    have hx1 : ∃ x : vp_A, zeo Z A a = .inl (zpc Z (tg A a), x) ∧ x.1 = zlen A a := by
      unfold zlen
      by_cases q1 : tg A a = 20 ∨ tg A a = 21 ∨ tg A a = 22
      · refine ⟨_, zeo_int q1, ?_⟩
        rw [if_pos (by unfold zarr; rw [if_pos (by omega)])]
      · by_cases q2 : tg A a = 23
        · refine ⟨_, zeo_lng q2, ?_⟩
          rw [q2, if_neg (by decide), if_pos (by decide)]
        · refine ⟨_, zeo_ref (by omega), ?_⟩
          have : zarr (tg A a) = 3 := by
            unfold zarr
            rw [if_neg (by omega), if_neg (by omega), if_pos (by omega)]
          rw [this, if_neg (by decide), if_neg (by decide)]
    obtain ⟨x, ex, ex1⟩ := hx1
    rw [ex] at he
    exact va_alen hx hb hst.1 h6 (a - 300) (tg A a - 20) he hty (by rw [ex1]) hd hk
  · obtain rfl : a = 0 := by
      obtain ⟨-, w2, w3, w4, -⟩ := h3
      have ha : a < 300 := by
        rcases Nat.lt_or_ge a 300 with q | q
        · exact q
        · exfalso
          rcases Nat.lt_or_ge a (nx A) with q2 | q2
          · have := w3 a q q2; omega
          · have := w2 a q2; omega
      have hz := w4 a ha
      rw [t30] at hz
      unfold zot at hz
      split at hz
      · assumption
      · split at hz
        · omega
        · split at hz <;> omega
    have e0 : ia A 0 = zpx Z := h3.2.2.2.2.2.1
    have el : zlen A 0 = (zpx Z).length := by unfold zlen; rw [t30, if_pos (by decide), e0]
    have hlen := h3.2.2.2.2.2.2.2.2.2.2
    rw [el] at kk
    have hk := kk h1 (zall_c (v := zI ((zpx Z).length : Nat)) (show zr32 _ by unfold zr32; omega) (zall_t h2)) h3 rls H locs h4 h5 h6 h7
    rw [List.map_cons, zev_I, Int32.ofInt_eq_ofNat] at hk
    obtain ⟨-, -, -, -, -, -, -, -, -, -, -, b3, b4, -⟩ := hst
    exact va_slen hx hb b3 (by rw [hpb]; exact b4) (Nat.not_le.mpr b4) h7 hd hk
  · obtain rfl : a = 1 := by
      obtain ⟨-, w2, w3, w4, -⟩ := h3
      have ha : a < 300 := by
        rcases Nat.lt_or_ge a 300 with q | q
        · exact q
        · exfalso
          rcases Nat.lt_or_ge a (nx A) with q2 | q2
          · have := w3 a q q2; omega
          · have := w2 a q2; omega
      have hz := w4 a ha
      rw [t31] at hz
      unfold zot at hz
      split at hz
      · omega
      · split at hz
        · assumption
        · split at hz <;> omega
    have e1 : ra A 1 = (List.range 256).map (fun k => some (40 + k)) := h3.2.2.2.2.2.2.1
    have el : zlen A 1 = 256 := by unfold zlen; rw [t31, if_neg (by decide), if_neg (by decide), e1]; simp
    rw [el] at kk
    have hk := kk h1 (zall_c (v := zI ((256 : Nat) : Int)) (show zr32 _ by unfold zr32; omega) (zall_t h2)) h3 rls H locs h4 h5 h6 h7
    rw [List.map_cons, zev_I, Int32.ofInt_eq_ofNat] at hk
    obtain ⟨-, -, -, -, -, -, -, -, -, b1, -⟩ := hst
    obtain ⟨cell, k1, k2, k3, k4, k5, k6, k7⟩ := b1.kept h7.2.1
    exact W.alen hx hb k1 k2 k5 rfl rfl hd hk
theorem zcast (F : zFr Z p s m args meth c mi As) (h3 : zWF Z A) {H : Heap} {locs : List Loc} (h6 : va_P (zpD Z) zcl (zE Z A) H) (h7 : va_S (zA Z) (zpH Z) H locs) {ix a : Nat} {ts : List Nat} (hf : zXT (zow mi) ix = some ts) (ht : ts.contains (tg A a) = true) : ∃ nm, Cond.classLink (znm (zow mi)) ix nm ∈ lw_all ∧ ((∃ C, ((C = nm ∧ ∃ cC, ClassAt s C cC) ∨ va_Nw (.castable C nm) s) ∧ ∃ cell : Cell, H[zrho Z a]? = some cell ∧ cell.vm.isStatics = false ∧ s.vm.findClass C = some cell.cls) ∨ (∃ x : vp_A, zeo Z A a = .inl (zpc Z (tg A a), x) ∧ 300 ≤ a ∧ a < nx A ∧ s.vm.findClass nm = some (zpc Z (tg A a)))) := by
  obtain ⟨hx, hb, hml, hown, hts, hst, hSs, hpb, hsz, hnx, hin⟩ := F
  obtain ⟨nm, hw, hall⟩ := zXok_all hf
  refine ⟨nm, hw, ?_⟩
  have hmem : tg A a ∈ ts := List.contains_iff_mem.mp ht
  rcases hall _ hmem with ⟨u1, u2, hC⟩ | ⟨e32, hC⟩ | ⟨u1, u2, hnm⟩
  · obtain ⟨C, T, N, ty0, hc, -⟩ := zTok_all _ u1 u2
    refine Or.inl ⟨C, ?_, zrecv hst hSs h3 h6 h7 u1 u2 hc⟩
    rcases hC C T N hc with q | q
    · exact Or.inl ⟨q, _, (hst.1.1 _ _ hc).2⟩
    · exact Or.inr (hst.2.2.2.1 _ q)
  · refine Or.inl ⟨"java/lang/Integer", ?_, zrecv32 hpb hst h3 h7 e32⟩
    rcases hC with q | q
    · obtain ⟨cI, iS, hKn⟩ := u_known (C := RJ8) (T := TJ8) (N := 1) (n := 1) hts in_J8 (hts _ q639)
      exact Or.inl ⟨q, cI, hKn.2⟩
    · exact Or.inr (hst.2.2.2.1 _ q)
  · have hr := h3.fresh (a := a) (by omega) (by omega)
    refine Or.inr ?_
    have hx1 : ∃ x : vp_A, zeo Z A a = .inl (zpc Z (tg A a), x) := by
      by_cases q1 : tg A a = 20 ∨ tg A a = 21 ∨ tg A a = 22
      · exact ⟨_, zeo_int q1⟩
      · by_cases q2 : tg A a = 23
        · exact ⟨_, zeo_lng q2⟩
        · exact ⟨_, zeo_ref (by omega)⟩
    obtain ⟨x, ex⟩ := hx1
    refine ⟨x, ex, hr.1, hr.2, ?_⟩
    have hf2 : ∃ cA, s.vm.findClass (zan (tg A a)) = some cA := by
      have hh : ∀ t, 20 ≤ t → t ≤ 28 → ∃ cA, s.vm.findClass (zan t) = some cA := by
        intro t g1 g2
        match t, g1, g2 with
        | 20, _, _ => exact ⟨_, (hst.1.2 0 _ rfl).2⟩
        | 21, _, _ => exact ⟨_, (hst.1.2 1 _ rfl).2⟩
        | 22, _, _ => exact ⟨_, (hst.1.2 2 _ rfl).2⟩
        | 23, _, _ => exact ⟨_, (hst.1.2 3 _ rfl).2⟩
        | 24, _, _ => obtain ⟨_, _, _, _, _, h⟩ := (hst.1.2 4 _ rfl).2; exact ⟨_, h⟩
        | 25, _, _ => obtain ⟨_, _, _, _, _, h⟩ := (hst.1.2 5 _ rfl).2; exact ⟨_, h⟩
        | 26, _, _ => obtain ⟨_, _, _, _, _, h⟩ := (hst.1.2 6 _ rfl).2; exact ⟨_, h⟩
        | 27, _, _ => obtain ⟨_, _, _, _, _, h⟩ := (hst.1.2 7 _ rfl).2; exact ⟨_, h⟩
        | 28, _, _ => obtain ⟨_, _, _, _, _, h⟩ := (hst.1.2 8 _ rfl).2; exact ⟨_, h⟩
        | n + 29, _, g2 => omega
      exact hh _ u1 u2
    obtain ⟨cA, hcA⟩ := hf2
    rw [hnm, hcA, zRA hst u1 (by omega) hcA]
theorem zClassAt (hst : zSt Z s) {H : Heap} {a : Nat} {C : String} (h : ∃ cell : Cell, H[a]? = some cell ∧ cell.vm.isStatics = false ∧ s.vm.findClass C = some cell.cls) : ∃ cC, s.vm.findClass C = some cC := by
  obtain ⟨cell, -, -, h⟩ := h
  exact ⟨_, h⟩
theorem g_cast (F : zFr Z p s m args meth c mi As) {ix a : Nat} {ts : List Nat} (hd : decode (zcb mi) pc = .ok (.checkcast ix, 3)) (hf : zXT (zow mi) ix = some ts) (ht : ts.contains (tg A a) = true) (kk : zG Z p l e R s m args below meth c mi As Q (pc + 3) ls (zO (some a) :: st) A) : zG Z p l e R s m args below meth c mi As Q pc ls (zO (some a) :: st) A := by
  have F' := F
  intro h1 h2 h3 rls H locs h4 h5 h6 h7
  obtain ⟨hx, hb, hml, hown, hts, hst, hSs, hpb, hsz, hnx, hin⟩ := F
  have hk := kk h1 h2 h3 rls H locs h4 h5 h6 h7
  obtain ⟨nm, hw, hcase⟩ := zcast F' h3 h6 h7 hf ht
  rcases hcase with ⟨C, hC, hr⟩ | ⟨x, ex, r1, r2, hn⟩
  · rcases hC with ⟨rfl, cC, hCA⟩ | hC
    · exact va_castS (nm := C) hx hb hown (hts _ hw) hCA hr hd hk
    · exact va_castY hx hb hown (hts _ hw) hC hr hd hk
  · have he := zE_get (Z := Z) r1 r2
    rw [ex] at he
    exact va_castA hx hb hown (hts _ hw) h6 (a - 300) he hn hd hk
theorem g_castN (F : zFr Z p s m args meth c mi As) {ix : Nat} (hd : decode (zcb mi) pc = .ok (.checkcast ix, 3)) (kk : zG Z p l e R s m args below meth c mi As Q (pc + 3) ls (zO none :: st) A) : zG Z p l e R s m args below meth c mi As Q pc ls (zO none :: st) A := by
  intro h1 h2 h3 rls H locs h4 h5 h6 h7
  obtain ⟨hx, hb, hml, hown, hts, hst, hSs, hpb, hsz, hnx, hin⟩ := F
  exact lv_castN hx hb hd (kk h1 h2 h3 rls H locs h4 h5 h6 h7)
theorem g_inst (F : zFr Z p s m args meth c mi As) {ix a : Nat} {ts : List Nat} (hd : decode (zcb mi) pc = .ok (.instanceof ix, 3)) (hf : zXT (zow mi) ix = some ts) (ht : ts.contains (tg A a) = true) (h20 : tg A a < 20 ∨ 29 < tg A a) (kk : zG Z p l e R s m args below meth c mi As Q (pc + 3) ls (zI 1 :: st) A) : zG Z p l e R s m args below meth c mi As Q pc ls (zO (some a) :: st) A := by
  have F' := F
  intro h1 h2 h3 rls H locs h4 h5 h6 h7
  obtain ⟨hx, hb, hml, hown, hts, hst, hSs, hpb, hsz, hnx, hin⟩ := F
  have hk := kk h1 (zall_c (v := zI 1) (show zr32 1 by unfold zr32; omega) (zall_t h2)) h3 rls H locs h4 h5 h6 h7
  obtain ⟨nm, hw, hcase⟩ := zcast F' h3 h6 h7 hf ht
  rcases hcase with ⟨C, hC, hr⟩ | ⟨x, ex, r1, r2, hn⟩
  · rcases hC with ⟨rfl, cC, hCA⟩ | hC
    · exact va_instS (nm := C) hx hb hown (hts _ hw) hCA hr hd hk
    · exact va_instY hx hb hown (hts _ hw) hC hr hd hk
  · exfalso
    unfold zeo at ex
    rw [if_neg (by omega), if_neg (by omega)] at ex
    split at ex
    · have := h3.2.2.1 a r1 r2; omega
    · cases ex
end SIM
