/-! SIMULATION, IX: lengths, casts, new cells -/
set_option maxRecDepth 100000
theorem zel_0 (t : Nat) : zel t 0 = false := by
  unfold zel
  split
  · rfl
  · split
    · rfl
    · split
      · rfl
      · split
        · rfl
        · simp
theorem zWF_push {Z : ZP} {A B : AH} (h : zWF Z A) (hn : nx B = nx A + 1) (ht : ∀ b, b ≠ nx A → tg B b = tg A b) (hT : (1 ≤ tg B (nx A) ∧ tg B (nx A) ≤ 16) ∨ (20 ≤ tg B (nx A) ∧ tg B (nx A) ≤ 29)) (hf : ∀ b k, b ≠ nx A → fd B b k = fd A b k) (hi : ∀ b, b ≠ nx A → ia B b = ia A b) (hl : ∀ b, b ≠ nx A → la B b = la A b) (hr : ∀ b, b ≠ nx A → ra B b = ra A b) (hs : ∀ j, sg B j = sg A j) (hc : zcok B (nx A)) : zWF Z B := by
  obtain ⟨w1, w2, w3, w4, w5, w6, w7, w8, w9, w10, w11⟩ := h
  refine ⟨by omega, fun a ha => ?_, fun a h1 h2 => ?_, fun a ha => ?_, fun a h1 h2 => ?_, ?_, ?_, fun k hk => ?_, fun j => ?_, w10, w11⟩
  · rw [ht a (by omega)]; exact w2 a (by omega)
  · by_cases e : a = nx A
    · rw [e]; exact hT
    · rw [ht a e]; exact w3 a h1 (by omega)
  · rw [ht a (by omega)]; exact w4 a ha
  · by_cases e : a = nx A
    · rw [e]; exact hc
    · obtain ⟨c1, c2, c3, c4, c5, c6, c7⟩ := w5 a h1 (by omega)
      unfold zcok zlen
      rw [ht a e, hi a e, hl a e, hr a e]
      refine ⟨c1, c2, c3, c4, fun g1 g2 b hb => ?_, fun g1 k hk => ?_, c7⟩
      · have := c5 g1 g2 b hb
        have hb2 : b ≠ nx A := by
          intro q
          rw [q, w2 (nx A) (Nat.le_refl _), zel_0] at this
          cases this
        rw [ht b hb2]; exact this
      · rw [hf a k e]; exact c6 g1 k hk
  · rw [hi 0 (by omega)]; exact w6
  · rw [hr 1 (by omega)]; exact w7
  · rw [hf _ _ (by omega)]; exact w8 k hk
  · rw [hs]; exact w9 j
theorem zeo_same {Z : ZP} {A B : AH} {b : Nat} (ht : tg B b = tg A b) (hf : ∀ k, fd B b k = fd A b k) (hi : ia B b = ia A b) (hl : la B b = la A b) (hr : ra B b = ra A b) : zeo Z B b = zeo Z A b := by
  unfold zeo
  rw [ht, hi, hl, hr]
  simp only [hf]
theorem znf_le : ∀ t, znf t ≤ 41 := by
  intro t
  unfold znf
  cases h : zlk zfkl t with
  | none => simp
  | some e =>
    have h1 := zlk_mem h
    have h2 : (zfkl.all fun e => decide (e.2.length ≤ 41)) = true := by decide +kernel
    exact of_decide_eq_true (List.all_eq_true.mp h2 _ h1)
theorem zfk_in : ∀ t, 1 ≤ t → t ≤ 16 → ∀ k, k < znf t → zfok (zfk t k) (if zfk t k = 3 then zN else zI 0) := by
  intro t h1 h2 k hk
  obtain ⟨C, T, N, ty0, hc, hN, hins, hty, hnm, hkt, hfi, qi, qn⟩ := zTok_all t h1 h2
  have h0 : zr32 0 := zr32_0
  rcases hkt k (by rw [← hN]; exact hk) with ⟨q, -⟩ | ⟨q, -⟩ | ⟨q, -⟩ | ⟨q, -⟩
  · rw [q, if_neg (by decide)]; exact Or.inl ⟨rfl, h0⟩
  · rw [q, if_neg (by decide)]; exact Or.inr (Or.inl ⟨rfl, Or.inl rfl⟩)
  · rw [q, if_neg (by decide)]; exact Or.inr (Or.inr ⟨rfl, by omega, by omega⟩)
  · rw [q, if_pos rfl]; exact (rfl : (3 : Nat) = 3)
theorem zWF_nO {Z : ZP} {A : AH} {t : Nat} (h : zWF Z A) (h1 : 1 ≤ t) (h2 : t ≤ 16) : zWF Z (nO A t) := by
  have e : tg (nO A t) (nx A) = t := by rw [tg_nO, if_pos rfl]
  refine zWF_push h rfl (fun b hb => by rw [tg_nO, if_neg hb]) (Or.inl (by rw [e]; exact ⟨h1, h2⟩)) (fun b k hb => by rw [fd_nO, if_neg hb]) (fun b hb => rfl) (fun b hb => rfl) (fun b hb => rfl) (fun j => rfl) ?_
  unfold zcok
  rw [e]
  refine ⟨fun q => by omega, fun q => by omega, fun q => by omega, fun q => by omega, fun q => by omega, fun _ k hk => ?_, fun q => by omega⟩
  rw [fd_nO, if_pos rfl]
  exact zfk_in t h1 h2 k hk
theorem zE_nO {Z : ZP} {A : AH} {t : Nat} (h : 300 ≤ nx A) (h2 : t ≤ 16) : zE Z (nO A t) = zE Z A ++ [(zrho Z (nx A), .inr (t - 1, (List.range (znf t)).map (fun k => zev Z (if zfk t k = 3 then zN else zI 0))))] := by
  have e : tg (nO A t) (nx A) = t := by rw [tg_nO, if_pos rfl]
  refine zE_push h rfl (fun b hb hb2 => zeo_same (by rw [tg_nO, if_neg (by omega)]) (fun k => by rw [fd_nO, if_neg (by omega)]) rfl rfl rfl) ?_
  rw [zeo_obj (by rw [e]; exact h2), e]
  simp only [fd_nO, if_true]
theorem zWF_nA {Z : ZP} {A : AH} {t : Nat} {l : List Int} (h : zWF Z A) (ht : t = 20 ∨ t = 21 ∨ t = 22) (hl : l.length ≤ 1000000) (hv : (t = 20 → ∀ x ∈ l, zr32 x) ∧ (t = 21 → ∀ x ∈ l, -128 ≤ x ∧ x ≤ 127) ∧ (t = 22 → ∀ x ∈ l, x = 0 ∨ x = 1)) : zWF Z (nA A t l) := by
  have e : tg (nA A t l) (nx A) = t := by rw [tg_nA, if_pos rfl]
  have e2 : ia (nA A t l) (nx A) = l := by rw [ia_nA, if_pos rfl]
  refine zWF_push h rfl (fun b hb => by rw [tg_nA, if_neg hb]) (Or.inr (by rw [e]; omega)) (fun b k hb => rfl) (fun b hb => by rw [ia_nA, if_neg hb]) (fun b hb => rfl) (fun b hb => rfl) (fun j => rfl) ?_
  unfold zcok zlen
  rw [e, e2]
  refine ⟨hv.1, hv.2.1, hv.2.2, fun q => by omega, fun q => by omega, fun q => by omega, fun _ => ?_⟩
  rw [if_pos (by unfold zarr; rw [if_pos (by omega)])]
  exact hl
theorem zE_nA {Z : ZP} {A : AH} {t n : Nat} {l : List Int} {f : Nat → Int32} (h : 300 ≤ nx A) (ht : t = 20 ∨ t = 21 ∨ t = 22) (hn : l.length = n) (hf : ∀ j, Int32.ofInt (l.getD j 0) = f j) : zE Z (nA A t l) = zE Z A ++ [(zrho Z (nx A), .inl (zpc Z t, n, .inl f))] := by
  have e : tg (nA A t l) (nx A) = t := by rw [tg_nA, if_pos rfl]
  have e2 : ia (nA A t l) (nx A) = l := by rw [ia_nA, if_pos rfl]
  refine zE_push h rfl (fun b hb hb2 => zeo_same (by rw [tg_nA, if_neg (by omega)]) (fun k => rfl) (by rw [ia_nA, if_neg (by omega)]) rfl rfl) ?_
  rw [zeo_int (by rw [e]; exact ht), e, e2, hn, show (fun j => Int32.ofInt (l.getD j 0)) = f from funext hf]
theorem zWF_nJ {Z : ZP} {A : AH} {l : List Int} (h : zWF Z A) (hl : l.length ≤ 1000000) (hv : ∀ x ∈ l, zr64 x) : zWF Z (nJ A 23 l) := by
  have e : tg (nJ A 23 l) (nx A) = 23 := by rw [tg_nJ, if_pos rfl]
  have e2 : la (nJ A 23 l) (nx A) = l := by rw [la_nJ, if_pos rfl]
  refine zWF_push h rfl (fun b hb => by rw [tg_nJ, if_neg hb]) (Or.inr (by rw [e]; omega)) (fun b k hb => rfl) (fun b hb => rfl) (fun b hb => by rw [la_nJ, if_neg hb]) (fun b hb => rfl) (fun j => rfl) ?_
  unfold zcok zlen
  rw [e, e2]
  exact ⟨fun q => by omega, fun q => by omega, fun q => by omega, fun _ => hv, fun q => by omega, fun q => by omega, fun _ => hl⟩
theorem zE_nJ {Z : ZP} {A : AH} {n : Nat} {l : List Int} {f : Nat → Int64} (h : 300 ≤ nx A) (hn : l.length = n) (hf : ∀ j, Int64.ofInt (l.getD j 0) = f j) : zE Z (nJ A 23 l) = zE Z A ++ [(zrho Z (nx A), .inl (zpc Z 23, n, .inr (.inl f)))] := by
  have e : tg (nJ A 23 l) (nx A) = 23 := by rw [tg_nJ, if_pos rfl]
  have e2 : la (nJ A 23 l) (nx A) = l := by rw [la_nJ, if_pos rfl]
  refine zE_push h rfl (fun b hb hb2 => zeo_same (by rw [tg_nJ, if_neg (by omega)]) (fun k => rfl) rfl (by rw [la_nJ, if_neg (by omega)]) rfl) ?_
  rw [zeo_lng e, e, e2, hn, show (fun j => Int64.ofInt (l.getD j 0)) = f from funext hf]
theorem zWF_nR {Z : ZP} {A : AH} {t n : Nat} (h : zWF Z A) (ht : 24 ≤ t) (ht2 : t ≤ 28) (hl : n ≤ 1000000) : zWF Z (nR A t (List.replicate n none)) := by
  have e : tg (nR A t (List.replicate n none)) (nx A) = t := by rw [tg_nR, if_pos rfl]
  have e2 : ra (nR A t (List.replicate n none)) (nx A) = List.replicate n none := by rw [ra_nR, if_pos rfl]
  refine zWF_push h rfl (fun b hb => by rw [tg_nR, if_neg hb]) (Or.inr (by rw [e]; omega)) (fun b k hb => rfl) (fun b hb => rfl) (fun b hb => rfl) (fun b hb => by rw [ra_nR, if_neg hb]) (fun j => rfl) ?_
  unfold zcok zlen
  rw [e, e2]
  refine ⟨fun q => by omega, fun q => by omega, fun q => by omega, fun q => by omega, fun _ _ b hb => absurd (List.eq_of_mem_replicate hb) (by simp), fun q => by omega, fun _ => ?_⟩
  have : zarr t = 3 := by
    unfold zarr
    rw [if_neg (by omega), if_neg (by omega), if_pos (by omega)]
  rw [this, if_neg (by decide), if_neg (by decide), List.length_replicate]
  exact hl
theorem zE_nR {Z : ZP} {A : AH} {t n : Nat} (h : 300 ≤ nx A) (ht : 24 ≤ t) : zE Z (nR A t (List.replicate n none)) = zE Z A ++ [(zrho Z (nx A), .inl (zpc Z t, n, .inr (.inr (.inr (.inr (fun _ => none))))))] := by
  have e : tg (nR A t (List.replicate n none)) (nx A) = t := by rw [tg_nR, if_pos rfl]
  have e2 : ra (nR A t (List.replicate n none)) (nx A) = List.replicate n none := by rw [ra_nR, if_pos rfl]
  refine zE_push h rfl (fun b hb hb2 => zeo_same (by rw [tg_nR, if_neg (by omega)]) (fun k => rfl) rfl rfl (by rw [ra_nR, if_neg (by omega)])) ?_
  rw [zeo_ref (by rw [e]; exact ht), e, e2, List.length_replicate]
  have : (fun j => Option.map (zrho Z) ((List.replicate n (none : Option Nat)).getD j none)) = fun _ => none := by
    funext j
    rw [List.getD_eq_getElem?_getD, List.getElem?_replicate]
    split <;> rfl
  rw [this]
/-- the new cell's address -/
theorem zq_new {Z : ZP} {A : AH} {q : Nat} {y : va_E} {H1 : Heap} (h : 300 ≤ nx A) (hP : va_P (zpD Z) zcl (zE Z A ++ [(q, y)]) H1) (hD : va_D (zA Z) (zE Z A ++ [(q, y)])) (hsz : H1.size ≤ zpb Z + (nx A - 300) + 1) : q = zrho Z (nx A) := by
  have hl : (zE Z A ++ [(q, y)])[nx A - 300]? = some (q, y) := by
    rw [List.getElem?_append_right (by rw [zE_len]; omega), zE_len, Nat.sub_self]; rfl
  have h1 : q < H1.size := (hP _ _ hl).lt
  have h2 : zpb Z ≤ q := hD.2 _ _ hl
  have h3 : ∀ i, i < nx A - 300 → zpb Z + i ≠ q := by
    intro i hi e
    have hg := zE_get (Z := Z) (A := A) (a := 300 + i) (by omega) (by omega)
    have hr : zrho Z (300 + i) = zpb Z + i := by unfold zrho; rw [if_neg (by omega)]; omega
    rw [hr, show 300 + i - 300 = i by omega] at hg
    have hg2 : (zE Z A ++ [(q, y)])[i]? = some (zpb Z + i, zeo Z A (300 + i)) := by
      rw [List.getElem?_append_left (by rw [zE_len]; exact hi)]; exact hg
    have := hD.1 _ _ _ _ hg2 hl e
    omega
  unfold zrho
  rw [if_neg (by omega)]
  by_cases e : q = zpb Z + (nx A - 300)
  · exact e
  · exact absurd (show zpb Z + (q - zpb Z) = q by omega) (h3 (q - zpb Z) (by omega))
section SIM
variable {Z : ZP} {p : Program} {l : Launch} {e : Env} {R : Room} {s : State} {m : MethodId} {args : Array Value} {below : List Frame} {meth : Method} {c : Code} {mi : Nat} {As : AH} {Q : State → Prop} {pc : Nat} {ls st : List ZV} {A : AH}
set_option maxHeartbeats 1000000 in
theorem g_new (F : zFr Z p s m args meth c mi As) (hm : nx As ≤ nx A) (hms : sl As ≤ sl A) {ix t : Nat} (hd : decode (zcb mi) pc = .ok (.new ix, 3)) (hf : zNT (zow mi) ix = some t) (hR : nx A + 1 - nx As ≤ R.cells) (hR2 : sl A + znf t - sl As ≤ R.slots) (kk : zG Z p l e R s m args below meth c mi As Q (pc + 3) ls (zO (some (nx A)) :: st) (nO A t)) : zG Z p l e R s m args below meth c mi As Q pc ls st A := by
  intro h1 h2 h3 rls H locs h4 h5 h6 h7
  obtain ⟨hx, hb, hml, hown, hts, hst, hSs, hpb, hsz, hnx, hin⟩ := F
  obtain ⟨t1, t2, hlk⟩ := zNTok_all hf
  obtain ⟨C, T, N, ty0, hc, hN, hins, hty, hnm, hkt, hfi, qi, qn⟩ := zTok_all _ t1 t2
  have hw1 := h3.1
  refine va_new (ci := t - 1) (fs := (List.range (znf t)).map (fun k => zev Z (if zfk t k = 3 then zN else zI 0))) hx hb hts hins ty0 hty hown (hts _ (hlk C T N hc)) (hts _ qi) (hts _ qn) hst.1 h6 zE_D h7 (fun q hq => by rw [hpb] at hq; exact hq) hc ?_ (by omega) (by rw [← hN]; omega) hd (fun q H1 hP hD hS => ?_)
  · intro j hj
    unfold vp_V
    rw [List.getD_eq_getElem?_getD, List.getElem?_map, List.getElem?_range (by rw [hN]; exact hj)]
    show defaultValue (ty0 j) = zev Z (if zfk t j = 3 then zN else zI 0)
    rcases hkt j hj with ⟨q, r⟩ | ⟨q, r⟩ | ⟨q, r⟩ | ⟨q, r⟩
    · rw [q, r]; rfl
    · rw [q, r]; rfl
    · rw [q, r]; rfl
    · rw [q, if_pos rfl]
      cases h9 : ty0 j <;> rw [h9] at r <;> first | rfl | cases r
  · refine zW_sz (fun z1 z2 => ?_)
    have hq := zq_new hw1 hP hD (by omega)
    subst hq
    rw [← zE_nO hw1 t2] at hP
    have hk := kk h1 (zall_c (v := zO (some (nx A))) trivial h2) (zWF_nO h3 t1 t2) rls H1 locs h4 h5 hP hS
    exact W.cs (by rw [nx_nO]; omega) (by rw [sl_nO, hN]; omega) hk
theorem zRA {t : Nat} (hst : zSt Z s) (h1 : 20 ≤ t) (h2 : t ≤ 29) {cA : ClassId} (hc : s.vm.findClass (zan t) = some cA) : cA = zpc Z t := by
  have hh : ∀ t, 20 ≤ t → t ≤ 29 → s.vm.findClass (zan t) = some (zpc Z t) := by
    intro t g1 g2
    match t, g1, g2 with
    | 20, _, _ => exact (hst.1.2 0 _ rfl).2
    | 21, _, _ => exact (hst.1.2 1 _ rfl).2
    | 22, _, _ => exact (hst.1.2 2 _ rfl).2
    | 23, _, _ => exact (hst.1.2 3 _ rfl).2
    | 24, _, _ => obtain ⟨_, _, _, _, _, h⟩ := (hst.1.2 4 _ rfl).2; exact h
    | 25, _, _ => obtain ⟨_, _, _, _, _, h⟩ := (hst.1.2 5 _ rfl).2; exact h
    | 26, _, _ => obtain ⟨_, _, _, _, _, h⟩ := (hst.1.2 6 _ rfl).2; exact h
    | 27, _, _ => obtain ⟨_, _, _, _, _, h⟩ := (hst.1.2 7 _ rfl).2; exact h
    | 28, _, _ => obtain ⟨_, _, _, _, _, h⟩ := (hst.1.2 8 _ rfl).2; exact h
    | 29, _, _ => exact (hst.1.2 9 _ rfl).2
    | n + 30, _, g2 => omega
  exact Option.some.inj (hc.symm.trans (hh t h1 h2))
end SIM
