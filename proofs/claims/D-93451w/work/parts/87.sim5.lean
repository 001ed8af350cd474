/-! SIMULATION, VIII: arrays -/
set_option maxRecDepth 100000
theorem zgetD_set {α : Type} (l : List α) (i j : Nat) (x d : α) (hi : i < l.length) : (l.set i x).getD j d = if j = i then x else l.getD j d := by
  rw [List.getD_eq_getElem?_getD, List.getElem?_set, List.getD_eq_getElem?_getD]
  by_cases e : j = i
  · subst e
    rw [if_pos rfl, if_pos hi, if_pos rfl]
    rfl
  · rw [if_neg (Ne.symm e), if_neg e]
theorem zmem_set {α : Type} {l : List α} {i : Nat} {x : α} {P : α → Prop} (h : ∀ y ∈ l, P y) (hx : P x) : ∀ y ∈ l.set i x, P y := fun y hy => (List.mem_or_eq_of_mem_set hy).elim (h y) (fun e => by rw [e]; exact hx)
theorem ztys_at {Z : ZP} {t : Nat} (h1 : 20 ≤ t) (h2 : t ≤ 29) : ∃ ty, (ztys Z)[t - 20]? = some (zpc Z t, ty) := by
  match t, h1, h2 with
  | 20, _, _ => exact ⟨_, rfl⟩
  | 21, _, _ => exact ⟨_, rfl⟩
  | 22, _, _ => exact ⟨_, rfl⟩
  | 23, _, _ => exact ⟨_, rfl⟩
  | 24, _, _ => exact ⟨_, rfl⟩
  | 25, _, _ => exact ⟨_, rfl⟩
  | 26, _, _ => exact ⟨_, rfl⟩
  | 27, _, _ => exact ⟨_, rfl⟩
  | 28, _, _ => exact ⟨_, rfl⟩
  | 29, _, _ => exact ⟨_, rfl⟩
  | n + 30, _, h2 => omega
theorem zWF_pI {Z : ZP} {A : AH} {a : Nat} {l : List Int} (h : zWF Z A) (h1 : 300 ≤ a) (hl : l.length = (ia A a).length) (hv : (tg A a = 20 → ∀ x ∈ l, zr32 x) ∧ (tg A a = 21 → ∀ x ∈ l, -128 ≤ x ∧ x ≤ 127) ∧ (tg A a = 22 → ∀ x ∈ l, x = 0 ∨ x = 1)) : zWF Z (pI A a l) := by
  obtain ⟨w1, w2, w3, w4, w5, w6, w7, w8, w9, w10, w11⟩ := h
  refine ⟨w1, w2, w3, w4, fun b hb hb2 => ?_, ?_, w7, w8, w9, w10, w11⟩
  · obtain ⟨c1, c2, c3, c4, c5, c6, c7⟩ := w5 b hb hb2
    unfold zcok zlen
    simp only [tg_pI, ia_pI, la_pI, ra_pI, fd_pI]
    by_cases e : b = a
    · subst e
      rw [if_pos rfl]
      refine ⟨hv.1, hv.2.1, hv.2.2, c4, c5, c6, ?_⟩
      unfold zlen at c7
      rw [hl]
      exact c7
    · rw [if_neg e]
      exact ⟨c1, c2, c3, c4, c5, c6, c7⟩
  · rw [ia_pI, if_neg (by omega)]; exact w6
theorem zWF_pL {Z : ZP} {A : AH} {a : Nat} {l : List Int} (h : zWF Z A) (hl : l.length = (la A a).length) (hv : tg A a = 23 → ∀ x ∈ l, zr64 x) : zWF Z (pL A a l) := by
  obtain ⟨w1, w2, w3, w4, w5, w6, w7, w8, w9, w10, w11⟩ := h
  refine ⟨w1, w2, w3, w4, fun b hb hb2 => ?_, w6, w7, w8, w9, w10, w11⟩
  obtain ⟨c1, c2, c3, c4, c5, c6, c7⟩ := w5 b hb hb2
  unfold zcok zlen
  simp only [tg_pL, ia_pL, la_pL, ra_pL, fd_pL]
  by_cases e : b = a
  · subst e
    rw [if_pos rfl]
    refine ⟨c1, c2, c3, hv, c5, c6, ?_⟩
    unfold zlen at c7
    rw [hl]
    exact c7
  · rw [if_neg e]
    exact ⟨c1, c2, c3, c4, c5, c6, c7⟩
theorem zWF_pR {Z : ZP} {A : AH} {a : Nat} {l : List (Option Nat)} (h : zWF Z A) (h1 : 300 ≤ a) (hl : l.length = (ra A a).length) (hv : 24 ≤ tg A a → tg A a ≤ 28 → ∀ b, some b ∈ l → zel (tg A a) (tg A b) = true) : zWF Z (pR A a l) := by
  obtain ⟨w1, w2, w3, w4, w5, w6, w7, w8, w9, w10, w11⟩ := h
  refine ⟨w1, w2, w3, w4, fun b hb hb2 => ?_, w6, ?_, w8, w9, w10, w11⟩
  · obtain ⟨c1, c2, c3, c4, c5, c6, c7⟩ := w5 b hb hb2
    unfold zcok zlen
    simp only [tg_pR, ia_pR, la_pR, ra_pR, fd_pR]
    by_cases e : b = a
    · subst e
      rw [if_pos rfl]
      refine ⟨c1, c2, c3, c4, hv, c6, ?_⟩
      unfold zlen at c7
      rw [hl]
      exact c7
    · rw [if_neg e]
      exact ⟨c1, c2, c3, c4, c5, c6, c7⟩
  · rw [ra_pR, if_neg (by omega)]; exact w7
theorem zE_pI {Z : ZP} {A : AH} {a n : Nat} {l : List Int} {f : Nat → Int32} (h1 : 300 ≤ a) (h2 : a < nx A) (ht : tg A a = 20 ∨ tg A a = 21 ∨ tg A a = 22) (hn : l.length = n) (hf : ∀ j, Int32.ofInt (l.getD j 0) = f j) : zE Z (pI A a l) = (zE Z A).set (a - 300) (zrho Z a, .inl (zpc Z (tg A a), n, .inl f)) := by
  refine zE_set h1 h2 rfl (fun b hb hb2 hne => ?_) ?_
  · unfold zeo
    simp only [tg_pI, ia_pI, la_pI, ra_pI, fd_pI, if_neg hne]
    try rfl
  · rw [zeo_int (A := pI A a l) ht]
    simp only [tg_pI, ia_pI, if_true]
    rw [hn]
    rw [show (fun j => Int32.ofInt (l.getD j 0)) = f from funext hf]
theorem zE_pL {Z : ZP} {A : AH} {a n : Nat} {l : List Int} {f : Nat → Int64} (h1 : 300 ≤ a) (h2 : a < nx A) (ht : tg A a = 23) (hn : l.length = n) (hf : ∀ j, Int64.ofInt (l.getD j 0) = f j) : zE Z (pL A a l) = (zE Z A).set (a - 300) (zrho Z a, .inl (zpc Z (tg A a), n, .inr (.inl f))) := by
  refine zE_set h1 h2 rfl (fun b hb hb2 hne => ?_) ?_
  · unfold zeo
    simp only [tg_pL, ia_pL, la_pL, ra_pL, fd_pL, if_neg hne]
    try rfl
  · rw [zeo_lng (A := pL A a l) ht]
    simp only [tg_pL, la_pL, if_true]
    rw [hn]
    rw [show (fun j => Int64.ofInt (l.getD j 0)) = f from funext hf]
theorem zE_pR {Z : ZP} {A : AH} {a n : Nat} {l : List (Option Nat)} {f : Nat → Option Nat} (h1 : 300 ≤ a) (h2 : a < nx A) (ht : 24 ≤ tg A a) (hn : l.length = n) (hf : ∀ j, (l.getD j none).map (zrho Z) = f j) : zE Z (pR A a l) = (zE Z A).set (a - 300) (zrho Z a, .inl (zpc Z (tg A a), n, .inr (.inr (.inr (.inr f))))) := by
  refine zE_set h1 h2 rfl (fun b hb hb2 hne => ?_) ?_
  · unfold zeo
    simp only [tg_pR, ia_pR, la_pR, ra_pR, fd_pR, if_neg hne]
    try rfl
  · rw [zeo_ref (A := pR A a l) ht]
    simp only [tg_pR, ra_pR, if_true]
    rw [hn]
    rw [show (fun j => (l.getD j none).map (zrho Z)) = f from funext hf]
theorem zhb_r (x : Int) : -128 ≤ zhb x ∧ zhb x ≤ 127 := by
  unfold zhb
  have h1 := Int8.le_toInt (Int32.ofInt x).toInt8
  have h2 := Int8.toInt_lt (Int32.ofInt x).toInt8
  omega
section SIM
variable {Z : ZP} {p : Program} {l : Launch} {e : Env} {R : Room} {s : State} {m : MethodId} {args : Array Value} {below : List Frame} {meth : Method} {c : Code} {mi : Nat} {As : AH} {Q : State → Prop} {pc : Nat} {ls st : List ZV} {A : AH}
theorem g_iald (F : zFr Z p s m args meth c mi As) {a : Nat} {j : Int} (hd : decode (zcb mi) pc = .ok (.iaload, 1)) (ht : tg A a = 20) (h0 : 0 ≤ j) (hj : j.toNat < (ia A a).length) (kk : zG Z p l e R s m args below meth c mi As Q (pc + 1) ls (zI ((ia A a).getD j.toNat 0) :: st) A) : zG Z p l e R s m args below meth c mi As Q pc ls (zI j :: zO (some a) :: st) A := by
  intro h1 h2 h3 rls H locs h4 h5 h6 h7
  obtain ⟨hx, hb, hml, hown, hts, hst, hSs, hpb, hsz, hnx, hin⟩ := F
  have hr := h3.fresh (a := a) (by omega) (by omega)
  have he := zE_get (Z := Z) hr.1 hr.2
  rw [zeo_int (by omega), ht] at he
  have hok := h3.2.2.2.2.1 a hr.1 hr.2
  have hall : ∀ y ∈ ia A a, zr32 y := hok.1 ht
  have hjr : zr32 j := zall_h h2
  have hm : (ia A a).getD j.toNat 0 ∈ ia A a := by rw [List.getD_eq_getElem?_getD, List.getElem?_eq_getElem hj]; exact List.getElem_mem hj
  have hk := kk h1 (zall_c (v := zI ((ia A a).getD j.toNat 0)) (hall _ hm) (zall_t (zall_t h2))) h3 rls H locs h4 h5 h6 h7
  refine va_iald hx hb hst.1 h6 (a - 300) 0 he rfl (zo_in hjr h0 hj) hd ?_
  rw [zo_nat hjr h0]
  exact hk
theorem g_bald (F : zFr Z p s m args meth c mi As) {a : Nat} {j : Int} (hd : decode (zcb mi) pc = .ok (.baload, 1)) (ht : tg A a = 21) (h0 : 0 ≤ j) (hj : j.toNat < (ia A a).length) (kk : zG Z p l e R s m args below meth c mi As Q (pc + 1) ls (zI ((ia A a).getD j.toNat 0) :: st) A) : zG Z p l e R s m args below meth c mi As Q pc ls (zI j :: zO (some a) :: st) A := by
  intro h1 h2 h3 rls H locs h4 h5 h6 h7
  obtain ⟨hx, hb, hml, hown, hts, hst, hSs, hpb, hsz, hnx, hin⟩ := F
  have hr := h3.fresh (a := a) (by omega) (by omega)
  have he := zE_get (Z := Z) hr.1 hr.2
  rw [zeo_int (by omega), ht] at he
  have hok := h3.2.2.2.2.1 a hr.1 hr.2
  have hall : ∀ y ∈ ia A a, zr32 y := (fun y hy => by have := hok.2.1 ht y hy; unfold zr32; omega)
  have hjr : zr32 j := zall_h h2
  have hm : (ia A a).getD j.toNat 0 ∈ ia A a := by rw [List.getD_eq_getElem?_getD, List.getElem?_eq_getElem hj]; exact List.getElem_mem hj
  have hk := kk h1 (zall_c (v := zI ((ia A a).getD j.toNat 0)) (hall _ hm) (zall_t (zall_t h2))) h3 rls H locs h4 h5 h6 h7
  refine va_bald hx hb hst.1 h6 (a - 300) 1 he rfl (zo_in hjr h0 hj) hd ?_
  rw [zo_nat hjr h0]
  exact hk
theorem g_zald (F : zFr Z p s m args meth c mi As) {a : Nat} {j : Int} (hd : decode (zcb mi) pc = .ok (.baload, 1)) (ht : tg A a = 22) (h0 : 0 ≤ j) (hj : j.toNat < (ia A a).length) (kk : zG Z p l e R s m args below meth c mi As Q (pc + 1) ls (zI ((ia A a).getD j.toNat 0) :: st) A) : zG Z p l e R s m args below meth c mi As Q pc ls (zI j :: zO (some a) :: st) A := by
  intro h1 h2 h3 rls H locs h4 h5 h6 h7
  obtain ⟨hx, hb, hml, hown, hts, hst, hSs, hpb, hsz, hnx, hin⟩ := F
  have hr := h3.fresh (a := a) (by omega) (by omega)
  have he := zE_get (Z := Z) hr.1 hr.2
  rw [zeo_int (by omega), ht] at he
  have hok := h3.2.2.2.2.1 a hr.1 hr.2
  have hall : ∀ y ∈ ia A a, zr32 y := (fun y hy => by have := hok.2.2.1 ht y hy; unfold zr32; omega)
  have hjr : zr32 j := zall_h h2
  have hm : (ia A a).getD j.toNat 0 ∈ ia A a := by rw [List.getD_eq_getElem?_getD, List.getElem?_eq_getElem hj]; exact List.getElem_mem hj
  have hk := kk h1 (zall_c (v := zI ((ia A a).getD j.toNat 0)) (hall _ hm) (zall_t (zall_t h2))) h3 rls H locs h4 h5 h6 h7
  refine va_zald hx hb hst.1 h6 (a - 300) 2 he rfl (zo_in hjr h0 hj) hd ?_
  rw [zo_nat hjr h0]
  exact hk
theorem g_sald (F : zFr Z p s m args meth c mi As) {a : Nat} {j : Int} (hd : decode (zcb mi) pc = .ok (.iaload, 1)) (ht : tg A a = 30) (h0 : 0 ≤ j) (hj : j.toNat < (ia A a).length) (kk : zG Z p l e R s m args below meth c mi As Q (pc + 1) ls (zI ((ia A a).getD j.toNat 0) :: st) A) : zG Z p l e R s m args below meth c mi As Q pc ls (zI j :: zO (some a) :: st) A := by
  intro h1 h2 h3 rls H locs h4 h5 h6 h7
  obtain ⟨hx, hb, hml, hown, hts, hst, hSs, hpb, hsz, hnx, hin⟩ := F
  obtain rfl : a = 0 := by
    obtain ⟨-, w2, w3, w4, -⟩ := h3
    have ha : a < 300 := by
      rcases Nat.lt_or_ge a 300 with q | q
      · exact q
      · exfalso
        rcases Nat.lt_or_ge a (nx A) with q2 | q2
        · have := w3 a q q2; omega
        · have := w2 a q2; omega
    have hz := w4 a ha
    rw [ht] at hz
    unfold zot at hz
    split at hz
    · assumption
    · split at hz
      · omega
      · split at hz <;> omega
  have e0 : ia A 0 = zpx Z := h3.2.2.2.2.2.1
  rw [e0] at hj kk
  have hjr : zr32 j := zall_h h2
  have hm : (zpx Z).getD j.toNat 0 ∈ zpx Z := by rw [List.getD_eq_getElem?_getD, List.getElem?_eq_getElem hj]; exact List.getElem_mem hj
  have hk := kk h1 (zall_c (v := zI ((zpx Z).getD j.toNat 0)) (h3.2.2.2.2.2.2.2.2.2.1 _ hm) (zall_t (zall_t h2))) h3 rls H locs h4 h5 h6 h7
  obtain ⟨-, -, -, -, -, -, -, -, -, -, -, b3, b4, -⟩ := hst
  refine va_sld hx hb b3 (by rw [hpb]; exact b4) (Nat.not_le.mpr b4) h7 (zo_in hjr h0 hj) hd ?_
  rw [zo_nat hjr h0]
  exact hk
theorem g_lald (F : zFr Z p s m args meth c mi As) {a : Nat} {j : Int} (hd : decode (zcb mi) pc = .ok (.laload, 1)) (ht : tg A a = 23) (h0 : 0 ≤ j) (hj : j.toNat < (la A a).length) (kk : zG Z p l e R s m args below meth c mi As Q (pc + 1) ls (zL ((la A a).getD j.toNat 0) :: st) A) : zG Z p l e R s m args below meth c mi As Q pc ls (zI j :: zO (some a) :: st) A := by
  intro h1 h2 h3 rls H locs h4 h5 h6 h7
  obtain ⟨hx, hb, hml, hown, hts, hst, hSs, hpb, hsz, hnx, hin⟩ := F
  have hr := h3.fresh (a := a) (by omega) (by omega)
  have he := zE_get (Z := Z) hr.1 hr.2
  rw [zeo_lng ht, ht] at he
  have hok := h3.2.2.2.2.1 a hr.1 hr.2
  have hjr : zr32 j := zall_h h2
  have hm : (la A a).getD j.toNat 0 ∈ la A a := by rw [List.getD_eq_getElem?_getD, List.getElem?_eq_getElem hj]; exact List.getElem_mem hj
  have hk := kk h1 (zall_c (v := zL ((la A a).getD j.toNat 0)) (hok.2.2.2.1 ht _ hm) (zall_t (zall_t h2))) h3 rls H locs h4 h5 h6 h7
  refine va_lald hx hb hst.1 h6 (a - 300) 3 he rfl (zo_in hjr h0 hj) hd ?_
  rw [zo_nat hjr h0]
  exact hk
theorem g_aald (F : zFr Z p s m args meth c mi As) {a : Nat} {j : Int} (hd : decode (zcb mi) pc = .ok (.aaload, 1)) (ht : zarr (tg A a) = 3) (h0 : 0 ≤ j) (hj : j.toNat < (ra A a).length) (kk : zG Z p l e R s m args below meth c mi As Q (pc + 1) ls (zO ((ra A a).getD j.toNat none) :: st) A) : zG Z p l e R s m args below meth c mi As Q pc ls (zI j :: zO (some a) :: st) A := by
  have F' := F
  intro h1 h2 h3 rls H locs h4 h5 h6 h7
  obtain ⟨hx, hb, hml, hown, hts, hst, hSs, hpb, hsz, hnx, hin⟩ := F
  have ht2 : (24 ≤ tg A a ∧ tg A a ≤ 29) ∨ tg A a = 31 := by
    unfold zarr at ht
    split at ht
    · cases ht
    · split at ht
      · cases ht
      · split at ht
        · assumption
        · cases ht
  have hjr : zr32 j := zall_h h2
  have hk := kk h1 (zall_c (v := zO ((ra A a).getD j.toNat none)) trivial (zall_t (zall_t h2))) h3 rls H locs h4 h5 h6 h7
  rw [List.map_cons, zev_O] at hk
  rcases ht2 with ⟨q1, q2⟩ | q
  · have hr := h3.fresh (a := a) (by omega) q2
    have he := zE_get (Z := Z) hr.1 hr.2
    rw [zeo_ref q1] at he
    have hcell : H[zrho Z a]? = some (vp_cell (zpc Z (tg A a)) ((ra A a).length, .inr (.inr (.inr (.inr (fun j => ((ra A a).getD j none).map (zrho Z))))))) := h6 _ _ he
    obtain ⟨ty, hty⟩ := ztys_at (Z := Z) (t := tg A a) (by omega) q2
    have hisr : ty.isReference = true := by
      have hh : ∀ t, 24 ≤ t → t ≤ 29 → ∀ ty, (ztys Z)[t - 20]? = some (zpc Z t, ty) → ty.isReference = true := by
        intro t g1 g2 ty g3
        match t, g1, g2, g3 with
        | 24, _, _, g3 => cases g3; rfl
        | 25, _, _, g3 => cases g3; rfl
        | 26, _, _, g3 => cases g3; rfl
        | 27, _, _, g3 => cases g3; rfl
        | 28, _, _, g3 => cases g3; rfl
        | 29, _, _, g3 => cases g3; rfl
        | n + 30, _, g2, _ => omega
      exact hh _ q1 q2 _ hty
    refine W.aald hx hb hcell ((hst.1.2 _ _ hty).1 _ _) hisr (fun z => by cases z) (v := va_rf (((ra A a).getD j.toNat none).map (zrho Z))) ?_ ?_ rfl rfl hd hk
    · show ¬ (Int32.ofInt j < 0 ∨ (arrV _ _ _).slots.size ≤ _)
      rw [arrV_size]
      exact zo_in hjr h0 hj
    · show (arrV _ _ _).slots[_]? = _
      rw [zo_nat hjr h0, arrV_read _ _ hj]
  · obtain rfl : a = 1 := by
      obtain ⟨-, w2, w3, w4, -⟩ := h3
      have ha : a < 300 := by
        rcases Nat.lt_or_ge a 300 with q | q
        · exact q
        · exfalso
          rcases Nat.lt_or_ge a (nx A) with q2 | q2
          · have := w3 a q q2; omega
          · have := w2 a q2; omega
      have hz := w4 a ha
      rw [q] at hz
      unfold zot at hz
      split at hz
      · omega
      · split at hz
        · assumption
        · split at hz <;> omega
    have e1 : ra A 1 = (List.range 256).map (fun k => some (40 + k)) := h3.2.2.2.2.2.2.1
    rw [e1] at hj hk
    obtain ⟨-, -, -, -, -, -, -, -, -, b1, -⟩ := hst
    have hj2 : j.toNat < 256 := by simpa using hj
    refine zW_sz (fun z1 z2 => ?_)
    refine vb_tq hx hb (b1.kept (fun q hq hn => hSs.2.1 q hq hn)) (zS_s F' z1 h7) (zo_in hjr h0 hj2) (v := .ref (zrho Z (40 + j.toNat))) (by rw [zo_nat hjr h0]) hd ?_
    rw [show ((List.range 256).map (fun k => some (40 + k))).getD j.toNat none = some (40 + j.toNat) by rw [List.getD_eq_getElem?_getD, List.getElem?_map, List.getElem?_range hj2]; rfl] at hk
    exact hk
theorem g_iast (F : zFr Z p s m args meth c mi As) {a : Nat} {j : Int} {x : Int} (hd : decode (zcb mi) pc = .ok (.iastore, 1)) (ht : tg A a = 20) (h0 : 0 ≤ j) (hj : j.toNat < (ia A a).length) (kk : zG Z p l e R s m args below meth c mi As Q (pc + 1) ls st (pI A a ((ia A a).set j.toNat (x)))) : zG Z p l e R s m args below meth c mi As Q pc ls (zI x :: zI j :: zO (some a) :: st) A := by
  intro h1 h2 h3 rls H locs h4 h5 h6 h7
  obtain ⟨hx, hb, hml, hown, hts, hst, hSs, hpb, hsz, hnx, hin⟩ := F
  have hr := h3.fresh (a := a) (by omega) (by omega)
  have he := zE_get (Z := Z) hr.1 hr.2
  rw [zeo_int (by omega)] at he
  have hok := h3.2.2.2.2.1 a hr.1 hr.2
  have hjr : zr32 j := zall_h (zall_t h2)
  have hwf : zWF Z (pI A a ((ia A a).set j.toNat (x))) := zWF_pI h3 hr.1 (by rw [List.length_set]) ⟨fun _ => zmem_set (hok.1 ht) (zall_h h2), fun q => by omega, fun q => by omega⟩
  have veq : Int32.ofInt x = Int32.ofInt (x) := rfl
  have hE := zE_pI (Z := Z) (A := A) (a := a) (n := (ia A a).length) (l := (ia A a).set j.toNat (x)) (f := upd (fun j => Int32.ofInt ((ia A a).getD j 0)) j.toNat (Int32.ofInt x)) hr.1 hr.2 (by omega) (by rw [List.length_set]) (fun i => by
    rw [zgetD_set _ _ _ _ _ hj]
    unfold upd
    split
    · rw [veq]
    · rfl)
  refine va_iast hx hb hst.1 h6 zE_D h7 (a - 300) 0 he (by rw [ht]; rfl) (zo_in hjr h0 hj) hd (fun H1 locs1 hP hD hS => ?_)
  rw [zo_nat hjr h0, ← hE] at hP
  exact kk h1 (zall_t (zall_t (zall_t h2))) hwf rls H1 locs1 h4 h5 hP hS
theorem g_bast (F : zFr Z p s m args meth c mi As) {a : Nat} {j : Int} {x : Int} (hd : decode (zcb mi) pc = .ok (.bastore, 1)) (ht : tg A a = 21) (h0 : 0 ≤ j) (hj : j.toNat < (ia A a).length) (kk : zG Z p l e R s m args below meth c mi As Q (pc + 1) ls st (pI A a ((ia A a).set j.toNat (zhb x)))) : zG Z p l e R s m args below meth c mi As Q pc ls (zI x :: zI j :: zO (some a) :: st) A := by
  intro h1 h2 h3 rls H locs h4 h5 h6 h7
  obtain ⟨hx, hb, hml, hown, hts, hst, hSs, hpb, hsz, hnx, hin⟩ := F
  have hr := h3.fresh (a := a) (by omega) (by omega)
  have he := zE_get (Z := Z) hr.1 hr.2
  rw [zeo_int (by omega)] at he
  have hok := h3.2.2.2.2.1 a hr.1 hr.2
  have hjr : zr32 j := zall_h (zall_t h2)
  have hwf : zWF Z (pI A a ((ia A a).set j.toNat (zhb x))) := zWF_pI h3 hr.1 (by rw [List.length_set]) ⟨fun q => by omega, fun _ => zmem_set (hok.2.1 ht) (zhb_r x), fun q => by omega⟩
  have veq : vp_nar .byte (Int32.ofInt x) = Int32.ofInt (zhb x) := by rw [vp_nar_byte, zo_hb]
  have hE := zE_pI (Z := Z) (A := A) (a := a) (n := (ia A a).length) (l := (ia A a).set j.toNat (zhb x)) (f := upd (fun j => Int32.ofInt ((ia A a).getD j 0)) j.toNat (vp_nar .byte (Int32.ofInt x))) hr.1 hr.2 (by omega) (by rw [List.length_set]) (fun i => by
    rw [zgetD_set _ _ _ _ _ hj]
    unfold upd
    split
    · rw [veq]
    · rfl)
  refine va_bast hx hb hst.1 h6 zE_D h7 (a - 300) 1 he (by rw [ht]; rfl) (zo_in hjr h0 hj) hd (fun H1 locs1 hP hD hS => ?_)
  rw [zo_nat hjr h0, ← hE] at hP
  exact kk h1 (zall_t (zall_t (zall_t h2))) hwf rls H1 locs1 h4 h5 hP hS
theorem g_zast (F : zFr Z p s m args meth c mi As) {a : Nat} {j : Int} {x : Int} (hd : decode (zcb mi) pc = .ok (.bastore, 1)) (ht : tg A a = 22) (hx01 : x = 0 ∨ x = 1) (h0 : 0 ≤ j) (hj : j.toNat < (ia A a).length) (kk : zG Z p l e R s m args below meth c mi As Q (pc + 1) ls st (pI A a ((ia A a).set j.toNat (x)))) : zG Z p l e R s m args below meth c mi As Q pc ls (zI x :: zI j :: zO (some a) :: st) A := by
  intro h1 h2 h3 rls H locs h4 h5 h6 h7
  obtain ⟨hx, hb, hml, hown, hts, hst, hSs, hpb, hsz, hnx, hin⟩ := F
  have hr := h3.fresh (a := a) (by omega) (by omega)
  have he := zE_get (Z := Z) hr.1 hr.2
  rw [zeo_int (by omega)] at he
  have hok := h3.2.2.2.2.1 a hr.1 hr.2
  have hjr : zr32 j := zall_h (zall_t h2)
  have hwf : zWF Z (pI A a ((ia A a).set j.toNat (x))) := zWF_pI h3 hr.1 (by rw [List.length_set]) ⟨fun q => by omega, fun q => by omega, fun _ => zmem_set (hok.2.2.1 ht) hx01⟩
  have veq : vp_nar .boolean (Int32.ofInt x) = Int32.ofInt (x) := by rcases hx01 with rfl | rfl <;> decide
  have hE := zE_pI (Z := Z) (A := A) (a := a) (n := (ia A a).length) (l := (ia A a).set j.toNat (x)) (f := upd (fun j => Int32.ofInt ((ia A a).getD j 0)) j.toNat (vp_nar .boolean (Int32.ofInt x))) hr.1 hr.2 (by omega) (by rw [List.length_set]) (fun i => by
    rw [zgetD_set _ _ _ _ _ hj]
    unfold upd
    split
    · rw [veq]
    · rfl)
  refine va_zast hx hb hst.1 h6 zE_D h7 (a - 300) 2 he (by rw [ht]; rfl) (zo_in hjr h0 hj) hd (fun H1 locs1 hP hD hS => ?_)
  rw [zo_nat hjr h0, ← hE] at hP
  exact kk h1 (zall_t (zall_t (zall_t h2))) hwf rls H1 locs1 h4 h5 hP hS
theorem g_last (F : zFr Z p s m args meth c mi As) {a : Nat} {j : Int} {x : Int} (hd : decode (zcb mi) pc = .ok (.lastore, 1)) (ht : tg A a = 23) (h0 : 0 ≤ j) (hj : j.toNat < (la A a).length) (kk : zG Z p l e R s m args below meth c mi As Q (pc + 1) ls st (pL A a ((la A a).set j.toNat x))) : zG Z p l e R s m args below meth c mi As Q pc ls (zL x :: zI j :: zO (some a) :: st) A := by
  intro h1 h2 h3 rls H locs h4 h5 h6 h7
  obtain ⟨hx, hb, hml, hown, hts, hst, hSs, hpb, hsz, hnx, hin⟩ := F
  have hr := h3.fresh (a := a) (by omega) (by omega)
  have he := zE_get (Z := Z) hr.1 hr.2
  rw [zeo_lng ht] at he
  have hok := h3.2.2.2.2.1 a hr.1 hr.2
  have hjr : zr32 j := zall_h (zall_t h2)
  have hwf : zWF Z (pL A a ((la A a).set j.toNat x)) := zWF_pL h3 (by rw [List.length_set]) (fun _ => zmem_set (hok.2.2.2.1 ht) (zall_h h2))
  have hE := zE_pL (Z := Z) (A := A) (a := a) (n := (la A a).length) (l := (la A a).set j.toNat x) (f := vp_updL (fun j => Int64.ofInt ((la A a).getD j 0)) j.toNat (Int64.ofInt x)) hr.1 hr.2 ht (by rw [List.length_set]) (fun i => by
    rw [zgetD_set _ _ _ _ _ hj]
    unfold vp_updL
    split <;> rfl)
  refine va_last hx hb hst.1 h6 zE_D h7 (a - 300) 3 he (by rw [ht]; rfl) (zo_in hjr h0 hj) hd (fun H1 locs1 hP hD hS => ?_)
  rw [zo_nat hjr h0, ← hE] at hP
  exact kk h1 (zall_t (zall_t (zall_t h2))) hwf rls H1 locs1 h4 h5 hP hS
theorem g_aast (F : zFr Z p s m args meth c mi As) {a : Nat} {j : Int} {v : Option Nat} (hd : decode (zcb mi) pc = .ok (.aastore, 1)) (ht : 24 ≤ tg A a) (ht2 : tg A a ≤ 28) (h0 : 0 ≤ j) (hj : j.toNat < (ra A a).length) (hv : ∀ b, v = some b → zel (tg A a) (tg A b) = true) (kk : zG Z p l e R s m args below meth c mi As Q (pc + 1) ls st (pR A a ((ra A a).set j.toNat v))) : zG Z p l e R s m args below meth c mi As Q pc ls (zO v :: zI j :: zO (some a) :: st) A := by
  intro h1 h2 h3 rls H locs h4 h5 h6 h7
  obtain ⟨hx, hb, hml, hown, hts, hst, hSs, hpb, hsz, hnx, hin⟩ := F
  have hr := h3.fresh (a := a) (by omega) (by omega)
  have he := zE_get (Z := Z) hr.1 hr.2
  rw [zeo_ref ht] at he
  have hok := h3.2.2.2.2.1 a hr.1 hr.2
  have hjr : zr32 j := zall_h (zall_t h2)
  have hwf : zWF Z (pR A a ((ra A a).set j.toNat v)) := zWF_pR h3 hr.1 (by rw [List.length_set]) (fun g1 g2 b hb => by
    rcases List.mem_or_eq_of_mem_set hb with q | q
    · exact hok.2.2.2.2.1 g1 g2 b q
    · exact hv b q.symm)
  have hE := zE_pR (Z := Z) (A := A) (a := a) (n := (ra A a).length) (l := (ra A a).set j.toNat v) (f := va_up (fun j => ((ra A a).getD j none).map (zrho Z)) j.toNat (v.map (zrho Z))) hr.1 hr.2 ht (by rw [List.length_set]) (fun i => by
    rw [zgetD_set _ _ _ _ _ hj]
    unfold va_up
    split <;> rfl)
  have cont : ∀ (H1 : Heap) (locs1 : List Loc), va_P (zpD Z) zcl ((zE Z A).set (a - 300) (zrho Z a, .inl (zpc Z (tg A a), (ra A a).length, .inr (.inr (.inr (.inr (va_up (fun j => ((ra A a).getD j none).map (zrho Z)) (Int32.ofInt j).toNatClampNeg (v.map (zrho Z))))))))) H1 → va_S (zA Z) (zpH Z) H1 locs1 → W p l e R s m args below meth c H1 locs1 (nx A - nx As) (sl A - sl As) Q (F0 m (pc + 1) rls (st.map (zev Z))) := by
    intro H1 locs1 hP hS
    rw [zo_nat hjr h0, ← hE] at hP
    exact kk h1 (zall_t (zall_t (zall_t h2))) hwf rls H1 locs1 h4 h5 hP hS
  have hcls : ∀ t, 24 ≤ t → t ≤ 28 → ∀ u, zel t u = true → 1 ≤ u ∧ u ≤ 16 ∧ (∃ r : vw_C, zcl[u - 1]? = some r ∧ ((ztys Z)[t - 20]? = some (zpc Z t, .object r.1) ∨ (t = 28 ∧ (r.1, "java/lang/Object") ∈ zNwC))) := by
    intro t g1 g2 u g3
    match t, g1, g2, g3 with
    | 24, _, _, g3 => obtain rfl : u = 6 := by simpa [zel] using g3
                      exact ⟨by decide, by decide, _, rfl, Or.inl rfl⟩
    | 25, _, _, g3 => obtain rfl : u = 4 := by simpa [zel] using g3
                      exact ⟨by decide, by decide, _, rfl, Or.inl rfl⟩
    | 26, _, _, g3 => obtain rfl : u = 7 := by simpa [zel] using g3
                      exact ⟨by decide, by decide, _, rfl, Or.inl rfl⟩
    | 27, _, _, g3 => obtain rfl : u = 3 := by simpa [zel] using g3
                      exact ⟨by decide, by decide, _, rfl, Or.inl rfl⟩
    | 28, _, _, g3 => obtain rfl : u = 4 := by simpa [zel] using g3
                      exact ⟨by decide, by decide, _, rfl, Or.inr ⟨rfl, List.mem_of_getElem? (i := 4) rfl⟩⟩
    | n + 29, _, g2, _ => omega
  cases v with
  | none =>
    have hC : ∃ C, (ztys Z)[tg A a - 20]? = some (zpc Z (tg A a), .object C) := by
      have hh : ∀ t, 24 ≤ t → t ≤ 28 → ∃ C, (ztys Z)[t - 20]? = some (zpc Z t, .object C) := by
        intro t g1 g2
        match t, g1, g2 with
        | 24, _, _ => exact ⟨_, rfl⟩
        | 25, _, _ => exact ⟨_, rfl⟩
        | 26, _, _ => exact ⟨_, rfl⟩
        | 27, _, _ => exact ⟨_, rfl⟩
        | 28, _, _ => exact ⟨_, rfl⟩
        | n + 29, _, g2 => omega
      exact hh _ ht ht2
    obtain ⟨C, hC⟩ := hC
    exact va_astqN hx hb hst.1 h6 zE_D h7 (a - 300) (tg A a - 20) he hC (zo_in hjr h0 hj) hd (fun H1 locs1 hP hD hS => cont H1 locs1 hP hS)
  | some b =>
    obtain ⟨u1, u2, r, hr2, hty⟩ := hcls _ ht ht2 _ (hv b rfl)
    have hrb := h3.fresh (a := b) u1 (by omega)
    have heb := zE_get (Z := Z) hrb.1 hrb.2
    rw [zeo_obj u2] at heb
    rcases hty with hty | ⟨q28, hcast⟩
    · exact va_astq hx hb hst.1 h6 zE_D h7 (a - 300) (tg A a - 20) (b - 300) (tg A b - 1) he hty heb hr2 (zo_in hjr h0 hj) hd (fun H1 locs1 hP hD hS => cont H1 locs1 hP hS)
    · exact va_astqO (E := "java/lang/Object") hx hb hst.1 h6 zE_D h7 (a - 300) (tg A a - 20) (b - 300) (tg A b - 1) he (by rw [q28]; rfl) (hst.2.2.2.1 _ hcast) heb hr2 (zo_in hjr h0 hj) hd (fun H1 locs1 hP hD hS => cont H1 locs1 hP hS)
end SIM
