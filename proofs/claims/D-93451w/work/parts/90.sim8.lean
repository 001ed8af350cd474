/-! SIMULATION, XI: arrays of arrays, the intrinsics but isBetween -/
set_option maxRecDepth 100000
theorem zoc_plain (c : ClassId) (N h0 : Nat) : ∀ i, (Jvm.Free.Multi.outerC c N h0 i).monitor = {} ∧ (Jvm.Free.Multi.outerC c N h0 i).hash = none
  | 0 => ⟨rfl, rfl⟩
  | i + 1 => by
    obtain ⟨a, b⟩ := zoc_plain c N h0 i
    exact ⟨by simp [Jvm.Free.Multi.outerC, Cell.setSlot, a], by simp [Jvm.Free.Multi.outerC, Cell.setSlot, b]⟩
theorem zoc_eq (c : ClassId) (N h0 : Nat) : Jvm.Free.Multi.outerC c N h0 N = arrV c N (fun j => .ref (h0 + 1 + j)) := by
  obtain ⟨a1, a2, a3⟩ := Jvm.Free.Multi.outerC_facts c N h0 N
  obtain ⟨b1, b2⟩ := zoc_plain c N h0 N
  have hs : (Jvm.Free.Multi.outerC c N h0 N).slots = Array.ofFn (n := N) fun j => Value.ref (h0 + 1 + j.val) := by
    apply Array.ext_getElem?
    intro i
    by_cases hi : i < N
    · rw [Jvm.Free.Multi.outerC_slot c N h0 N i hi, if_pos hi]
      simp [hi]
    · rw [Array.getElem?_eq_none (by rw [a3]; omega), Array.getElem?_eq_none (by simp; omega)]
  generalize Jvm.Free.Multi.outerC c N h0 N = o at a1 a2 b1 b2 hs
  obtain ⟨q1, q2, q3, q4, q5⟩ := o
  dsimp only at a1 a2 b1 b2 hs
  subst a1 a2 b1 b2 hs
  rfl
theorem zic_eq (c : ClassId) (M : Nat) : Jvm.Free.Multi.innerC c M (.int 0) = arrV c M (fun _ => .int 0) := by
  unfold Jvm.Free.Multi.innerC arrV
  congr 1
  apply Array.ext_getElem?
  intro i
  by_cases hi : i < M
  · simp [hi]
  · simp [hi]
section ACC
variable (A : AH) (t u n m : Nat)
theorem tg_nM (b : Nat) : tg (nM A t u n m) b = if b = nx A then t else if nx A < b ∧ b ≤ nx A + n then u else tg A b := rfl
theorem fd_nM (b j : Nat) : fd (nM A t u n m) b j = fd A b j := rfl
theorem ia_nM (b : Nat) : ia (nM A t u n m) b = if nx A < b ∧ b ≤ nx A + n then List.replicate m 0 else ia A b := rfl
theorem la_nM (b : Nat) : la (nM A t u n m) b = la A b := rfl
theorem ra_nM (b : Nat) : ra (nM A t u n m) b = if b = nx A then (List.range n).map (fun j => some (nx A + 1 + j)) else ra A b := rfl
theorem nx_nM : nx (nM A t u n m) = nx A + 1 + n := rfl
theorem sl_nM : sl (nM A t u n m) = sl A + n + n * m := rfl
theorem sg_nM (j : Nat) : sg (nM A t u n m) j = sg A j := rfl
end ACC
theorem zWF_nM {Z : ZP} {A : AH} {n m : Nat} (h : zWF Z A) (hn : n ≤ 1000) (hm : m ≤ 1000) : zWF Z (nM A 29 22 n m) := by
  obtain ⟨w1, w2, w3, w4, w5, w6, w7, w8, w9, w10, w11⟩ := h
  have told : ∀ b, b < nx A → tg (nM A 29 22 n m) b = tg A b := fun b hb => by rw [tg_nM, if_neg (by omega), if_neg (by omega)]
  have tin : ∀ b, nx A < b → b ≤ nx A + n → tg (nM A 29 22 n m) b = 22 := fun b h1 h2 => by rw [tg_nM, if_neg (by omega), if_pos ⟨h1, h2⟩]
  have tout : tg (nM A 29 22 n m) (nx A) = 29 := by rw [tg_nM, if_pos rfl]
  refine ⟨by rw [nx_nM]; omega, fun a ha => ?_, fun a h1 h2 => ?_, fun a ha => ?_, fun a h1 h2 => ?_, ?_, ?_, fun k hk => w8 k hk, fun j => w9 j, w10, w11⟩
  · rw [nx_nM] at ha
    rw [tg_nM, if_neg (by omega), if_neg (by omega)]; exact w2 a (by omega)
  · rw [nx_nM] at h2
    rcases Nat.lt_trichotomy a (nx A) with q | q | q
    · rw [told a q]; exact w3 a h1 q
    · rw [q, tout]; omega
    · rw [tin a q (by omega)]; omega
  · rw [told a (by omega)]; exact w4 a ha
  · rw [nx_nM] at h2
    rcases Nat.lt_trichotomy a (nx A) with q | q | q
    · obtain ⟨c1, c2, c3, c4, c5, c6, c7⟩ := w5 a h1 q
      unfold zcok zlen
      rw [told a q, ia_nM, if_neg (by omega), la_nM, ra_nM, if_neg (by omega)]
      refine ⟨c1, c2, c3, c4, fun g1 g2 b hb => ?_, c6, c7⟩
      have := c5 g1 g2 b hb
      have hb2 : b < nx A := by
        rcases Nat.lt_or_ge b (nx A) with z | z
        · exact z
        · rw [w2 b z, zel_0] at this
          cases this
      rw [told b hb2]; exact this
    · unfold zcok zlen
      rw [q, tout]
      refine ⟨fun z => by omega, fun z => by omega, fun z => by omega, fun z => by omega, fun z z2 => by omega, fun z => by omega, fun _ => ?_⟩
      rw [if_neg (by decide), if_neg (by decide), ra_nM, if_pos rfl]
      simp
      omega
    · unfold zcok zlen
      rw [tin a q (by omega), ia_nM, if_pos ⟨q, by omega⟩]
      refine ⟨fun z => by omega, fun z => by omega, fun _ x hx => Or.inl (List.eq_of_mem_replicate hx), fun z => by omega, fun z z2 => by omega, fun z => by omega, fun _ => ?_⟩
      rw [if_pos (by decide), List.length_replicate]
      omega
  · rw [ia_nM, if_neg (by omega)]; exact w6
  · rw [ra_nM, if_neg (by omega)]; exact w7
section SIM
variable {Z : ZP} {p : Program} {l : Launch} {e : Env} {R : Room} {s : State} {m : MethodId} {args : Array Value} {below : List Frame} {meth : Method} {c : Code} {mi : Nat} {As : AH} {Q : State → Prop} {pc : Nat} {ls st : List ZV} {A : AH}
theorem zHsz {H : Heap} (F : zFr Z p s m args meth c mi As) (hm : nx As ≤ nx A) (h3 : zWF Z A) (h6 : va_P (zpD Z) zcl (zE Z A) H) (z1 : s.heap.size ≤ H.size) (z2 : H.size ≤ s.heap.size + (nx A - nx As)) : H.size = zpb Z + (nx A - 300) := by
  obtain ⟨hx, hb, hml, hown, hts, hst, hSs, hpb, hsz, hnx, hin⟩ := F
  have hw := h3.1
  have up : H.size ≤ zpb Z + (nx A - 300) := by omega
  by_cases e : nx A = 300
  · omega
  · have he := zE_get (Z := Z) (A := A) (a := nx A - 1) (by omega) (by omega)
    have := (h6 _ _ he).lt
    have hr : zrho Z (nx A - 1) = zpb Z + (nx A - 1 - 300) := by unfold zrho; rw [if_neg (by omega)]
    dsimp only at this
    omega
set_option maxHeartbeats 2000000 in
theorem g_mnew (F : zFr Z p s m args meth c mi As) (hm : nx As ≤ nx A) (hms : sl As ≤ sl A) {ix : Nat} {k j : Int} (hd : decode (zcb mi) pc = .ok (.multianewarray ix 2, 4)) (hf : zNA (zow mi) ix = some 29) (h0 : 0 ≤ k) (hk1 : k ≤ 1000) (hj0 : 0 ≤ j) (hj1 : j ≤ 1000) (hR : nx A + 1 + j.toNat - nx As ≤ R.cells) (hR2 : sl A + j.toNat + j.toNat * k.toNat - sl As ≤ R.slots) (kk : zG Z p l e R s m args below meth c mi As Q (pc + 4) ls (zO (some (nx A)) :: st) (nM A 29 22 j.toNat k.toNat)) : zG Z p l e R s m args below meth c mi As Q pc ls (zI k :: zI j :: st) A := by
  intro h1 h2 h3 rls H locs h4 h5 h6 h7
  have F' := F
  obtain ⟨hx, hb, hml, hown, hts, hst, hSs, hpb, hsz, hnx, hin⟩ := F
  have hw1 := h3.1
  have hkr : zr32 k := zall_h h2
  have hjr : zr32 j := zall_h (zall_t h2)
  have hlk : Cond.classLink (znm (zow mi)) ix "[[Z" ∈ lw_all := by
    rcases zNAok_all hf with ⟨t1, t2, -⟩ | ⟨-, q⟩
    · omega
    · exact q
  intro T hT X
  obtain ⟨-, z1, z2, -⟩ := X.same
  have z1' : s.heap.size ≤ H.size := by rw [← hT]; exact z1
  have z2' : H.size ≤ s.heap.size + (nx A - nx As) := by rw [← hT]; exact z2
  have hHs := zHsz F' hm h3 h6 z1' z2'
  obtain ⟨vm₁, cA, comp, hW, hfA, hfC, hO, hI, X1, step⟩ := X.multianewarray2F hx (ty := .boolean) hown (hts _ hlk) (by have := hst.2.2.2.2.2.1; exact this) (hts _ q192) (g := F0 m pc rls ((zI k :: zI j :: st).map (zev Z))) rfl (by rw [hb]; exact hd) (n := Int32.ofInt j) (k := Int32.ofInt k) (rest := st.map (zev Z)) rfl (zo_nn hjr hj0) (zo_nn hkr h0) (by rw [zo_nat hjr hj0]; omega) (by rw [zo_nat hkr h0]; show k.toNat * 1 ≤ _; omega) (by rw [zo_nat hkr h0]; omega) (by decide) (by decide) (by rw [zo_nat hjr hj0]; omega) (by rw [zo_nat hjr hj0, zo_nat hkr h0]; omega)
  rw [zo_nat hjr hj0, zo_nat hkr h0] at X1 step
  have eA : cA = zpc Z 29 := zRA hst (by decide) (by decide) hfA
  have eC : comp = zpc Z 22 := zRA hst (by decide) (by decide) hfC
  subst eA eC
  have hTs : (T.setVm vm₁).heap.size = H.size := by rw [← hT]; rfl
  have hTh : (T.setVm vm₁).heap = H := hT
  obtain ⟨f1, f2, f3, f4⟩ := Jvm.Free.Multi.fill_facts (T.setVm vm₁) (zpc Z 29) (zpc Z 22) j.toNat k.toNat (defaultValue .boolean) j.toNat
  generalize hH1 : (Jvm.Free.Multi.fill (T.setVm vm₁) (zpc Z 29) (zpc Z 22) j.toNat k.toNat (defaultValue .boolean) j.toNat) = T1 at f1 f2 f3 f4 X1 step
  have hold : ∀ a, a < H.size → T1.heap[a]? = H[a]? := by
    intro a ha
    rw [← hH1, Jvm.Free.Multi.fill_old _ _ _ _ _ _ (by rw [hTs]; exact ha), hTh]
  have hinn : ∀ i, i < j.toNat → T1.heap[H.size + 1 + i]? = some (arrV (zpc Z 22) k.toNat (fun _ => .int 0)) := by
    intro i hi
    rw [← hH1, ← hTs, Jvm.Free.Multi.fill_inner _ _ _ _ _ _ _ _ hi]
    exact congrArg some (zic_eq _ _)
  rw [hTs, zoc_eq] at f2
  have hrn : zrho Z (nx A) = H.size := by unfold zrho; rw [if_neg (by omega), hHs]
  have hP1 : va_P (zpD Z) zcl (zE Z (nM A 29 22 j.toNat k.toNat)) T1.heap := by
    intro i q hq
    have hi : i < nx A + 1 + j.toNat - 300 := by
      have := (List.getElem?_eq_some_iff.mp hq).1
      rw [zE_len, nx_nM] at this
      exact this
    have hg := zE_get (Z := Z) (A := nM A 29 22 j.toNat k.toNat) (a := 300 + i) (by omega) (by rw [nx_nM]; omega)
    rw [show 300 + i - 300 = i by omega, hq] at hg
    cases hg
    have hri : zrho Z (300 + i) = zpb Z + i := by unfold zrho; rw [if_neg (by omega)]; omega
    rcases Nat.lt_trichotomy (300 + i) (nx A) with z | z | z
    · rw [zeo_same (Z := Z) (A := A) (B := nM A 29 22 j.toNat k.toNat) (b := 300 + i) (by rw [tg_nM, if_neg (by omega), if_neg (by omega)]) (fun _ => rfl) (by rw [ia_nM, if_neg (by omega)]) rfl (by rw [ra_nM, if_neg (by omega)])]
      have hg2 := zE_get (Z := Z) (A := A) (a := 300 + i) (by omega) z
      have hat := h6 _ _ hg2
      exact hat.kept (hold _ hat.lt)
    · have et : tg (nM A 29 22 j.toNat k.toNat) (300 + i) = 29 := by rw [tg_nM, if_pos z]
      have er : ra (nM A 29 22 j.toNat k.toNat) (300 + i) = (List.range j.toNat).map (fun j => some (nx A + 1 + j)) := by rw [ra_nM, if_pos z]
      rw [zeo_ref (by rw [et]; decide), et, er, z, hrn]
      show T1.heap[H.size]? = some (vp_cell _ (_, .inr (.inr (.inr (.inr _)))))
      rw [vp_cell_q, f2]
      congr 1
      rw [show ((List.range j.toNat).map (fun j => some (nx A + 1 + j))).length = j.toNat by simp]
      unfold arrV
      congr 1
      apply Array.ext_getElem?
      intro i2
      by_cases hi2 : i2 < j.toNat
      · simp only [Array.getElem?_ofFn, hi2, dif_pos]
        have e3 : ((List.range j.toNat).map (fun j => some (nx A + 1 + j))).getD i2 none = some (nx A + 1 + i2) := by
          rw [List.getD_eq_getElem?_getD, List.getElem?_map, List.getElem?_range hi2]; rfl
        rw [e3]
        have e4 : zrho Z (nx A + 1 + i2) = H.size + 1 + i2 := by unfold zrho; rw [if_neg (by omega), hHs]; omega
        show some (Value.ref (H.size + 1 + i2)) = some (Value.ref (zrho Z (nx A + 1 + i2)))
        rw [e4]
      · rw [Array.getElem?_eq_none (by simp; omega), Array.getElem?_eq_none (by simp; omega)]
    · have et : tg (nM A 29 22 j.toNat k.toNat) (300 + i) = 22 := by rw [tg_nM, if_neg (by omega), if_pos ⟨by omega, by omega⟩]
      have er : ia (nM A 29 22 j.toNat k.toNat) (300 + i) = List.replicate k.toNat 0 := by rw [ia_nM, if_pos ⟨by omega, by omega⟩]
      rw [zeo_int (by rw [et]; decide), et, er, hri]
      show T1.heap[zpb Z + i]? = some (vp_cell _ (_, .inl _))
      rw [vp_cell_i]
      have e5 : zpb Z + i = H.size + 1 + (300 + i - nx A - 1) := by omega
      rw [e5, hinn _ (by omega), List.length_replicate]
      congr 2
      funext x
      rw [zrep]
      rfl
  have hS1 : va_S (zA Z) (zpH Z) T1.heap locs := by
    refine ⟨by rw [f1, hTs]; have := h7.1; omega, fun q hq hn => ?_, h7.2.2⟩
    rw [hold q (by have := h7.1; omega)]
    exact h7.2.1 q hq hn
  have hk := kk h1 (zall_c (v := zO (some (nx A))) trivial (zall_t (zall_t h2))) (zWF_nM h3 (by omega) (by omega)) rls T1.heap locs h4 h5 hP1 hS1
  have hk2 := W.cs (cells := nx A - nx As + 1 + j.toNat) (slots := sl A - sl As + j.toNat + j.toNat * k.toNat) (by rw [nx_nM]; omega) (by rw [sl_nM]; omega) hk
  obtain ⟨t, a1, b1⟩ := hk2 T1 rfl X1
  refine ⟨t, step t ?_, b1⟩
  rw [List.map_cons, zev_R, hrn, ← hT] at a1
  exact a1
end SIM
