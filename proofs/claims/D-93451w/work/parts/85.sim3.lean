/-! SIMULATION, VI: fields -/
set_option maxRecDepth 100000
def zFr (Z : ZP) (p : Program) (s : State) (m : MethodId) (args : Array Value) (meth : Method) (c : Code) (mi : Nat) (As : AH) : Prop :=
  p.tables.exec = Jvm.exec ∧ c.code = zcb mi ∧ c.maxLocals = zml mi ∧ s.vm.findClass (znm (zow mi)) = some m.cls ∧ (∀ w ∈ lw_all, w.before args s = true) ∧ zSt Z s ∧ va_S (zA Z) (zpH Z) s.heap [] ∧ (zpH Z).size = zpb Z ∧ s.heap.size = zpb Z + (nx As - 300) ∧ 300 ≤ nx As ∧ (zini.contains mi = true → meth.name = "<init>")
theorem zfok_sok {k : Nat} {v : ZV} (h : zfok k v) : zsok v := by
  rcases v with x | x | x | x
  · rcases h with ⟨-, h⟩ | ⟨-, h⟩ | ⟨-, h⟩
    · exact h
    · show zr32 x
      unfold zr32; omega
    · show zr32 x
      unfold zr32; omega
  · exact h.elim
  · trivial
  · exact h.elim
theorem zfit_fok {k : Nat} {v : ZV} (h : zfit k v = true) (hs : zsok v) : zfok k v := by
  rcases v with x | x | x | x
  · unfold zfit at h
    dsimp only at h
    split at h
    · exact Or.inl ⟨by assumption, hs⟩
    · split at h
      · simp only [Bool.or_eq_true, beq_iff_eq] at h
        exact Or.inr (Or.inl ⟨by assumption, h⟩)
      · split at h
        · simp only [Bool.and_eq_true, decide_eq_true_eq] at h
          exact Or.inr (Or.inr ⟨by assumption, h⟩)
        · cases h
  · cases h
  · show k = 3
    simpa [zfit] using h
  · cases h
theorem zfit_real {Z : ZP} {k : Nat} {ty : FieldType} {v : ZV} (hk : zkty k ty) (h : zfok k v) : narrow ty (zev Z v) = zev Z v ∧ fits ty (zev Z v) = true := by
  rcases v with x | x | x | x
  · rcases hk with ⟨rfl, rfl⟩ | ⟨rfl, rfl⟩ | ⟨rfl, rfl⟩ | ⟨rfl, -⟩
    · exact ⟨rfl, rfl⟩
    · rcases h with ⟨h, -⟩ | ⟨-, h⟩ | ⟨h, -⟩
      · cases h
      · rcases h with rfl | rfl
        · exact ⟨show narrow .boolean (.int (Int32.ofInt 0)) = .int (Int32.ofInt 0) by decide, show fits .boolean (.int (Int32.ofInt 0)) = true by decide⟩
        · exact ⟨show narrow .boolean (.int (Int32.ofInt 1)) = .int (Int32.ofInt 1) by decide, show fits .boolean (.int (Int32.ofInt 1)) = true by decide⟩
      · cases h
    · rcases h with ⟨h, -⟩ | ⟨h, -⟩ | ⟨-, h1, h2⟩
      · cases h
      · cases h
      · have e : (Int32.ofInt x).toInt8.toInt32 = Int32.ofInt x := by
          apply Int32.toInt_inj.mp
          have hx : zr32 x := by unfold zr32; omega
          rw [Int8.toInt_toInt32, Int32.toInt_toInt8, zr32_of hx, Int.bmod_eq_of_le (by omega) (by omega)]
        have n : narrow .byte (.int (Int32.ofInt x)) = .int (Int32.ofInt x) := by
          show Value.int ((Int32.ofInt x).toInt8.toInt32) = _
          rw [e]
        exact ⟨n, by rw [show zev Z (Sum.inl x) = .int (Int32.ofInt x) from rfl]; rw [← e]; exact pk_fb _⟩
    · rcases h with ⟨h, -⟩ | ⟨h, -⟩ | ⟨h, -⟩ <;> cases h
  · exact h.elim
  · have h3 : k = 3 := h
    subst h3
    rcases hk with ⟨h, -⟩ | ⟨h, -⟩ | ⟨h, -⟩ | ⟨-, hr⟩
    · cases h
    · cases h
    · cases h
    · cases ty <;> first | (cases hr; done) | (cases x <;> exact ⟨rfl, rfl⟩)
  · exact h.elim
theorem zeo_obj {Z : ZP} {A : AH} {a : Nat} (h : tg A a ≤ 16) : zeo Z A a = .inr (tg A a - 1, (List.range (znf (tg A a))).map (fun k => zev Z (fd A a k))) := by
  unfold zeo
  rw [if_neg (by omega), if_neg (by omega), if_neg (by omega)]
theorem zeo_int {Z : ZP} {A : AH} {a : Nat} (h : tg A a = 20 ∨ tg A a = 21 ∨ tg A a = 22) : zeo Z A a = .inl (zpc Z (tg A a), (ia A a).length, .inl (fun j => Int32.ofInt ((ia A a).getD j 0))) := by
  unfold zeo
  rw [if_pos h]
theorem zeo_lng {Z : ZP} {A : AH} {a : Nat} (h : tg A a = 23) : zeo Z A a = .inl (zpc Z (tg A a), (la A a).length, .inr (.inl (fun j => Int64.ofInt ((la A a).getD j 0)))) := by
  unfold zeo
  rw [if_neg (by omega), if_pos h]
theorem zeo_ref {Z : ZP} {A : AH} {a : Nat} (h : 24 ≤ tg A a) : zeo Z A a = .inl (zpc Z (tg A a), (ra A a).length, .inr (.inr (.inr (.inr (fun j => ((ra A a).getD j none).map (zrho Z)))))) := by
  unfold zeo
  rw [if_neg (by omega), if_neg (by omega), if_pos h]
theorem zWF_pF {Z : ZP} {A : AH} {a k : Nat} {v : ZV} (h : zWF Z A) (h1 : 300 ≤ a) (hv : tg A a ≤ 16 → zfok (zfk (tg A a) k) v) : zWF Z (pF A a k v) := by
  obtain ⟨w1, w2, w3, w4, w5, w6, w7, w8, w9, w10, w11⟩ := h
  refine ⟨w1, w2, w3, w4, fun b hb hb2 => ?_, w6, w7, fun j hj => ?_, w9, w10, w11⟩
  · obtain ⟨c1, c2, c3, c4, c5, c6, c7⟩ := w5 b hb hb2
    refine ⟨c1, c2, c3, c4, c5, fun ht j hj => ?_, c7⟩
    rw [fd_pF]
    by_cases e : b = a ∧ j = k
    · rw [if_pos e]
      obtain ⟨rfl, rfl⟩ := e
      exact hv ht
    · rw [if_neg e]
      exact c6 ht j hj
  · rw [fd_pF, if_neg (by omega)]
    exact w8 j hj
theorem zE_pF {Z : ZP} {A : AH} {a k : Nat} {v : ZV} (h1 : 300 ≤ a) (h2 : a < nx A) (ht : tg A a ≤ 16) (hk : k < znf (tg A a)) : zE Z (pF A a k v) = (zE Z A).set (a - 300) (zrho Z a, .inr (tg A a - 1, ((List.range (znf (tg A a))).map (fun k => zev Z (fd A a k))).set k (zev Z v))) := by
  refine zE_set h1 h2 rfl (fun b hb hb2 hne => ?_) ?_
  · unfold zeo
    simp only [tg_pF, ia_pF, la_pF, ra_pF, fd_pF, hne, false_and, if_false]
  · rw [zeo_obj (show tg (pF A a k v) a ≤ 16 from ht)]
    simp only [tg_pF, fd_pF, true_and]
    congr 2
    apply List.ext_getElem?
    intro i
    rw [List.getElem?_set, List.getElem?_map, List.getElem?_map]
    by_cases hi : i < znf (tg A a)
    · rw [List.getElem?_range hi]
      simp only [Option.map_some]
      by_cases e : k = i
      · subst e
        simp [hi]
      · rw [if_neg (Ne.symm e), if_neg e]
    · rw [List.getElem?_eq_none (by simp; omega)]
      simp only [Option.map_none]
      split
      · simp; omega
      · rfl
section SIM
variable {Z : ZP} {p : Program} {l : Launch} {e : Env} {R : Room} {s : State} {m : MethodId} {args : Array Value} {below : List Frame} {meth : Method} {c : Code} {mi : Nat} {As : AH} {Q : State → Prop} {pc : Nat} {ls st : List ZV} {A : AH}
theorem zW_sz {H : Heap} {locs : List Loc} {cells slots : Nat} {g : JFrame} (k : s.heap.size ≤ H.size → H.size ≤ s.heap.size + cells → W p l e R s m args below meth c H locs cells slots Q g) : W p l e R s m args below meth c H locs cells slots Q g := by
  intro T hT X
  obtain ⟨-, h2, h3, -⟩ := X.same
  exact k (by rw [← hT]; exact h2) (by rw [← hT]; exact h3) T hT X
theorem zS_s {H : Heap} {locs : List Loc} (F : zFr Z p s m args meth c mi As) (hs : s.heap.size ≤ H.size) (h7 : va_S (zA Z) (zpH Z) H locs) : va_S (zA Z) s.heap H locs := by
  obtain ⟨-, -, -, -, -, -, hSs, hpb, -⟩ := F
  refine ⟨hs, fun q hq hn => ?_, h7.2.2⟩
  have hq2 : q < (zpH Z).size := by rw [hpb]; exact Nat.lt_of_not_le hn
  rw [h7.2.1 q hq2 hn, hSs.2.1 q hq2 hn]
set_option maxHeartbeats 1000000 in
theorem g_getf (F : zFr Z p s m args meth c mi As) {ix t k a : Nat} (hd : decode (zcb mi) pc = .ok (.getfield ix, 3)) (hf : zFT (zow mi) ix = some (t, k)) (ht : tg A a = t) (kk : zG Z p l e R s m args below meth c mi As Q (pc + 3) ls (fd A a k :: st) A) : zG Z p l e R s m args below meth c mi As Q pc ls (zO (some a) :: st) A := by
  intro h1 h2 h3 rls H locs h4 h5 h6 h7
  have F' := F
  obtain ⟨hx, hb, hml, hown, hts, hst, hSs, hpb, hsz, hnx, hin⟩ := F
  subst ht
  rcases zFok_all hf with ⟨e32, rfl, eo, rfl⟩ | ⟨t1, t2, hkn, hlk⟩
  · obtain ⟨-, -, -, -, -, -, -, -, -, -, hB, -⟩ := hst
    obtain ⟨-, w2, w3, w4, -, -, -, w8, -⟩ := id h3
    have ha : a < 300 := by
      rcases Nat.lt_or_ge a 300 with q | q
      · exact q
      · exfalso
        rcases Nat.lt_or_ge a (nx A) with q2 | q2
        · have := w3 a q q2; omega
        · have := w2 a q2; omega
    have hz := w4 a ha
    rw [e32] at hz
    unfold zot at hz
    have hr : 40 ≤ a ∧ a < 296 := by
      split at hz
      · omega
      · split at hz
        · omega
        · split at hz
          · assumption
          · omega
    obtain ⟨j, rfl⟩ : ∃ j, a = 40 + j := ⟨a - 40, by omega⟩
    have e8 := w8 j (by omega)
    refine zW_sz (fun z1 z2 => ?_)
    have hk := kk h1 (zall_c (v := fd A (40 + j) 0) (by rw [e8]; show zr32 _; unfold zr32; omega) (zall_t h2)) h3 rls H locs h4 h5 h6 h7
    rw [List.map_cons, e8, zev_I] at hk
    refine va_getX (ref := "java/lang/Integer") (i := j) (v := fun k => .int (vb_c k)) (ad := fun k => zrho Z (40 + k)) hx hb (hB.2.kept (fun q hq hn => hSs.2.1 q hq hn)) (by omega) (zS_s F' z1 h7) hown ?_ (fun _ h => h) hd ?_
    · rw [eo]; exact hts _ q647
    · have ev : vb_c j = Int32.ofInt ((j : Int) - 128) := by
        unfold vb_c
        rw [Int32.ofInt_sub]
        rfl
      show W p l e R s m args below meth c H locs _ _ Q (F0 m (pc + 3) rls (.int (vb_c j) :: st.map (zev Z)))
      rw [ev]
      exact hk
  · obtain ⟨C, T, N, ty0, hc, hN, hins, hty, hnm, hkt, hfi, qi, qn⟩ := zTok_all _ t1 t2
    have hr := h3.fresh t1 (by omega)
    have he := zE_get (Z := Z) hr.1 hr.2
    rw [zeo_obj t2] at he
    have hcok := (h3.2.2.2.2.1 a hr.1 hr.2).2.2.2.2.2.1 t2 k hkn
    have hk := kk h1 (zall_c (v := fd A a k) (zfok_sok hcok) (zall_t h2)) h3 rls H locs h4 h5 h6 h7
    have hv : ((List.range (znf (tg A a))).map (fun k => zev Z (fd A a k)))[k]? = some (zev Z (fd A a k)) := by
      rw [List.getElem?_map, List.getElem?_range hkn]; rfl
    rcases hlk C T N hc with hw | ⟨host, hw, -⟩
    · exact va_get (own := znm (zow mi)) (ref := (T k).1) hx hb hts hins hown hst.1 h6 (a - 300) he hc k (by rw [← hN]; exact hkn) (hts _ hw) (fun _ h => h) hv hd hk
    · exact va_getN (own := znm (zow mi)) (ref := (T k).1) (host := host) hx hb hts hins hown hst.1 h6 (a - 300) he hc k (by rw [← hN]; exact hkn) (va_Nw.use rfl (hst.2.1 _ hw)) (fun _ h => h) hv hd hk
end SIM
