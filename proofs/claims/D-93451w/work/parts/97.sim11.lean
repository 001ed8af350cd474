/-! SIMULATION, XVIII: isBetween -/
set_option maxRecDepth 100000
theorem zbet (l : Launch) {v lo hi : Int} (hv : zr64 v) (hlo : zr64 lo) (hhi : zr64 hi) : vx_Met l yX0_isBetween (ws_ yX0_isBetween cX0_isBetween 6 (some .boolean)) ({ frames := 0, locals := 0, cells := 0, slots := 0 } : Room) (fun a _ => a = #[.long (Int64.ofInt v), .long (Int64.ofInt lo), .long (Int64.ofInt hi)])
    (fun _ s o t => o = .returned (some (.int (Int32.ofInt (if lo ≤ v ∧ v ≤ hi then 1 else 0)))) ∧ t.heap = s.heap) (fun _ _ _ => False) 0 0 (fun _ => False) := by
  refine vx_ofW (cc := cX0_isBetween) (maxL := 6) (ret := some .boolean) rfl rfl ?_
  intro p e s m args below meth c s₁ B hml htab hP
  subst hP
  have hx := B.exec
  have hb := B.bytes
  have hr := B.returns
  have hk := B.notSynchronized
  have he : (#[.long (Int64.ofInt v), .long (Int64.ofInt lo), .long (Int64.ofInt hi)] : Array Value) = [.long (Int64.ofInt v), .long (Int64.ofInt lo), .long (Int64.ofInt hi)].toArray := rfl
  rw [he, lg_entry_eq, ← he]
  have hL := lv_entry [.long (Int64.ofInt v), .long (Int64.ofInt lo), .long (Int64.ofInt hi)] (n := 6) (Nat.le_of_ble_eq_true rfl)
  generalize (lg_sl [Value.long (Int64.ofInt v), Value.long (Int64.ofInt lo), Value.long (Int64.ofInt hi)] ++ List.replicate (6 - (lg_sl [Value.long (Int64.ofInt v), Value.long (Int64.ofInt lo), Value.long (Int64.ofInt hi)]).length) Slot.unset).toArray = rls at hL ⊢
  have l0 : rls[0]? = some (.val (.long (Int64.ofInt v))) := hL.2.2 (0, .long (Int64.ofInt v)) (List.mem_of_getElem? (i := 0) rfl)
  have l2 : rls[2]? = some (.val (.long (Int64.ofInt lo))) := hL.2.2 (2, .long (Int64.ofInt lo)) (List.mem_of_getElem? (i := 1) rfl)
  have l4 : rls[4]? = some (.val (.long (Int64.ofInt hi))) := hL.2.2 (4, .long (Int64.ofInt hi)) (List.mem_of_getElem? (i := 2) rfl)
  have zero : ¬ (lo ≤ v ∧ v ≤ hi) → W p l e (headSpec (ws_ yX0_isBetween cX0_isBetween 6 (some .boolean)) { frames := 0, locals := 0, cells := 0, slots := 0 }).room s m #[.long (Int64.ofInt v), .long (Int64.ofInt lo), .long (Int64.ofInt hi)] below meth c s.heap [] 0 0 (vx_MQ below (fun _ s o t => o = .returned (some (.int (Int32.ofInt (if lo ≤ v ∧ v ≤ hi then 1 else 0)))) ∧ t.heap = s.heap) (fun _ _ _ => False) #[.long (Int64.ofInt v), .long (Int64.ofInt lo), .long (Int64.ofInt hi)] s 0 0 (fun _ => False)) (F0 m 17 rls []) := by
    intro hc
    refine lv_iconst hx hb dX0_isBetween_17 rfl (vx_ret (W.zret hx hb hr rfl (fun t ht _ => ⟨?_, ht⟩) (fun q hq => absurd hq List.not_mem_nil) dX0_isBetween_18 hk))
    rw [if_neg hc]
  refine lv_lload_n hx hb dX0_isBetween_0 rfl l0 ?_
  refine lv_lload_n hx hb dX0_isBetween_1 (i := 2) rfl l2 ?_
  refine W.lcmp hx hb dX0_isBetween_2 ?_
  rw [← zo_cmp hv hlo]
  have r1 : zr32 (if v < lo then -1 else if v = lo then 0 else 1) := zr32_cmp v lo
  have r2 : zr32 (if v < hi then -1 else if v = hi then 0 else 1) := zr32_cmp v hi
  refine lv_if_lt hx hb dX0_isBetween_3 (tgt := 17) rfl (fun z => zero ?_) (fun z => ?_)
  · have z' := (zo_lt r1 zr32_0).mp z
    split at z'
    · omega
    · split at z' <;> omega
  · have z' : ¬ (if v < lo then (-1 : Int) else if v = lo then 0 else 1) < 0 := fun w => z ((zo_lt r1 zr32_0).mpr w)
    refine lv_lload_n hx hb dX0_isBetween_6 rfl l0 ?_
    refine lv_lload hx hb dX0_isBetween_7 l4 ?_
    refine W.lcmp hx hb dX0_isBetween_9 ?_
    rw [← zo_cmp hv hhi]
    refine lv_if_gt hx hb dX0_isBetween_10 (tgt := 17) rfl (fun y => zero ?_) (fun y => ?_)
    · have y' := (zo_lt zr32_0 r2).mp y
      split at y'
      · omega
      · split at y' <;> omega
    · have y' : ¬ 0 < (if v < hi then (-1 : Int) else if v = hi then 0 else 1) := fun w => y ((zo_lt zr32_0 r2).mpr w)
      have hc : lo ≤ v ∧ v ≤ hi := by
        constructor
        · split at z' <;> omega
        · split at y'
          · omega
          · split at y' <;> omega
      refine lv_iconst hx hb dX0_isBetween_13 rfl ?_
      refine lv_goto hx hb dX0_isBetween_14 (tgt := 18) rfl ?_
      refine vx_ret (W.zret hx hb hr rfl (fun t ht _ => ⟨?_, ht⟩) (fun q hq => absurd hq List.not_mem_nil) dX0_isBetween_18 hk)
      rw [if_pos hc]
section SIM
variable {Z : ZP} {p : Program} {l : Launch} {e : Env} {R : Room} {s : State} {m : MethodId} {args : Array Value} {below : List Frame} {meth : Method} {c : Code} {mi : Nat} {As : AH} {Q : State → Prop} {pc : Nat} {ls st : List ZV} {A : AH}
theorem g_in2 (F : zFr Z p s m args meth c mi As) (hRf : 1 ≤ R.frames) (hRl : 64 ≤ R.locals) (hR : nx A - nx As ≤ R.cells) (hR2 : sl A - sl As ≤ R.slots) {ix : Nat} {v lo hi : Int} (hd : decode (zcb mi) pc = .ok (.invokestatic ix, 3)) (hf : zIT (zow mi) ix = some 2) (hw : zwt st ≤ 8) (kk : zG Z p l e R s m args below meth c mi As Q (pc + 3) ls (zI (if lo ≤ v ∧ v ≤ hi then 1 else 0) :: st) A) : zG Z p l e R s m args below meth c mi As Q pc ls (zL hi :: zL lo :: zL v :: st) A := by
  intro h1 h2 h3 rls H locs h4 h5 h6 h7
  obtain ⟨hx, hb, hml, hown, hts, hst, hSs, hpb, hsz, hnx, hin⟩ := F
  have hM := zbet l (zall_h (zall_t (zall_t h2)) : zr64 v) (zall_h (zall_t h2) : zr64 lo) (zall_h h2 : zr64 hi)
  have hW8 : 2 * 0 + ((st.map (zev Z)).map fun v => v.category).sum ≤ 8 := by rw [zwt_cat]; omega
  have hF : CallFix p m c (zcb mi) (zml mi) s args lw_all (znm (zow mi)) := ⟨hx, hb, hml, hown, hts⟩
  have hp : PreS s H (fun a _ => a = #[.long (Int64.ofInt v), .long (Int64.ofInt lo), .long (Int64.ofInt hi)]) [.long (Int64.ofInt v), .long (Int64.ofInt lo), .long (Int64.ofInt hi)] := ⟨fun _ _ _ _ h => h, fun U _ _ => rfl⟩
  have hrun : vx_Run p l e R s m args below meth c H locs (nx A - nx As) (sl A - sl As) 0 0 (F0 m pc rls ((zL hi :: zL lo :: zL v :: st).map (zev Z))) (st.map (zev Z)) (fun s o t => o = .returned (some (.int (Int32.ofInt (if lo ≤ v ∧ v ≤ hi then 1 else 0)))) ∧ t.heap = s.heap) (fun _ _ _ => False) (fun _ => False) := by
    rcases zITok_all hf with ⟨q, -⟩ | ⟨-, q⟩ | ⟨q, -⟩ | ⟨q, -⟩ | ⟨q, -⟩
    · cases q
    · rcases q with ⟨-, q⟩ | ⟨-, q⟩
      · exact vx_runS (rest := st.map (zev Z)) hF hM (va_cwS 3 hts (lw_S q q259 q88 q260) rfl rfl rfl (by decide +kernel) ⟨by omega, by show 8 + (6 + 11) + 0 ≤ R.locals; omega⟩) hp rfl rfl h4.1 rfl hW8 hd ⟨by omega, by omega⟩
      · exact vx_runSN (rest := st.map (zev Z)) hF hM ⟨va_cnB 3 hts (lw_meth q260) rfl rfl rfl (hst.2.2.1 _ q) (hts _ q88) (by decide +kernel) ⟨by omega, by show 8 + (6 + 11) + 0 ≤ R.locals; omega⟩, hts _ q259, trivial⟩ hp rfl rfl h4.1 rfl hW8 hd ⟨by omega, by omega⟩
    all_goals cases q
  intro T hT X
  rcases hrun T hT X with ⟨vv, st0, t, T', L, e0, X', hL, e1, e2, ⟨hq1, hq2⟩, go⟩ | ⟨q, st0, t, T', L, E, ce, e0, X', hL, e1, e2, hfl, -⟩
  · have hL0 : L = [] := by
      cases L with
      | nil => rfl
      | cons a b => exact (hL a List.mem_cons_self).elim
    subst hL0
    rw [List.append_nil] at X'
    cases hq1
    have hr : zr32 (if lo ≤ v ∧ v ≤ hi then 1 else 0) := by split <;> (unfold zr32; omega)
    have hk := kk h1 (zall_c (v := zI (if lo ≤ v ∧ v ≤ hi then 1 else 0)) hr (zall_t (zall_t (zall_t h2)))) h3 rls H locs h4 h5 h6 h7
    obtain ⟨t2, a1, b1⟩ := hk T' (by rw [e1, hq2, e0]) X'
    exact ⟨t2, go t2 a1, b1⟩
  · exact hfl.elim
end SIM
