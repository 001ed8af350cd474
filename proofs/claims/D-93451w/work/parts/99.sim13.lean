/-! SIMULATION, XX: handlers, returns, what grows -/
set_option maxRecDepth 100000
section SIM
variable {Z : ZP} {p : Program} {l : Launch} {e : Env} {R : Room} {s : State} {m : MethodId} {args : Array Value} {below : List Frame} {meth : Method} {c : Code} {mi : Nat} {As : AH} {Q : State → Prop} {pc : Nat} {ls st : List ZV} {A : AH}
theorem zcatch (F : zFX Z p s m args meth c mi As) (h3 : zWF Z A) {H : Heap} {locs : List Loc} {rls : Array Slot} {rest : List Value} {cells slots : Nat} (h6 : va_P (zpD Z) zcl (zE Z A) H) {a : Nat} (ht : tg A a = 5) (ho : znm (zow mi) = "DependencyPairAnalyzer") (pre : List ExceptionTableEntry) (x : ExceptionTableEntry) (suf : List ExceptionTableEntry) (hsplit : c.exceptionTable.toList = pre ++ x :: suf) (hpass : ∀ z ∈ pre, covers z pc = false) (hx : covers x pc = true) (hct : x.catchType = 187)
    (kk : W p l e R s m args below meth c H locs cells slots Q (F0 m x.handlerPc rls [.ref (zrho Z a)])) : vx_W p l e R s m args below meth c H locs cells slots Q (F0 m pc rls rest) (zrho Z a) := by
  obtain ⟨F1, -⟩ := F
  obtain ⟨hxx, hb, hml, hown, hts, hst, hSs, hpb, hsz, hnx, hin⟩ := F1
  obtain ⟨ce, k1, k2, k3⟩ := zrecv5 hst h3 h6 ht
  rw [ho] at hown
  refine vx_catch (name := "DependencyPairAnalyzer$SyntaxException") hown pre x suf hsplit (fun z hz => Or.inl (hpass z hz)) hx (by rw [hct]; decide) (by rw [hct]; exact hts _ q416) ?_ k1 k2 k3 kk
  exact va_any rfl (hst.2.2.2.1 ("DependencyPairAnalyzer$SyntaxException", "DependencyPairAnalyzer$SyntaxException") (by decide +kernel))
theorem g_thrC (F : zFX Z p s m args meth c mi As) (h3 : zWF Z A) {H : Heap} {locs : List Loc} {rls : Array Slot} {rest : List Value} {cells slots : Nat} (h6 : va_P (zpD Z) zcl (zE Z A) H) {a hp : Nat} (ht : tg A a = 5) (hh : zHT mi pc = some (some hp))
    (kk : W p l e R s m args below meth c H locs cells slots Q (F0 m hp rls [.ref (zrho Z a)])) : vx_W p l e R s m args below meth c H locs cells slots Q (F0 m pc rls rest) (zrho Z a) := by
  have F5 := F.2.2.2.2.1
  unfold zHT at hh
  split at hh
  · rename_i h10
    subst h10
    have htab : c.exceptionTable.toList = tableOf (zhh 10) := F5 rfl
    split at hh
    · rename_i hr
      cases hh
      refine zcatch F h3 h6 ht rfl [] ⟨12, 30, 75, 187⟩ _ htab (fun z hz => absurd hz List.not_mem_nil) ?_ rfl kk
      simp [covers]; omega
    · rename_i hr1
      split at hh
      · rename_i hr
        cases hh
        refine zcatch F h3 h6 ht rfl [⟨12, 30, 75, 187⟩] ⟨37, 68, 75, 187⟩ _ htab (fun z hz => ?_) ?_ rfl kk
        · rw [List.mem_singleton.mp hz]
          simp [covers]; omega
        · simp [covers]; omega
      · cases hh
  · split at hh
    · rename_i h53
      subst h53
      have htab : c.exceptionTable.toList = tableOf (zhh 53) := F5 rfl
      split at hh
      · rename_i hr
        cases hh
        refine zcatch F h3 h6 ht rfl [] ⟨9, 38, 45, 187⟩ _ htab (fun z hz => absurd hz List.not_mem_nil) ?_ rfl kk
        simp [covers]; omega
      · cases hh
    · cases hh
theorem zS_nil {H : Heap} {locs : List Loc} (h7 : va_S (zA Z) (zpH Z) H locs) : va_S (zA Z) (zpH Z) H [] := ⟨h7.1, h7.2.1, fun l hl => absurd hl List.not_mem_nil⟩
theorem g_iret (F : zFX Z p s m args meth c mi As) {x : Int} (hd : decode (zcb mi) pc = .ok (.ireturn, 1)) (hz : zrfit (zrk mi) x = true) : zG Z p l e R s m args below meth c mi As (vx_MQ below (zQc Z (Sum.inl (some (zI x))) A) (zXC Z (Sum.inl (some (zI x))) A) args s (nx A - nx As) (sl A - sl As) (zA Z)) pc ls [zI x] A := by
  intro h1 h2 h3 rls H locs h4 h5 h6 h7
  obtain ⟨F1, F2, F3, F4, F5, F6⟩ := F
  obtain ⟨ty, e1, e2⟩ := zrt_int F6 hz
  exact vx_ret (W.zret F1.1 F1.2.1 (F3.trans e1) e2 (fun t ht _ => ⟨rfl, zall_h h2, by rw [ht]; exact h6, h3, by rw [ht]; exact zS_nil h7⟩) h7.2.2 hd F2)
theorem g_aret (F : zFX Z p s m args meth c mi As) {o : Option Nat} (hd : decode (zcb mi) pc = .ok (.areturn, 1)) (hz : zrk mi = 3) : zG Z p l e R s m args below meth c mi As (vx_MQ below (zQc Z (Sum.inl (some (zO o))) A) (zXC Z (Sum.inl (some (zO o))) A) args s (nx A - nx As) (sl A - sl As) (zA Z)) pc ls [zO o] A := by
  intro h1 h2 h3 rls H locs h4 h5 h6 h7
  obtain ⟨F1, F2, F3, F4, F5, F6⟩ := F
  obtain ⟨ty, e1, e2⟩ := zrt_ref F6 hz
  refine vx_ret (W.aret F1.1 F1.2.1 (F3.trans e1) e2 ?_ (fun t ht _ => ⟨rfl, zall_h h2, by rw [ht]; exact h6, h3, by rw [ht]; exact zS_nil h7⟩) h7.2.2 hd F2)
  cases o with
  | none => exact Or.inl rfl
  | some a => exact Or.inr ⟨_, rfl⟩
theorem g_vret (F : zFX Z p s m args meth c mi As) (hd : decode (zcb mi) pc = .ok (.return_, 1)) (hz : zrk mi = 4) : zG Z p l e R s m args below meth c mi As (vx_MQ below (zQc Z (Sum.inl none) A) (zXC Z (Sum.inl none) A) args s (nx A - nx As) (sl A - sl As) (zA Z)) pc ls [] A := by
  intro h1 h2 h3 rls H locs h4 h5 h6 h7
  obtain ⟨F1, F2, F3, F4, F5, F6⟩ := F
  exact vx_ret (W.vret F1.1 F1.2.1 (F3.trans (zrt_void F6 hz)) (fun t ht _ => ⟨rfl, trivial, by rw [ht]; exact h6, h3, by rw [ht]; exact zS_nil h7⟩) h7.2.2 hd F2)
theorem zintr_end {j pc : Nat} {ls st : List ZV} {A : AH} {y : (Nat × List ZV × Nat × ZCfg) ⊕ (ZR × AH)} (h : zintr j pc ls st A = some (Sum.inr y)) : False := by
  unfold zintr at h
  simp only [zgo] at h
  repeat' split at h
  all_goals cases h
theorem zcall_end {pc n o i mode : Nat} {ls st : List ZV} {A : AH} {y : ZR × AH} (h : zcall pc n o i mode ls st A = some (Sum.inr (Sum.inr y))) : False := by
  unfold zcall at h
  split at h
  · split at h
    · exact zintr_end h
    · cases h
  · repeat' split at h
    all_goals cases h
theorem zjmp_end {b : Bool} {pc n : Nat} {off : Int} {ls st : List ZV} {A : AH} {y : (Nat × List ZV × Nat × ZCfg) ⊕ (ZR × AH)} (h : zjmp b pc n off ls st A = some (Sum.inr y)) : False := by
  unfold zjmp zgo at h
  split at h <;> cases h
theorem g_ret (F : zFX Z p s m args meth c mi As) {r : ZR} {A2 : AH} (h : zact mi (pc, ls, st, A) = some (Sum.inr (Sum.inr (r, A2)))) : zG Z p l e R s m args below meth c mi As (vx_MQ below (zQc Z r A2) (zXC Z r A2) args s (nx A2 - nx As) (sl A2 - sl As) (zA Z)) pc ls st A := by
  unfold zact at h
  dsimp only at h
  split at h
  · rename_i i n hd
    by_cases hl : zln i n = true
    · rw [if_pos hl] at h
      cases i
      case ireturn =>
        have hn : n = 1 := by simpa [zln] using hl
        subst hn
        simp only [zstep] at h
        split at h
        · split at h
          · rename_i hz
            cases h
            exact g_iret F hd hz
          · cases h
        · cases h
      case areturn =>
        have hn : n = 1 := by simpa [zln] using hl
        subst hn
        simp only [zstep] at h
        split at h
        · split at h
          · rename_i hz
            cases h
            exact g_aret F hd hz
          · cases h
        · cases h
      case return_ =>
        have hn : n = 1 := by simpa [zln] using hl
        subst hn
        simp only [zstep] at h
        split at h
        · split at h
          · rename_i hz
            cases h
            exact g_vret F hd hz
          · cases h
        · cases h
      case athrow =>
        have hn : n = 1 := by simpa [zln] using hl
        subst hn
        simp only [zstep] at h
        split at h
        · split at h
          · rename_i ht
            unfold zthrow at h
            split at h
            · cases h
            · cases h
            · rename_i hh
              cases h
              intro h1 h2 h3 rls H locs h4 h5 h6 h7
              exact vx_athrow F.1.1 F.1.2.1 hd (g_thrO F h3 h6 h7 ht hh)
          · cases h
        · cases h
      case invokestatic => simp only [zstep] at h; exact (zcall_end h).elim
      case invokespecial => simp only [zstep] at h; exact (zcall_end h).elim
      case invokevirtual => simp only [zstep] at h; exact (zcall_end h).elim
      case invokeinterface => simp only [zstep] at h; exact (zcall_end h).elim
      case ifCond => simp only [zstep] at h; split at h <;> first | exact (zjmp_end h).elim | cases h
      case if_icmp => simp only [zstep] at h; split at h <;> first | exact (zjmp_end h).elim | cases h
      case if_acmp => simp only [zstep] at h; split at h <;> first | (split at h <;> first | exact (zjmp_end h).elim | cases h) | cases h
      case ifnull => simp only [zstep] at h; split at h <;> first | exact (zjmp_end h).elim | cases h
      case ifnonnull => simp only [zstep] at h; split at h <;> first | exact (zjmp_end h).elim | cases h
      case goto => simp only [zstep] at h; exact (zjmp_end h).elim
      case tableswitch =>
        simp only [zstep] at h
        split at h
        · split at h
          · exact (zjmp_end h).elim
          · split at h
            · exact (zjmp_end h).elim
            · cases h
        · cases h
      case lookupswitch =>
        simp only [zstep] at h
        split at h
        · split at h
          · exact (zjmp_end h).elim
          · cases h
        · cases h
      all_goals (exfalso; simp only [zstep, zbin, zbinL, zun, zil, zal, zis, zas, zgo, reduceCtorEq] at h)
      all_goals (repeat' split at h)
      all_goals cases h
    · rw [if_neg hl] at h
      cases h
  · cases h
end SIM
