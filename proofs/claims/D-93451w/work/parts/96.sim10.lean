/-! SIMULATION, XVII: a step that goes on -/
set_option maxRecDepth 100000
section GO
variable {Z : ZP} {p : Program} {l : Launch} {e : Env} {R : Room} {s : State} {m : MethodId} {args : Array Value} {below : List Frame} {meth : Method} {c : Code} {mi : Nat} {As : AH} {Q : State → Prop} {pc : Nat} {ls st : List ZV} {A : AH}
theorem zjmp_go {b : Bool} {pc n : Nat} {off : Int} {ls st : List ZV} {A : AH} {pc2 : Nat} {ls2 st2 : List ZV} {A2 : AH} (h : zjmp b pc n off ls st A = some (Sum.inl (pc2, ls2, st2, A2))) : ∃ t : Nat, (pc : Int) + off = (t : Int) ∧ pc2 = (if b then t else pc + n) ∧ ls2 = ls ∧ st2 = st ∧ A2 = A := by
  unfold zjmp at h
  split at h
  · rename_i t ht
    cases h
    exact ⟨t, ht, rfl, rfl, rfl, rfl⟩
  · cases h
theorem zlen_1 {A : AH} {a : Nat} (h : tg A a = 20 ∨ tg A a = 21) : zlen A a = (ia A a).length := by
  unfold zlen zarr
  rcases h with h | h <;> simp [h]
theorem zlen_3 {A : AH} {a : Nat} (h : tg A a = 24 ∨ tg A a = 25 ∨ tg A a = 28) : zlen A a = (ra A a).length := by
  unfold zlen zarr
  rcases h with h | h | h <;> simp [h]
theorem zcall_go {pc n o i mode : Nat} {ls st : List ZV} {A : AH} {y : ZCfg} (h : zcall pc n o i mode ls st A = some (Sum.inl y)) : ∃ j, zIT o i = some j ∧ zim mode j = true ∧ zintr j (pc + n) ls st A = some (Sum.inl y) := by
  unfold zcall at h
  split at h
  · rename_i j hj
    split at h
    · rename_i hz
      exact ⟨j, hj, hz, h⟩
    · cases h
  · repeat' split at h
    all_goals cases h
theorem g_go (F : zFr Z p s m args meth c mi As) (hRf : 1 ≤ R.frames) (hRl : 64 ≤ R.locals) (hm : nx As ≤ nx A) (hms : sl As ≤ sl A) {pc2 : Nat} {ls2 st2 : List ZV} {A2 : AH} (hn2 : ∀ ix, decode (zcb mi) pc = .ok (.invokestatic ix, 3) → zIT (zow mi) ix = some 2 → ∀ (v lo hi : Int) (r : List ZV), st = zL hi :: zL lo :: zL v :: r → zwt r ≤ 8 → zG Z p l e R s m args below meth c mi As Q (pc + 3) ls (zI (if lo ≤ v ∧ v ≤ hi then 1 else 0) :: r) A → zG Z p l e R s m args below meth c mi As Q pc ls st A)
    (hthr : decode (zcb mi) pc = .ok (.athrow, 1) → zstep mi pc 1 ls st A .athrow = some (Sum.inl (pc2, ls2, st2, A2)) → zG Z p l e R s m args below meth c mi As Q pc ls st A)
    (h : zact mi (pc, ls, st, A) = some (Sum.inl (pc2, ls2, st2, A2))) (hR : nx A2 - nx As ≤ R.cells) (hR2 : sl A2 - sl As ≤ R.slots) (kk : zG Z p l e R s m args below meth c mi As Q pc2 ls2 st2 A2) : zG Z p l e R s m args below meth c mi As Q pc ls st A := by
  have hx := F.1
  have hb := F.2.1
  unfold zact at h
  dsimp only at h
  split at h
  · rename_i i n hd
    by_cases hl : zln i n = true
    · rw [if_pos hl] at h
      cases i
      case iconst v =>
        have hn : n = 1 := by simpa [zln] using hl
        subst hn
        simp only [zstep, zgo] at h
        cases h
        exact g_iconst hx hb hd kk
      case bipush v =>
        have hn : n = 2 := by simpa [zln] using hl
        subst hn
        simp only [zstep, zgo] at h
        cases h
        exact g_bipush hx hb hd kk
      case sipush v =>
        have hn : n = 3 := by simpa [zln] using hl
        subst hn
        simp only [zstep, zgo] at h
        cases h
        exact g_sipush hx hb hd kk
      case lconst v =>
        have hn : n = 1 := by simpa [zln] using hl
        subst hn
        simp only [zstep, zgo] at h
        cases h
        exact g_lconst hx hb hd kk
      case aconst_null =>
        have hn : n = 1 := by simpa [zln] using hl
        subst hn
        simp only [zstep, zgo] at h
        cases h
        exact g_null hx hb hd kk
      case ldc ix =>
        have hn : n = 2 := by simpa [zln] using hl
        subst hn
        simp only [zstep, zgo] at h
        split at h
        · rename_i v hf
          cases h
          exact g_ldc F hd hf kk
        · rename_i a hf
          cases h
          exact g_ldcM F hd hf kk
        · cases h
      case ldc2_w ix =>
        have hn : n = 3 := by simpa [zln] using hl
        subst hn
        simp only [zstep, zgo] at h
        split at h
        · rename_i v hf
          cases h
          exact g_ldc2 F hd hf kk
        · cases h
      case iload ix =>
        have hn : n = 2 := by simpa [zln] using hl
        subst hn
        simp only [zstep, zil, zgo] at h
        split at h
        · rename_i x hf
          cases h
          exact g_iload hx hb hd hf kk
        · cases h
      case iload_n ix =>
        have hn : n = 1 := by simpa [zln] using hl
        subst hn
        simp only [zstep, zil, zgo] at h
        split at h
        · rename_i x hf
          cases h
          exact g_iload_n hx hb hd hf kk
        · cases h
      case aload ix =>
        have hn : n = 2 := by simpa [zln] using hl
        subst hn
        simp only [zstep, zal, zgo] at h
        split at h
        · rename_i x hf
          cases h
          exact g_aload hx hb hd hf kk
        · cases h
      case aload_n ix =>
        have hn : n = 1 := by simpa [zln] using hl
        subst hn
        simp only [zstep, zal, zgo] at h
        split at h
        · rename_i x hf
          cases h
          exact g_aload_n hx hb hd hf kk
        · cases h
      case istore ix =>
        have hn : n = 2 := by simpa [zln] using hl
        subst hn
        simp only [zstep, zis, zgo] at h
        split at h
        · rename_i x r
          split at h
          · rename_i hlt
            cases h
            exact g_istore hx hb hd hlt kk
          · cases h
        · cases h
      case istore_n ix =>
        have hn : n = 1 := by simpa [zln] using hl
        subst hn
        simp only [zstep, zis, zgo] at h
        split at h
        · rename_i x r
          split at h
          · rename_i hlt
            cases h
            exact g_istore_n hx hb hd hlt kk
          · cases h
        · cases h
      case astore ix =>
        have hn : n = 2 := by simpa [zln] using hl
        subst hn
        simp only [zstep, zas, zgo] at h
        split at h
        · rename_i x r
          split at h
          · rename_i hlt
            cases h
            exact g_astore hx hb hd hlt kk
          · cases h
        · cases h
      case astore_n ix =>
        have hn : n = 1 := by simpa [zln] using hl
        subst hn
        simp only [zstep, zas, zgo] at h
        split at h
        · rename_i x r
          split at h
          · rename_i hlt
            cases h
            exact g_astore_n hx hb hd hlt kk
          · cases h
        · cases h
      case iinc ix v =>
        have hn : n = 3 := by simpa [zln] using hl
        subst hn
        simp only [zstep, zgo] at h
        split at h
        · rename_i x hf
          cases h
          exact g_iinc hx hb hd hf kk
        · cases h
      case iadd =>
        have hn : n = 1 := by simpa [zln] using hl
        subst hn
        simp only [zstep, zbin, zgo] at h
        split at h
        · cases h
          exact g_iadd hx hb hd kk
        · cases h
      case isub =>
        have hn : n = 1 := by simpa [zln] using hl
        subst hn
        simp only [zstep, zbin, zgo] at h
        split at h
        · cases h
          exact g_isub hx hb hd kk
        · cases h
      case imul =>
        have hn : n = 1 := by simpa [zln] using hl
        subst hn
        simp only [zstep, zbin, zgo] at h
        split at h
        · cases h
          exact g_imul hx hb hd kk
        · cases h
      case iand =>
        have hn : n = 1 := by simpa [zln] using hl
        subst hn
        simp only [zstep, zbin, zgo] at h
        split at h
        · cases h
          exact g_iand hx hb hd kk
        · cases h
      case ior =>
        have hn : n = 1 := by simpa [zln] using hl
        subst hn
        simp only [zstep, zbin, zgo] at h
        split at h
        · cases h
          exact g_ior hx hb hd kk
        · cases h
      case ishl =>
        have hn : n = 1 := by simpa [zln] using hl
        subst hn
        simp only [zstep, zbin, zgo] at h
        split at h
        · cases h
          exact g_ishl hx hb hd kk
        · cases h
      case ishr =>
        have hn : n = 1 := by simpa [zln] using hl
        subst hn
        simp only [zstep, zbin, zgo] at h
        split at h
        · cases h
          exact g_ishr hx hb hd kk
        · cases h
      case iushr =>
        have hn : n = 1 := by simpa [zln] using hl
        subst hn
        simp only [zstep, zbin, zgo] at h
        split at h
        · cases h
          exact g_iushr hx hb hd kk
        · cases h
      case land =>
        have hn : n = 1 := by simpa [zln] using hl
        subst hn
        simp only [zstep, zbinL, zgo] at h
        split at h
        · cases h
          exact g_land hx hb hd kk
        · cases h
      case lor =>
        have hn : n = 1 := by simpa [zln] using hl
        subst hn
        simp only [zstep, zbinL, zgo] at h
        split at h
        · cases h
          exact g_lor hx hb hd kk
        · cases h
      case lxor =>
        have hn : n = 1 := by simpa [zln] using hl
        subst hn
        simp only [zstep, zbinL, zgo] at h
        split at h
        · cases h
          exact g_lxor hx hb hd kk
        · cases h
      case idiv =>
        have hn : n = 1 := by simpa [zln] using hl
        subst hn
        simp only [zstep, zgo] at h
        split at h
        · split at h
          · cases h
          · rename_i h0
            cases h
            exact g_idiv hx hb hd h0 kk
        · cases h
      case irem =>
        have hn : n = 1 := by simpa [zln] using hl
        subst hn
        simp only [zstep, zgo] at h
        split at h
        · split at h
          · cases h
          · rename_i h0
            cases h
            exact g_irem hx hb hd h0 kk
        · cases h
      case i2b =>
        have hn : n = 1 := by simpa [zln] using hl
        subst hn
        simp only [zstep, zun, zgo] at h
        split at h
        · cases h
          exact g_i2b hx hb hd kk
        · cases h
      case i2c =>
        have hn : n = 1 := by simpa [zln] using hl
        subst hn
        simp only [zstep, zun, zgo] at h
        split at h
        · cases h
          exact g_i2c hx hb hd kk
        · cases h
      case i2l =>
        have hn : n = 1 := by simpa [zln] using hl
        subst hn
        simp only [zstep, zgo] at h
        split at h
        · cases h
          exact g_i2l hx hb hd kk
        · cases h
      case lshl =>
        have hn : n = 1 := by simpa [zln] using hl
        subst hn
        simp only [zstep, zgo] at h
        split at h
        · cases h
          exact g_lshl hx hb hd kk
        · cases h
      case lshr =>
        have hn : n = 1 := by simpa [zln] using hl
        subst hn
        simp only [zstep, zgo] at h
        split at h
        · cases h
          exact g_lshr hx hb hd kk
        · cases h
      case lcmp =>
        have hn : n = 1 := by simpa [zln] using hl
        subst hn
        simp only [zstep, zgo] at h
        split at h
        · cases h
          exact g_lcmp hx hb hd kk
        · cases h
      case dup =>
        have hn : n = 1 := by simpa [zln] using hl
        subst hn
        simp only [zstep, zgo] at h
        split at h
        · split at h
          · rename_i hv
            cases h
            exact g_dup hx hb hd hv kk
          · cases h
        · cases h
      case pop =>
        have hn : n = 1 := by simpa [zln] using hl
        subst hn
        simp only [zstep, zgo] at h
        split at h
        · split at h
          · rename_i hv
            cases h
            exact g_pop hx hb hd hv kk
          · cases h
        · cases h
      case dup_x1 =>
        have hn : n = 1 := by simpa [zln] using hl
        subst hn
        simp only [zstep, zgo] at h
        split at h
        · split at h
          · rename_i hv
            cases h
            rw [Bool.and_eq_true] at hv
            exact g_dup_x1 hx hb hd hv.1 hv.2 kk
          · cases h
        · cases h
      case dup2 =>
        have hn : n = 1 := by simpa [zln] using hl
        subst hn
        simp only [zstep, zgo] at h
        split at h
        · split at h
          · rename_i hv
            cases h
            rw [Bool.and_eq_true] at hv
            exact g_dup2 hx hb hd hv.1 hv.2 kk
          · cases h
        · cases h
      case getfield ix =>
        have hn : n = 3 := by simpa [zln] using hl
        subst hn
        simp only [zstep, zgo] at h
        split at h
        · rename_i t k hf
          split at h
          · split at h
            · rename_i ht
              cases h
              exact g_getf F hd hf ht kk
            · cases h
          · cases h
        · cases h
      case putfield ix =>
        have hn : n = 3 := by simpa [zln] using hl
        subst hn
        simp only [zstep, zgo] at h
        split at h
        · rename_i t k hf
          split at h
          · split at h
            · rename_i ht
              cases h
              exact g_putf F hd hf ht.1 ht.2.1 ht.2.2 kk
            · cases h
          · cases h
        · cases h
      case getstatic ix =>
        have hn : n = 3 := by simpa [zln] using hl
        subst hn
        simp only [zstep, zgo] at h
        split at h
        · rename_i j hf
          cases h
          exact g_gets F hd hf kk
        · cases h
      case iaload =>
        have hn : n = 1 := by simpa [zln] using hl
        subst hn
        simp only [zstep, zgo] at h
        split at h
        · split at h
          · rename_i ht
            cases h
            rcases ht.1 with q | q
            · exact g_iald F hd q ht.2.1 ht.2.2 kk
            · exact g_sald F hd q ht.2.1 ht.2.2 kk
          · cases h
        · cases h
      case baload =>
        have hn : n = 1 := by simpa [zln] using hl
        subst hn
        simp only [zstep, zgo] at h
        split at h
        · split at h
          · rename_i ht
            cases h
            rcases ht.1 with q | q
            · exact g_bald F hd q ht.2.1 ht.2.2 kk
            · exact g_zald F hd q ht.2.1 ht.2.2 kk
          · cases h
        · cases h
      case laload =>
        have hn : n = 1 := by simpa [zln] using hl
        subst hn
        simp only [zstep, zgo] at h
        split at h
        · split at h
          · rename_i ht
            cases h
            exact g_lald F hd ht.1 ht.2.1 ht.2.2 kk
          · cases h
        · cases h
      case aaload =>
        have hn : n = 1 := by simpa [zln] using hl
        subst hn
        simp only [zstep, zgo] at h
        split at h
        · split at h
          · rename_i ht
            cases h
            exact g_aald F hd ht.1 ht.2.1 ht.2.2 kk
          · cases h
        · cases h
      case iastore =>
        have hn : n = 1 := by simpa [zln] using hl
        subst hn
        simp only [zstep, zgo] at h
        split at h
        · split at h
          · rename_i ht
            cases h
            exact g_iast F hd ht.1 ht.2.1 ht.2.2 kk
          · cases h
        · cases h
      case lastore =>
        have hn : n = 1 := by simpa [zln] using hl
        subst hn
        simp only [zstep, zgo] at h
        split at h
        · split at h
          · rename_i ht
            cases h
            exact g_last F hd ht.1 ht.2.1 ht.2.2 kk
          · cases h
        · cases h
      case bastore =>
        have hn : n = 1 := by simpa [zln] using hl
        subst hn
        simp only [zstep, zgo] at h
        split at h
        · split at h
          · rename_i ht
            cases h
            exact g_bast F hd ht.1 ht.2.1 ht.2.2 kk
          · split at h
            · rename_i ht
              cases h
              exact g_zast F hd ht.1 ht.2.2.2 ht.2.1 ht.2.2.1 kk
            · cases h
        · cases h
      case aastore =>
        have hn : n = 1 := by simpa [zln] using hl
        subst hn
        simp only [zstep, zgo] at h
        split at h
        · split at h
          · rename_i ht
            cases h
            exact g_aast F hd ht.1 ht.2.1 ht.2.2.1 ht.2.2.2.1 ht.2.2.2.2 kk
          · cases h
        · cases h
      case arraylength =>
        have hn : n = 1 := by simpa [zln] using hl
        subst hn
        simp only [zstep, zgo] at h
        split at h
        · split at h
          · cases h
          · rename_i ht
            cases h
            exact g_alen F hd ht kk
        · cases h
      case newarray ty =>
        have hn : n = 2 := by simpa [zln] using hl
        subst hn
        simp only [zstep, zgo] at h
        split at h
        · split at h
          · rename_i h0
            cases ty
            case int =>
              cases h
              exact g_new_int F hm hms hd h0.1 h0.2 (by simpa [nA, nJ, nx] using hR) (by simpa [nA, nJ, sl, List.length_replicate] using hR2) kk
            case byte =>
              cases h
              exact g_new_byte F hm hms hd h0.1 h0.2 (by simpa [nA, nJ, nx] using hR) (by simpa [nA, nJ, sl, List.length_replicate] using hR2) kk
            case boolean =>
              cases h
              exact g_new_boolean F hm hms hd h0.1 h0.2 (by simpa [nA, nJ, nx] using hR) (by simpa [nA, nJ, sl, List.length_replicate] using hR2) kk
            case long =>
              cases h
              exact g_new_long F hm hms hd h0.1 h0.2 (by simpa [nA, nJ, nx] using hR) (by simpa [nA, nJ, sl, List.length_replicate] using hR2) kk
            all_goals cases h
          · cases h
        · cases h
      case anewarray ix =>
        have hn : n = 3 := by simpa [zln] using hl
        subst hn
        simp only [zstep, zgo] at h
        split at h
        · rename_i t hf
          split at h
          · split at h
            · rename_i h0
              cases h
              exact g_anew F hm hms hd hf h0.2.2 h0.1 h0.2.1 (by simpa [nR, nx] using hR) (by simpa [nR, sl, List.length_replicate] using hR2) kk
            · cases h
          · cases h
        · cases h
      case multianewarray ix dm =>
        have hn : n = 4 := by simpa [zln] using hl
        subst hn
        simp only [zstep, zgo] at h
        split at h
        · rename_i t hf
          split at h
          · split at h
            · rename_i h0
              obtain ⟨h29, hdm, h1, h2, h3, h4⟩ := h0
              subst h29
              subst hdm
              cases h
              exact g_mnew F hm hms hd hf h1 h2 h3 h4 (by simpa [nM, nx] using hR) (by simpa [nM, sl] using hR2) kk
            · cases h
          · cases h
        · cases h
      case new ix =>
        have hn : n = 3 := by simpa [zln] using hl
        subst hn
        simp only [zstep, zgo] at h
        split at h
        · rename_i t hf
          cases h
          exact g_new F hm hms hd hf (by simpa [nO, nx] using hR) (by simpa [nO, sl] using hR2) kk
        · cases h
      case checkcast ix =>
        have hn : n = 3 := by simpa [zln] using hl
        subst hn
        simp only [zstep, zgo] at h
        split at h
        · rename_i ts hf
          split at h
          · cases h
            exact g_castN F hd kk
          · split at h
            · rename_i ht
              cases h
              exact g_cast F hd hf ht kk
            · cases h
          · cases h
        · cases h
      case instanceof ix =>
        have hn : n = 3 := by simpa [zln] using hl
        subst hn
        simp only [zstep, zgo] at h
        split at h
        · rename_i ts hf
          split at h
          · split at h
            · rename_i ht
              cases h
              exact g_inst F hd hf ht.1 (Or.inl ht.2) kk
            · cases h
          · cases h
        · cases h
      case ifCond cn off =>
        have hn : n = 3 := by simpa [zln] using hl
        subst hn
        simp only [zstep] at h
        split at h
        · obtain ⟨t, ht, e1, e2, e3, e4⟩ := zjmp_go h
          subst e1; subst e2; subst e3; subst e4
          cases cn
          · exact g_if_eq hx hb hd ht kk
          · exact g_if_ne hx hb hd ht kk
          · exact g_if_lt hx hb hd ht kk
          · exact g_if_ge hx hb hd ht kk
          · exact g_if_gt hx hb hd ht kk
          · exact g_if_le hx hb hd ht kk
        · cases h
      case if_icmp cn off =>
        have hn : n = 3 := by simpa [zln] using hl
        subst hn
        simp only [zstep] at h
        split at h
        · obtain ⟨t, ht, e1, e2, e3, e4⟩ := zjmp_go h
          subst e1; subst e2; subst e3; subst e4
          cases cn
          · exact g_ic_eq hx hb hd ht kk
          · exact g_ic_ne hx hb hd ht kk
          · exact g_ic_lt hx hb hd ht kk
          · exact g_ic_ge hx hb hd ht kk
          · exact g_ic_gt hx hb hd ht kk
          · exact g_ic_le hx hb hd ht kk
        · cases h
      case if_acmp cn off =>
        have hn : n = 3 := by simpa [zln] using hl
        subst hn
        simp only [zstep] at h
        split at h
        · split at h
          · rename_i hg
            obtain ⟨t, ht, e1, e2, e3, e4⟩ := zjmp_go h
            subst e1; subst e2; subst e3; subst e4
            cases cn
            · exact g_ac_eq hx hb hd hg ht kk
            · exact g_ac_ne hx hb hd hg ht kk
          · cases h
        · cases h
      case ifnull off =>
        have hn : n = 3 := by simpa [zln] using hl
        subst hn
        simp only [zstep] at h
        split at h
        · obtain ⟨t, ht, e1, e2, e3, e4⟩ := zjmp_go h
          subst e1; subst e2; subst e3; subst e4
          exact g_ifnull hx hb hd ht kk
        · cases h
      case ifnonnull off =>
        have hn : n = 3 := by simpa [zln] using hl
        subst hn
        simp only [zstep] at h
        split at h
        · obtain ⟨t, ht, e1, e2, e3, e4⟩ := zjmp_go h
          subst e1; subst e2; subst e3; subst e4
          exact g_ifnonnull hx hb hd ht kk
        · cases h
      case goto off =>
        have hn : n = 3 := by simpa [zln] using hl
        subst hn
        simp only [zstep] at h
        obtain ⟨t, ht, e1, e2, e3, e4⟩ := zjmp_go h
        subst e1; subst e2; subst e3; subst e4
        exact g_goto hx hb hd ht kk
      case tableswitch d lo hi offs =>
        simp only [zstep] at h
        split at h
        · split at h
          · rename_i ho
            obtain ⟨t, ht, e1, e2, e3, e4⟩ := zjmp_go h
            subst e1; subst e2; subst e3; subst e4
            exact g_tswD hx hb hd ho ht kk
          · rename_i ho
            split at h
            · rename_i off hof
              obtain ⟨t, ht, e1, e2, e3, e4⟩ := zjmp_go h
              subst e1; subst e2; subst e3; subst e4
              exact g_tsw hx hb hd ho hof ht kk
            · cases h
        · cases h
      case lookupswitch d ps =>
        simp only [zstep] at h
        split at h
        · split at h
          · rename_i hs
            obtain ⟨t, ht, e1, e2, e3, e4⟩ := zjmp_go h
            subst e1; subst e2; subst e3; subst e4
            exact g_lsw hx hb hd hs ht kk
          · cases h
        · cases h
      case invokestatic ix =>
        have hn : n = 3 := by simpa [zln] using hl
        subst hn
        simp only [zstep] at h
        obtain ⟨j, hj, hz, h⟩ := zcall_go h
        · skip
          · skip
            have hj2 : j = 2 ∨ j = 3 := by simpa [zim] using hz
            rcases hj2 with rfl | rfl
            · simp only [zintr, zgo] at h
              split at h
              · split at h
                · rename_i hw
                  cases h
                  exact hn2 _ hd hj _ _ _ _ rfl hw kk
                · cases h
              · cases h
            · simp only [zintr, zgo] at h
              split at h
              · split at h
                · rename_i hw
                  obtain ⟨w1, w2, w3, w4, w5, w6, w7⟩ := hw
                  split at h
                  · rename_i h20
                    cases h
                    have z1 : zlen A _ = _ := zlen_1 h20
                    exact g_in3i F hRf hRl hd hj w1 w2 w3 w4 w5 h20 (by rw [← zlen_1 (w5 ▸ h20)]; exact w6) (by rw [← zlen_1 h20]; exact w7) kk
                  · split at h
                    · rename_i h24
                      cases h
                      exact g_in3r F hRf hRl hd hj w1 w2 w3 w4 w5 h24 (by rw [← zlen_3 (w5 ▸ h24)]; exact w6) (by rw [← zlen_3 h24]; exact w7) kk
                    · cases h
                · cases h
              · cases h
      case invokespecial ix =>
        have hn : n = 3 := by simpa [zln] using hl
        subst hn
        simp only [zstep] at h
        obtain ⟨j, hj, hz, h⟩ := zcall_go h
        · skip
          · skip
            have hj2 : j = 1 := by simpa [zim] using hz
            subst hj2
            · simp only [zintr, zgo] at h
              split at h
              · split at h
                · rename_i hw
                  cases h
                  exact g_in1 F hRf hRl hd hj hw kk
                · cases h
              · cases h
      case invokevirtual ix =>
        have hn : n = 3 := by simpa [zln] using hl
        subst hn
        simp only [zstep] at h
        obtain ⟨j, hj, hz, h⟩ := zcall_go h
        · skip
          · skip
            have hj2 : j = 4 ∨ j = 5 := by simpa [zim] using hz
            rcases hj2 with rfl | rfl
            · simp only [zintr, zgo] at h
              split at h
              · split at h
                · rename_i hw
                  cases h
                  exact g_in4 F hm hms hRf hRl hd hj hw.1 hw.2 (by simpa [nA, nx] using hR) (by simpa [nA, sl] using hR2) kk
                · cases h
              · cases h
            · simp only [zintr, zgo] at h
              split at h
              · split at h
                · rename_i hw
                  cases h
                  exact g_in5 F hRf hRl hd hj hw.1 hw.2 kk
                · cases h
              · cases h
      case invokeinterface ix ct =>
        have hn : n = 5 := by simpa [zln] using hl
        subst hn
        simp only [zstep] at h
        obtain ⟨j, hj, hz, h⟩ := zcall_go h
        · skip
          · skip
            simp [zim] at hz
      case ireturn =>
        simp only [zstep] at h
        split at h
        · split at h <;> cases h
        · cases h
      case areturn =>
        simp only [zstep] at h
        split at h
        · split at h <;> cases h
        · cases h
      case return_ =>
        simp only [zstep] at h
        split at h
        · split at h <;> cases h
        · cases h
      case athrow =>
        have hn : n = 1 := by simpa [zln] using hl
        subst hn
        exact hthr hd h
      all_goals (simp only [zstep, reduceCtorEq] at h)
    · rw [if_neg hl] at h
      cases h
  · cases h
end GO
