/-! RUNS: zX d mi pc ls st A K: from this frame (calls at most d deep) the method ends, and K holds of its answer and heap. Equations, one an instruction. -/
theorem zrun_mono : ∀ (n d mi : Nat) (c : ZCfg) (x : ZR × AH), zrun n d mi c = some x → zrun (n + 1) d mi c = some x := by
  intro n
  induction n with
  | zero => intro d mi c x h; simp [zrun] at h
  | succ n ih =>
    intro d mi c x h
    rw [zrun] at h ⊢
    cases hz : zact mi c with
    | none => rw [hz] at h; simp at h
    | some a =>
      rw [hz] at h
      rcases a with c' | ⟨mj, as, pc, c'⟩ | ra
      · exact ih _ _ _ _ h
      · cases d with
        | zero => simp at h
        | succ e =>
          dsimp only at h ⊢
          cases hr : zrun n e mj (0, zent mj as, [], c'.2.2.2) with
          | none => rw [hr] at h; simp at h
          | some y =>
            obtain ⟨r, B⟩ := y
            rw [hr] at h
            rw [ih _ _ _ _ hr]
            dsimp only at h ⊢
            cases ha : zafter mi pc c' r B with
            | none => rw [ha] at h; simp at h
            | some b =>
              rw [ha] at h
              rcases b with c2 | b | ra
              · exact ih _ _ _ _ h
              · simp at h
              · exact h
      · exact h
theorem zrun_le {n m d mi : Nat} {c : ZCfg} {x : ZR × AH} (h : zrun n d mi c = some x) (hm : n ≤ m) : zrun m d mi c = some x := by
  induction hm with
  | refl => exact h
  | step _ ih => exact zrun_mono _ _ _ _ _ ih
theorem zrun_det {n m d mi : Nat} {c : ZCfg} {x y : ZR × AH} (h : zrun n d mi c = some x) (h2 : zrun m d mi c = some y) : x = y := by
  have h3 := zrun_le h (Nat.le_max_left n m)
  have h4 := zrun_le h2 (Nat.le_max_right n m)
  exact Option.some.inj (h3.symm.trans h4)
def zX (d mi pc : Nat) (ls st : List ZV) (A : AH) (K : ZR → AH → Prop) : Prop := ∃ n r B, zrun n d mi (pc, ls, st, A) = some (r, B) ∧ K r B
/-- what a caller does with its callee's answer -/
def zK (d mi pc pc2 : Nat) (ls st : List ZV) (K : ZR → AH → Prop) : ZR → AH → Prop := fun r A => match zafter mi pc (pc2, ls, st, A) r A with
  | some (Sum.inl (p, l, s, B)) => zX d mi p l s B K
  | some (Sum.inr (Sum.inr (r2, B))) => K r2 B
  | _ => False
theorem zX_of_run {n d mi pc : Nat} {ls st : List ZV} {A B : AH} {r : ZR} (h : zrun n d mi (pc, ls, st, A) = some (r, B)) (K : ZR → AH → Prop) : zX d mi pc ls st A K = K r B := by
  refine propext ⟨fun ⟨m, r2, B2, h2, hk⟩ => ?_, fun hk => ⟨n, r, B, h, hk⟩⟩
  have e := zrun_det h h2
  cases e
  exact hk
theorem zX_go {d mi pc pc2 : Nat} {ls st ls2 st2 : List ZV} {A A2 : AH} {K : ZR → AH → Prop} (h : zact mi (pc, ls, st, A) = some (Sum.inl (pc2, ls2, st2, A2))) : zX d mi pc ls st A K = zX d mi pc2 ls2 st2 A2 K := by
  refine propext ⟨fun ⟨n, r, B, h2, hk⟩ => ?_, fun ⟨n, r, B, h2, hk⟩ => ⟨n + 1, r, B, by rw [zrun, h]; exact h2, hk⟩⟩
  cases n with
  | zero => simp [zrun] at h2
  | succ n => rw [zrun, h] at h2; exact ⟨n, r, B, h2, hk⟩
theorem zX_fin {d mi pc : Nat} {ls st : List ZV} {A A2 : AH} {r : ZR} {K : ZR → AH → Prop} (h : zact mi (pc, ls, st, A) = some (Sum.inr (Sum.inr (r, A2)))) : zX d mi pc ls st A K = K r A2 :=
  zX_of_run (n := 1) (by rw [zrun, h]) K
theorem zX_call {d mi pc pc0 pc2 mj : Nat} {ls st ls2 st2 as : List ZV} {A A2 : AH} {K : ZR → AH → Prop} (h : zact mi (pc, ls, st, A) = some (Sum.inr (Sum.inl (mj, as, pc0, (pc2, ls2, st2, A2))))) : zX (d + 1) mi pc ls st A K = zX d mj 0 (zent mj as) [] A2 (zK (d + 1) mi pc0 pc2 ls2 st2 K) := by
  refine propext ⟨fun ⟨n, r, B, h2, hk⟩ => ?_, fun ⟨n, r, B, h2, hk⟩ => ?_⟩
  · cases n with
    | zero => simp [zrun] at h2
    | succ n =>
      rw [zrun, h] at h2
      dsimp only at h2
      cases hr : zrun n d mj (0, zent mj as, [], A2) with
      | none => rw [hr] at h2; simp at h2
      | some y =>
        obtain ⟨r1, B1⟩ := y
        rw [hr] at h2
        dsimp only at h2
        refine ⟨n, r1, B1, hr, ?_⟩
        have e : zafter mi pc0 (pc2, ls2, st2, A2) r1 B1 = zafter mi pc0 (pc2, ls2, st2, B1) r1 B1 := rfl
        unfold zK
        rw [← e]
        cases ha : zafter mi pc0 (pc2, ls2, st2, A2) r1 B1 with
        | none => rw [ha] at h2; simp at h2
        | some b =>
          rw [ha] at h2
          rcases b with ⟨p, l, s, B2⟩ | b | ⟨r2, B2⟩
          · exact ⟨n, r, B, h2, hk⟩
          · simp at h2
          · dsimp only at h2 ⊢
            cases Option.some.inj h2
            exact hk
  · unfold zK at hk
    have e : zafter mi pc0 (pc2, ls2, st2, A2) r B = zafter mi pc0 (pc2, ls2, st2, B) r B := rfl
    rw [← e] at hk
    cases ha : zafter mi pc0 (pc2, ls2, st2, A2) r B with
    | none => rw [ha] at hk; exact hk.elim
    | some b =>
      rw [ha] at hk
      rcases b with ⟨p, l, s, B2⟩ | b | ⟨r2, B2⟩
      · obtain ⟨m, r3, B3, h3, hk3⟩ := hk
        refine ⟨max n m + 1, r3, B3, ?_, hk3⟩
        rw [zrun, h]
        dsimp only
        rw [zrun_le h2 (Nat.le_max_left n m)]
        dsimp only
        rw [ha]
        exact zrun_le h3 (Nat.le_max_right n m)
      · exact hk.elim
      · refine ⟨n + 1, r2, B2, ?_, hk⟩
        rw [zrun, h]
        dsimp only
        rw [h2]
        dsimp only
        rw [ha]
/-- answers -/
abbrev zrV (v : ZV) : ZR := Sum.inl (some v)
abbrev zrN : ZR := Sum.inl none
abbrev zrX (a : Nat) : ZR := Sum.inr a
section KK
variable {d mi pc pc2 : Nat} {ls st : List ZV} {A : AH} {K : ZR → AH → Prop} {v : ZV} {a : Nat}
theorem zK_v : zK d mi pc pc2 ls st K (Sum.inl (some v)) A = zX d mi pc2 ls (v :: st) A K := rfl
theorem zK_n : zK d mi pc pc2 ls st K (Sum.inl none) A = zX d mi pc2 ls st A K := rfl
theorem zK_x (h : tg A a = 5) (hh : zHT mi pc = none) : zK d mi pc pc2 ls st K (Sum.inr a) A = K (Sum.inr a) A := by
  simp [zK, zafter, h, zthrow, hh]
theorem zK_h {p : Nat} (h : tg A a = 5) (hh : zHT mi pc = some (some p)) : zK d mi pc pc2 ls st K (Sum.inr a) A = zX d mi p ls [zR a] A K := by
  simp [zK, zafter, h, zthrow, hh, zgo]
end KK
/-- booleans as ints -/
def zb (b : Bool) : Int := if b then 1 else 0
theorem zb_t : zb true = 1 := rfl
theorem zb_f : zb false = 0 := rfl
theorem zb_0 (b : Bool) : (zb b = 0) = (b = false) := by cases b <;> simp [zb]
theorem zb_1 (b : Bool) : (zb b = 1) = (b = true) := by cases b <;> simp [zb]
theorem zb_e (b c : Bool) : (zb b = zb c) = (b = c) := by cases b <;> cases c <;> simp [zb]
theorem zb_or (b c : Bool) : (Int32.ofInt (zb b) ||| Int32.ofInt (zb c)).toInt = zb (b || c) := by cases b <;> cases c <;> decide
theorem zb_and (b c : Bool) : (Int32.ofInt (zb b) &&& Int32.ofInt (zb c)).toInt = zb (b && c) := by cases b <;> cases c <;> decide
theorem zb_lt (b : Bool) : (zb b < 0) = False := by cases b <;> simp [zb]
theorem zc_I (x : Int) : zc (zI x) = true := rfl
theorem zc_O (o : Option Nat) : zc (zO o) = true := rfl
theorem zw_id {x : Int} (h : -2147483648 ≤ x) (h2 : x < 2147483648) : zw x = x := by
  unfold zw; rw [Int.bmod_def]; omega
section OPS
variable {d mi pc pc2 n : Nat} {ls st : List ZV} {A : AH} {K : ZR → AH → Prop} {cc : ByteArray}
theorem zact_of (hz : zcb mi = cc) {i : Instr} (hd : decode cc pc = .ok (i, n)) (hl : zln i n = true) : zact mi (pc, ls, st, A) = zstep mi pc n ls st A i := by
  unfold zact; rw [hz]; simp only [hd, if_pos hl]
/-- an instruction that goes on -/
theorem zx_go (hz : zcb mi = cc) {i : Instr} (hd : decode cc pc = .ok (i, n)) (hl : zln i n = true) {ls2 st2 : List ZV} {A2 : AH} (h : zstep mi pc n ls st A i = some (Sum.inl (pc2, ls2, st2, A2))) : zX d mi pc ls st A K = zX d mi pc2 ls2 st2 A2 K :=
  zX_go (by rw [zact_of hz hd hl]; exact h)
theorem zx_ret (hz : zcb mi = cc) {i : Instr} (hd : decode cc pc = .ok (i, n)) (hl : zln i n = true) {r : ZR} {A2 : AH} (h : zstep mi pc n ls st A i = some (Sum.inr (Sum.inr (r, A2)))) : zX d mi pc ls st A K = K r A2 :=
  zX_fin (by rw [zact_of hz hd hl]; exact h)
theorem zx_jmp (hz : zcb mi = cc) {i : Instr} (hd : decode cc pc = .ok (i, n)) (hl : zln i n = true) {st2 : List ZV} {off : Int} {b : Bool} {tgt : Nat} (h : zstep mi pc n ls st A i = zjmp b pc n off ls st2 A) (ht : (pc : Int) + off = (tgt : Int)) (hn : pc + n = pc2) : zX d mi pc ls st A K = if b = true then zX d mi tgt ls st2 A K else zX d mi pc2 ls st2 A K := by
  subst hn
  cases b with
  | true => rw [if_pos rfl]; exact zx_go hz hd hl (by rw [h]; simp [zjmp, ht, zgo])
  | false => rw [if_neg (by simp)]; exact zx_go hz hd hl (by rw [h]; simp [zjmp, ht, zgo])
theorem zx_goto (hz : zcb mi = cc) {off : Int} (hd : decode cc pc = .ok (.goto off, 3)) (ht : (pc : Int) + off = (pc2 : Int)) : zX d mi pc ls st A K = zX d mi pc2 ls st A K := by
  rw [zx_jmp (b := true) (pc2 := pc + 3) hz hd rfl (st2 := st) rfl ht rfl, if_pos rfl]
theorem zx_if {c : ClassFile.Cond} (hz : zcb mi = cc) {off : Int} {tgt : Nat} (hd : decode cc pc = .ok (.ifCond c off, 3)) (ht : (pc : Int) + off = (tgt : Int)) (hn : pc + 3 = pc2) {a : Int} : zX d mi pc ls (zI a :: st) A K = if zcmp c a 0 = true then zX d mi tgt ls st A K else zX d mi pc2 ls st A K :=
  zx_jmp hz hd rfl rfl ht hn
theorem zx_ic {c : ClassFile.Cond} (hz : zcb mi = cc) {off : Int} {tgt : Nat} (hd : decode cc pc = .ok (.if_icmp c off, 3)) (ht : (pc : Int) + off = (tgt : Int)) (hn : pc + 3 = pc2) {a b : Int} : zX d mi pc ls (zI b :: zI a :: st) A K = if zcmp c a b = true then zX d mi tgt ls st A K else zX d mi pc2 ls st A K :=
  zx_jmp hz hd rfl rfl ht hn
end OPS
