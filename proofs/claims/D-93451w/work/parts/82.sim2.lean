/-! SIMULATION, III: the opcodes that touch no heap -/
set_option maxRecDepth 100000
/-- what a frame of method mi knows: the machine, its code, the tables' words -/
def zFb (p : Program) (s : State) (m : MethodId) (args : Array Value) (meth : Method) (c : Code) (mi : Nat) : Prop := p.tables.exec = Jvm.exec ∧ c.code = zcb mi ∧ c.maxLocals = zml mi
theorem zall_c {P : ZV → Prop} {v : ZV} {st : List ZV} (h : P v) (h2 : ∀ v ∈ st, P v) : ∀ w ∈ v :: st, P w := fun w hw => (List.mem_cons.mp hw).elim (fun e => by rw [e]; exact h) (h2 w)
theorem zall_h {P : ZV → Prop} {v : ZV} {st : List ZV} (h : ∀ w ∈ v :: st, P w) : P v := h v List.mem_cons_self
theorem zall_t {P : ZV → Prop} {v : ZV} {st : List ZV} (h : ∀ w ∈ v :: st, P w) : ∀ w ∈ st, P w := fun w hw => h w (List.mem_cons_of_mem _ hw)
theorem zall_s {P : ZV → Prop} {v : ZV} {ls : List ZV} {i : Nat} (h : ∀ w ∈ ls, P w) (hv : P v) : ∀ w ∈ ls.set i v, P w := fun w hw => (List.mem_or_eq_of_mem_set hw).elim (h w) (fun e => by rw [e]; exact hv)
theorem zcat1 {Z : ZP} {v : ZV} (h : zc v = true) : (zev Z v).category = 1 := by
  rcases v with x | x | (_ | x) | x <;> first | rfl | cases h
theorem zr32_i8 (x : Int8) : zr32 x.toInt := ⟨by have := Int8.le_toInt x; omega, by have := Int8.toInt_lt x; omega⟩
theorem zr32_i16 (x : Int16) : zr32 x.toInt := ⟨by have := Int16.le_toInt x; omega, by have := Int16.toInt_lt x; omega⟩
theorem zo_i8 (v : Int) : (Int8.ofInt v).toInt32 = Int32.ofInt (Int8.ofInt v).toInt := by
  apply Int32.toInt_inj.mp; rw [zr32_of (zr32_i8 _), Int8.toInt_toInt32]
theorem zo_i16 (v : Int) : (Int16.ofInt v).toInt32 = Int32.ofInt (Int16.ofInt v).toInt := by
  apply Int32.toInt_inj.mp; rw [zr32_of (zr32_i16 _), Int16.toInt_toInt32]
theorem zo_hb (a : Int) : (Int32.ofInt a).toInt8.toInt32 = Int32.ofInt (zhb a) := by
  apply Int32.toInt_inj.mp; unfold zhb; rw [zr32_of (zr32_i8 _), Int8.toInt_toInt32]
theorem zo_64 {a : Int} (h : zr32 a) : (Int32.ofInt a).toInt64 = Int64.ofInt a := by
  apply Int64.toInt_inj.mp; rw [Int32.toInt_toInt64, zr32_of h, zr64_of (by unfold zr32 at h; unfold zr64; omega)]
theorem zr32_cmp (a b : Int) : zr32 (if a < b then -1 else if a = b then 0 else 1) := by
  unfold zr32
  split
  · omega
  · split <;> omega
theorem zo_cmp {a b : Int} (ha : zr64 a) (hb : zr64 b) : Int32.ofInt (if a < b then -1 else if a = b then 0 else 1) = lg_cmp (Int64.ofInt a) (Int64.ofInt b) := by
  unfold lg_cmp
  simp only [gt_iff_lt, Int64.lt_iff_toInt_lt, ← Int64.toInt_inj, zr64_of ha, zr64_of hb]
  rcases Int.lt_trichotomy a b with q | q | q
  · rw [if_pos q, if_neg (by omega), if_neg (by omega)]; rfl
  · rw [if_neg (by omega), if_pos q, if_neg (by omega), if_pos q]; rfl
  · rw [if_neg (by omega), if_neg (by omega), if_pos q]; rfl
section SIM
variable {Z : ZP} {p : Program} {l : Launch} {e : Env} {R : Room} {s : State} {m : MethodId} {args : Array Value} {below : List Frame} {meth : Method} {c : Code} {mi : Nat} {As : AH} {Q : State → Prop} {pc : Nat} {ls st : List ZV} {A : AH}
theorem g_iconst (hx : p.tables.exec = Jvm.exec) (hb : c.code = zcb mi) {v : Int} (hd : decode (zcb mi) pc = .ok (.iconst v, 1)) (k : zG Z p l e R s m args below meth c mi As Q (pc + 1) ls (zI (Int32.ofInt v).toInt :: st) A) : zG Z p l e R s m args below meth c mi As Q pc ls st A := by
  intro h1 h2 h3 rls H locs h4 h5 h6 h7
  exact lv_iconst hx hb hd (zo_to _).symm (k h1 (zall_c (v := zI (Int32.ofInt v).toInt) (zr32_to _) h2) h3 rls H locs h4 h5 h6 h7)
theorem g_bipush (hx : p.tables.exec = Jvm.exec) (hb : c.code = zcb mi) {v : Int} (hd : decode (zcb mi) pc = .ok (.bipush v, 2)) (k : zG Z p l e R s m args below meth c mi As Q (pc + 2) ls (zI (Int8.ofInt v).toInt :: st) A) : zG Z p l e R s m args below meth c mi As Q pc ls st A := by
  intro h1 h2 h3 rls H locs h4 h5 h6 h7
  exact lv_bipush hx hb hd (zo_i8 _) (k h1 (zall_c (v := zI (Int8.ofInt v).toInt) (zr32_i8 _) h2) h3 rls H locs h4 h5 h6 h7)
theorem g_sipush (hx : p.tables.exec = Jvm.exec) (hb : c.code = zcb mi) {v : Int} (hd : decode (zcb mi) pc = .ok (.sipush v, 3)) (k : zG Z p l e R s m args below meth c mi As Q (pc + 3) ls (zI (Int16.ofInt v).toInt :: st) A) : zG Z p l e R s m args below meth c mi As Q pc ls st A := by
  intro h1 h2 h3 rls H locs h4 h5 h6 h7
  exact lv_sipush hx hb hd (zo_i16 _) (k h1 (zall_c (v := zI (Int16.ofInt v).toInt) (zr32_i16 _) h2) h3 rls H locs h4 h5 h6 h7)
theorem g_lconst (hx : p.tables.exec = Jvm.exec) (hb : c.code = zcb mi) {v : Fin 2} (hd : decode (zcb mi) pc = .ok (.lconst v, 1)) (k : zG Z p l e R s m args below meth c mi As Q (pc + 1) ls (zL (v : Nat) :: st) A) : zG Z p l e R s m args below meth c mi As Q pc ls st A := by
  intro h1 h2 h3 rls H locs h4 h5 h6 h7
  exact lv_lconst hx hb hd rfl (k h1 (zall_c (v := zL (v : Nat)) (show zr64 _ from ⟨by omega, by omega⟩) h2) h3 rls H locs h4 h5 h6 h7)
theorem g_null (hx : p.tables.exec = Jvm.exec) (hb : c.code = zcb mi) (hd : decode (zcb mi) pc = .ok (.aconst_null, 1)) (k : zG Z p l e R s m args below meth c mi As Q (pc + 1) ls (zO none :: st) A) : zG Z p l e R s m args below meth c mi As Q pc ls st A := by
  intro h1 h2 h3 rls H locs h4 h5 h6 h7
  exact lv_null hx hb hd (k h1 (zall_c (v := zO none) trivial h2) h3 rls H locs h4 h5 h6 h7)
theorem g_iload (hx : p.tables.exec = Jvm.exec) (hb : c.code = zcb mi) {i : Nat} {x : Int} (hd : decode (zcb mi) pc = .ok (.iload i, 2)) (hl : ls[(i : Nat)]? = some (zI x)) (k : zG Z p l e R s m args below meth c mi As Q (pc + 2) ls (zI x :: st) A) : zG Z p l e R s m args below meth c mi As Q pc ls st A := by
  intro h1 h2 h3 rls H locs h4 h5 h6 h7
  exact lv_iload hx hb hd (zLk_int h4 hl) (k h1 (zall_c (v := zI x) (h1 _ (List.mem_of_getElem? hl)) h2) h3 rls H locs h4 h5 h6 h7)
theorem g_iload_n (hx : p.tables.exec = Jvm.exec) (hb : c.code = zcb mi) {i : Fin 4} {x : Int} (hd : decode (zcb mi) pc = .ok (.iload_n i, 1)) (hl : ls[(i : Nat)]? = some (zI x)) (k : zG Z p l e R s m args below meth c mi As Q (pc + 1) ls (zI x :: st) A) : zG Z p l e R s m args below meth c mi As Q pc ls st A := by
  intro h1 h2 h3 rls H locs h4 h5 h6 h7
  exact lv_iload_n hx hb hd rfl (zLk_int h4 hl) (k h1 (zall_c (v := zI x) (h1 _ (List.mem_of_getElem? hl)) h2) h3 rls H locs h4 h5 h6 h7)
theorem g_aload (hx : p.tables.exec = Jvm.exec) (hb : c.code = zcb mi) {i : Nat} {o : Option Nat} (hd : decode (zcb mi) pc = .ok (.aload i, 2)) (hl : ls[(i : Nat)]? = some (zO o)) (k : zG Z p l e R s m args below meth c mi As Q (pc + 2) ls (zO o :: st) A) : zG Z p l e R s m args below meth c mi As Q pc ls st A := by
  intro h1 h2 h3 rls H locs h4 h5 h6 h7
  have hk := k h1 (zall_c (v := zO o) trivial h2) h3 rls H locs h4 h5 h6 h7
  have hl2 := zLk_ref h4 hl
  cases o with
  | none => exact lv_aloadN hx hb hd hl2 hk
  | some a => exact lv_aload hx hb hd hl2 hk
theorem g_aload_n (hx : p.tables.exec = Jvm.exec) (hb : c.code = zcb mi) {i : Fin 4} {o : Option Nat} (hd : decode (zcb mi) pc = .ok (.aload_n i, 1)) (hl : ls[(i : Nat)]? = some (zO o)) (k : zG Z p l e R s m args below meth c mi As Q (pc + 1) ls (zO o :: st) A) : zG Z p l e R s m args below meth c mi As Q pc ls st A := by
  intro h1 h2 h3 rls H locs h4 h5 h6 h7
  have hk := k h1 (zall_c (v := zO o) trivial h2) h3 rls H locs h4 h5 h6 h7
  have hl2 := zLk_ref h4 hl
  cases o with
  | none => exact lv_aload_nN hx hb hd rfl hl2 hk
  | some a => exact lv_aload_n hx hb hd rfl hl2 hk
theorem g_istore (hx : p.tables.exec = Jvm.exec) (hb : c.code = zcb mi) {i : Nat} {x : Int} (hd : decode (zcb mi) pc = .ok (.istore i, 2)) (hl : (i : Nat) < ls.length) (k : zG Z p l e R s m args below meth c mi As Q (pc + 2) (ls.set i (zI x)) st A) : zG Z p l e R s m args below meth c mi As Q pc ls (zI x :: st) A := by
  intro h1 h2 h3 rls H locs h4 h5 h6 h7
  exact lv_istore hx hb hd h4 (by rw [← h5]; exact hl) rfl (fun rls' h4' => k (zall_s (v := zI x) h1 (zall_h (P := zsok) h2)) (zall_t h2) h3 rls' H locs (zLk_set (v := zI x) (zall_h (P := zsok) h2) (fun q => by cases q) h1 h4') (by rw [List.length_set]; exact h5) h6 h7)
theorem g_istore_n (hx : p.tables.exec = Jvm.exec) (hb : c.code = zcb mi) {i : Fin 4} {x : Int} (hd : decode (zcb mi) pc = .ok (.istore_n i, 1)) (hl : (i : Nat) < ls.length) (k : zG Z p l e R s m args below meth c mi As Q (pc + 1) (ls.set i (zI x)) st A) : zG Z p l e R s m args below meth c mi As Q pc ls (zI x :: st) A := by
  intro h1 h2 h3 rls H locs h4 h5 h6 h7
  exact lv_istore_n hx hb hd rfl h4 (by rw [← h5]; exact hl) rfl (fun rls' h4' => k (zall_s (v := zI x) h1 (zall_h (P := zsok) h2)) (zall_t h2) h3 rls' H locs (zLk_set (v := zI x) (zall_h (P := zsok) h2) (fun q => by cases q) h1 h4') (by rw [List.length_set]; exact h5) h6 h7)
theorem g_astore (hx : p.tables.exec = Jvm.exec) (hb : c.code = zcb mi) {i : Nat} {o : Option Nat} (hd : decode (zcb mi) pc = .ok (.astore i, 2)) (hl : (i : Nat) < ls.length) (k : zG Z p l e R s m args below meth c mi As Q (pc + 2) (ls.set i (zO o)) st A) : zG Z p l e R s m args below meth c mi As Q pc ls (zO o :: st) A := by
  intro h1 h2 h3 rls H locs h4 h5 h6 h7
  have hk := fun (rls' : Array Slot) (h4' : lv_has rls' (zml mi) ((i, zev Z (zO o)) :: (zLk Z ls).filter (fun q => !(q.1 == (i : Nat)) && !(q.1 + 1 == (i : Nat) && q.2.category == 2)))) => k (zall_s (v := zO o) h1 trivial) (zall_t h2) h3 rls' H locs (zLk_set (v := zO o) trivial (fun q => by cases q) h1 h4') (by rw [List.length_set]; exact h5) h6 h7
  cases o with
  | none => exact lv_astoreN hx hb hd h4 (by rw [← h5]; exact hl) rfl hk
  | some a => exact lv_astore hx hb hd h4 (by rw [← h5]; exact hl) rfl hk
theorem g_astore_n (hx : p.tables.exec = Jvm.exec) (hb : c.code = zcb mi) {i : Fin 4} {o : Option Nat} (hd : decode (zcb mi) pc = .ok (.astore_n i, 1)) (hl : (i : Nat) < ls.length) (k : zG Z p l e R s m args below meth c mi As Q (pc + 1) (ls.set i (zO o)) st A) : zG Z p l e R s m args below meth c mi As Q pc ls (zO o :: st) A := by
  intro h1 h2 h3 rls H locs h4 h5 h6 h7
  have hk := fun (rls' : Array Slot) (h4' : lv_has rls' (zml mi) ((i, zev Z (zO o)) :: (zLk Z ls).filter (fun q => !(q.1 == (i : Nat)) && !(q.1 + 1 == (i : Nat) && q.2.category == 2)))) => k (zall_s (v := zO o) h1 trivial) (zall_t h2) h3 rls' H locs (zLk_set (v := zO o) trivial (fun q => by cases q) h1 h4') (by rw [List.length_set]; exact h5) h6 h7
  cases o with
  | none => exact lv_astore_nN hx hb hd rfl h4 (by rw [← h5]; exact hl) rfl hk
  | some a => exact lv_astore_n hx hb hd rfl h4 (by rw [← h5]; exact hl) rfl hk
theorem g_iinc (hx : p.tables.exec = Jvm.exec) (hb : c.code = zcb mi) {i : Nat} {v x : Int} (hd : decode (zcb mi) pc = .ok (.iinc i v, 3)) (hl : ls[i]? = some (zI x)) (k : zG Z p l e R s m args below meth c mi As Q (pc + 3) (ls.set i (zI (zw (x + v)))) st A) : zG Z p l e R s m args below meth c mi As Q pc ls st A := by
  intro h1 h2 h3 rls H locs h4 h5 h6 h7
  have hm : (i, Value.int (Int32.ofInt x)) ∈ zLk Z ls := zLk_mem.mpr (by unfold zLv; rw [hl]; rfl)
  obtain ⟨j, hj⟩ := List.getElem?_of_mem hm
  exact lv_iinc hx hb hd h4 hj (zo_add x v) (by rw [← h5]; exact (List.getElem?_eq_some_iff.mp hl).1) rfl (fun rls' h4' => k (zall_s h1 (v := zI (zw (x + v))) (zr32_zw _)) h2 h3 rls' H locs (zLk_set (v := zI (zw (x + v))) (zr32_zw _) (fun q => by cases q) h1 h4') (by rw [List.length_set]; exact h5) h6 h7)
theorem g_iadd (hx : p.tables.exec = Jvm.exec) (hb : c.code = zcb mi) {a b : Int} (hd : decode (zcb mi) pc = .ok (.iadd, 1)) (k : zG Z p l e R s m args below meth c mi As Q (pc + 1) ls (zI (zw (a + b)) :: st) A) : zG Z p l e R s m args below meth c mi As Q pc ls (zI b :: zI a :: st) A := by
  intro h1 h2 h3 rls H locs h4 h5 h6 h7
  have hk := k h1 (zall_c (v := zI (zw (a + b))) (zr32_zw _) (zall_t (zall_t h2))) h3 rls H locs h4 h5 h6 h7
  rw [List.map_cons, zev_I, ← zo_add a b] at hk
  exact lv_iadd hx hb hd hk
theorem g_isub (hx : p.tables.exec = Jvm.exec) (hb : c.code = zcb mi) {a b : Int} (hd : decode (zcb mi) pc = .ok (.isub, 1)) (k : zG Z p l e R s m args below meth c mi As Q (pc + 1) ls (zI (zw (a - b)) :: st) A) : zG Z p l e R s m args below meth c mi As Q pc ls (zI b :: zI a :: st) A := by
  intro h1 h2 h3 rls H locs h4 h5 h6 h7
  have hk := k h1 (zall_c (v := zI (zw (a - b))) (zr32_zw _) (zall_t (zall_t h2))) h3 rls H locs h4 h5 h6 h7
  rw [List.map_cons, zev_I, ← zo_sub a b] at hk
  exact lv_isub hx hb hd hk
theorem g_imul (hx : p.tables.exec = Jvm.exec) (hb : c.code = zcb mi) {a b : Int} (hd : decode (zcb mi) pc = .ok (.imul, 1)) (k : zG Z p l e R s m args below meth c mi As Q (pc + 1) ls (zI (zw (a * b)) :: st) A) : zG Z p l e R s m args below meth c mi As Q pc ls (zI b :: zI a :: st) A := by
  intro h1 h2 h3 rls H locs h4 h5 h6 h7
  have hk := k h1 (zall_c (v := zI (zw (a * b))) (zr32_zw _) (zall_t (zall_t h2))) h3 rls H locs h4 h5 h6 h7
  rw [List.map_cons, zev_I, ← zo_mul a b] at hk
  exact lv_imul hx hb hd hk
theorem g_iand (hx : p.tables.exec = Jvm.exec) (hb : c.code = zcb mi) {a b : Int} (hd : decode (zcb mi) pc = .ok (.iand, 1)) (k : zG Z p l e R s m args below meth c mi As Q (pc + 1) ls (zI (Int32.ofInt a &&& Int32.ofInt b).toInt :: st) A) : zG Z p l e R s m args below meth c mi As Q pc ls (zI b :: zI a :: st) A := by
  intro h1 h2 h3 rls H locs h4 h5 h6 h7
  have hk := k h1 (zall_c (v := zI (Int32.ofInt a &&& Int32.ofInt b).toInt) (zr32_to _) (zall_t (zall_t h2))) h3 rls H locs h4 h5 h6 h7
  rw [List.map_cons, zev_I, zo_to] at hk
  exact lv_iand hx hb hd hk
theorem g_ior (hx : p.tables.exec = Jvm.exec) (hb : c.code = zcb mi) {a b : Int} (hd : decode (zcb mi) pc = .ok (.ior, 1)) (k : zG Z p l e R s m args below meth c mi As Q (pc + 1) ls (zI (Int32.ofInt a ||| Int32.ofInt b).toInt :: st) A) : zG Z p l e R s m args below meth c mi As Q pc ls (zI b :: zI a :: st) A := by
  intro h1 h2 h3 rls H locs h4 h5 h6 h7
  have hk := k h1 (zall_c (v := zI (Int32.ofInt a ||| Int32.ofInt b).toInt) (zr32_to _) (zall_t (zall_t h2))) h3 rls H locs h4 h5 h6 h7
  rw [List.map_cons, zev_I, zo_to] at hk
  exact lv_ior hx hb hd hk
theorem g_ishl (hx : p.tables.exec = Jvm.exec) (hb : c.code = zcb mi) {a b : Int} (hd : decode (zcb mi) pc = .ok (.ishl, 1)) (k : zG Z p l e R s m args below meth c mi As Q (pc + 1) ls (zI (Int32.ofInt a <<< (Int32.ofInt b &&& 31)).toInt :: st) A) : zG Z p l e R s m args below meth c mi As Q pc ls (zI b :: zI a :: st) A := by
  intro h1 h2 h3 rls H locs h4 h5 h6 h7
  have hk := k h1 (zall_c (v := zI (Int32.ofInt a <<< (Int32.ofInt b &&& 31)).toInt) (zr32_to _) (zall_t (zall_t h2))) h3 rls H locs h4 h5 h6 h7
  rw [List.map_cons, zev_I, zo_to] at hk
  exact lv_ishl hx hb hd hk
theorem g_ishr (hx : p.tables.exec = Jvm.exec) (hb : c.code = zcb mi) {a b : Int} (hd : decode (zcb mi) pc = .ok (.ishr, 1)) (k : zG Z p l e R s m args below meth c mi As Q (pc + 1) ls (zI (Int32.ofInt a >>> (Int32.ofInt b &&& 31)).toInt :: st) A) : zG Z p l e R s m args below meth c mi As Q pc ls (zI b :: zI a :: st) A := by
  intro h1 h2 h3 rls H locs h4 h5 h6 h7
  have hk := k h1 (zall_c (v := zI (Int32.ofInt a >>> (Int32.ofInt b &&& 31)).toInt) (zr32_to _) (zall_t (zall_t h2))) h3 rls H locs h4 h5 h6 h7
  rw [List.map_cons, zev_I, zo_to] at hk
  exact lv_ishr hx hb hd hk
theorem g_iushr (hx : p.tables.exec = Jvm.exec) (hb : c.code = zcb mi) {a b : Int} (hd : decode (zcb mi) pc = .ok (.iushr, 1)) (k : zG Z p l e R s m args below meth c mi As Q (pc + 1) ls (zI (((Int32.ofInt a).toUInt32 >>> ((Int32.ofInt b).toUInt32 &&& Int32.toUInt32 31)).toInt32).toInt :: st) A) : zG Z p l e R s m args below meth c mi As Q pc ls (zI b :: zI a :: st) A := by
  intro h1 h2 h3 rls H locs h4 h5 h6 h7
  have hk := k h1 (zall_c (v := zI (((Int32.ofInt a).toUInt32 >>> ((Int32.ofInt b).toUInt32 &&& Int32.toUInt32 31)).toInt32).toInt) (zr32_to _) (zall_t (zall_t h2))) h3 rls H locs h4 h5 h6 h7
  rw [List.map_cons, zev_I, zo_to] at hk
  exact lv_iushr hx hb hd rfl hk
theorem g_idiv (hx : p.tables.exec = Jvm.exec) (hb : c.code = zcb mi) {a b : Int} (hd : decode (zcb mi) pc = .ok (.idiv, 1)) (h0 : b ≠ 0) (k : zG Z p l e R s m args below meth c mi As Q (pc + 1) ls (zI (Int32.ofInt a / Int32.ofInt b).toInt :: st) A) : zG Z p l e R s m args below meth c mi As Q pc ls (zI b :: zI a :: st) A := by
  intro h1 h2 h3 rls H locs h4 h5 h6 h7
  have hk := k h1 (zall_c (v := zI (Int32.ofInt a / Int32.ofInt b).toInt) (zr32_to _) (zall_t (zall_t h2))) h3 rls H locs h4 h5 h6 h7
  rw [List.map_cons, zev_I, zo_to] at hk
  exact lv_idiv hx hb hd (fun q => h0 ((zo_eq (b := 0) (zall_h h2) zr32_0).mp q)) hk
theorem g_irem (hx : p.tables.exec = Jvm.exec) (hb : c.code = zcb mi) {a b : Int} (hd : decode (zcb mi) pc = .ok (.irem, 1)) (h0 : b ≠ 0) (k : zG Z p l e R s m args below meth c mi As Q (pc + 1) ls (zI (Int32.ofInt a - Int32.ofInt a / Int32.ofInt b * Int32.ofInt b).toInt :: st) A) : zG Z p l e R s m args below meth c mi As Q pc ls (zI b :: zI a :: st) A := by
  intro h1 h2 h3 rls H locs h4 h5 h6 h7
  have hk := k h1 (zall_c (v := zI (Int32.ofInt a - Int32.ofInt a / Int32.ofInt b * Int32.ofInt b).toInt) (zr32_to _) (zall_t (zall_t h2))) h3 rls H locs h4 h5 h6 h7
  rw [List.map_cons, zev_I, zo_to] at hk
  exact lv_irem hx hb hd (fun q => h0 ((zo_eq (b := 0) (zall_h h2) zr32_0).mp q)) hk
theorem g_i2b (hx : p.tables.exec = Jvm.exec) (hb : c.code = zcb mi) {a : Int} (hd : decode (zcb mi) pc = .ok (.i2b, 1)) (k : zG Z p l e R s m args below meth c mi As Q (pc + 1) ls (zI (zhb a) :: st) A) : zG Z p l e R s m args below meth c mi As Q pc ls (zI a :: st) A := by
  intro h1 h2 h3 rls H locs h4 h5 h6 h7
  exact lv_i2b hx hb hd (zo_hb a) (k h1 (zall_c (v := zI (zhb a)) (zr32_i8 _) (zall_t h2)) h3 rls H locs h4 h5 h6 h7)
theorem g_i2c (hx : p.tables.exec = Jvm.exec) (hb : c.code = zcb mi) {a : Int} (hd : decode (zcb mi) pc = .ok (.i2c, 1)) (k : zG Z p l e R s m args below meth c mi As Q (pc + 1) ls (zI (((Int32.ofInt a).toUInt32 % 65536).toInt32).toInt :: st) A) : zG Z p l e R s m args below meth c mi As Q pc ls (zI a :: st) A := by
  intro h1 h2 h3 rls H locs h4 h5 h6 h7
  have hk := k h1 (zall_c (v := zI (((Int32.ofInt a).toUInt32 % 65536).toInt32).toInt) (zr32_to _) (zall_t h2)) h3 rls H locs h4 h5 h6 h7
  rw [List.map_cons, zev_I, zo_to] at hk
  exact lv_i2c hx hb hd rfl hk
theorem g_i2l (hx : p.tables.exec = Jvm.exec) (hb : c.code = zcb mi) {a : Int} (hd : decode (zcb mi) pc = .ok (.i2l, 1)) (k : zG Z p l e R s m args below meth c mi As Q (pc + 1) ls (zL a :: st) A) : zG Z p l e R s m args below meth c mi As Q pc ls (zI a :: st) A := by
  intro h1 h2 h3 rls H locs h4 h5 h6 h7
  have ha : zr32 a := zall_h h2
  exact lv_i2l hx hb hd (zo_64 ha) (k h1 (zall_c (v := zL a) (show zr64 a by unfold zr32 at ha; unfold zr64; omega) (zall_t h2)) h3 rls H locs h4 h5 h6 h7)
theorem g_land (hx : p.tables.exec = Jvm.exec) (hb : c.code = zcb mi) {a b : Int} (hd : decode (zcb mi) pc = .ok (.land, 1)) (k : zG Z p l e R s m args below meth c mi As Q (pc + 1) ls (zL (Int64.ofInt a &&& Int64.ofInt b).toInt :: st) A) : zG Z p l e R s m args below meth c mi As Q pc ls (zL b :: zL a :: st) A := by
  intro h1 h2 h3 rls H locs h4 h5 h6 h7
  have hk := k h1 (zall_c (v := zL (Int64.ofInt a &&& Int64.ofInt b).toInt) (zr64_to _) (zall_t (zall_t h2))) h3 rls H locs h4 h5 h6 h7
  rw [List.map_cons, zev_L, zo_to64] at hk
  exact lv_land hx hb hd hk
theorem g_lor (hx : p.tables.exec = Jvm.exec) (hb : c.code = zcb mi) {a b : Int} (hd : decode (zcb mi) pc = .ok (.lor, 1)) (k : zG Z p l e R s m args below meth c mi As Q (pc + 1) ls (zL (Int64.ofInt a ||| Int64.ofInt b).toInt :: st) A) : zG Z p l e R s m args below meth c mi As Q pc ls (zL b :: zL a :: st) A := by
  intro h1 h2 h3 rls H locs h4 h5 h6 h7
  have hk := k h1 (zall_c (v := zL (Int64.ofInt a ||| Int64.ofInt b).toInt) (zr64_to _) (zall_t (zall_t h2))) h3 rls H locs h4 h5 h6 h7
  rw [List.map_cons, zev_L, zo_to64] at hk
  exact lv_lor hx hb hd hk
theorem g_lxor (hx : p.tables.exec = Jvm.exec) (hb : c.code = zcb mi) {a b : Int} (hd : decode (zcb mi) pc = .ok (.lxor, 1)) (k : zG Z p l e R s m args below meth c mi As Q (pc + 1) ls (zL (Int64.ofInt a ^^^ Int64.ofInt b).toInt :: st) A) : zG Z p l e R s m args below meth c mi As Q pc ls (zL b :: zL a :: st) A := by
  intro h1 h2 h3 rls H locs h4 h5 h6 h7
  have hk := k h1 (zall_c (v := zL (Int64.ofInt a ^^^ Int64.ofInt b).toInt) (zr64_to _) (zall_t (zall_t h2))) h3 rls H locs h4 h5 h6 h7
  rw [List.map_cons, zev_L, zo_to64] at hk
  exact lv_lxor hx hb hd hk
theorem g_lshl (hx : p.tables.exec = Jvm.exec) (hb : c.code = zcb mi) {a b : Int} (hd : decode (zcb mi) pc = .ok (.lshl, 1)) (k : zG Z p l e R s m args below meth c mi As Q (pc + 1) ls (zL (Int64.ofInt a <<< ((Int32.ofInt b).toInt64 &&& 63)).toInt :: st) A) : zG Z p l e R s m args below meth c mi As Q pc ls (zI b :: zL a :: st) A := by
  intro h1 h2 h3 rls H locs h4 h5 h6 h7
  have hk := k h1 (zall_c (v := zL (Int64.ofInt a <<< ((Int32.ofInt b).toInt64 &&& 63)).toInt) (zr64_to _) (zall_t (zall_t h2))) h3 rls H locs h4 h5 h6 h7
  rw [List.map_cons, zev_L, zo_to64] at hk
  exact lv_lshl hx hb hd rfl hk
theorem g_lshr (hx : p.tables.exec = Jvm.exec) (hb : c.code = zcb mi) {a b : Int} (hd : decode (zcb mi) pc = .ok (.lshr, 1)) (k : zG Z p l e R s m args below meth c mi As Q (pc + 1) ls (zL (Int64.ofInt a >>> ((Int32.ofInt b).toInt64 &&& 63)).toInt :: st) A) : zG Z p l e R s m args below meth c mi As Q pc ls (zI b :: zL a :: st) A := by
  intro h1 h2 h3 rls H locs h4 h5 h6 h7
  have hk := k h1 (zall_c (v := zL (Int64.ofInt a >>> ((Int32.ofInt b).toInt64 &&& 63)).toInt) (zr64_to _) (zall_t (zall_t h2))) h3 rls H locs h4 h5 h6 h7
  rw [List.map_cons, zev_L, zo_to64] at hk
  exact lv_lshr hx hb hd rfl hk
theorem g_lcmp (hx : p.tables.exec = Jvm.exec) (hb : c.code = zcb mi) {a b : Int} (hd : decode (zcb mi) pc = .ok (.lcmp, 1)) (k : zG Z p l e R s m args below meth c mi As Q (pc + 1) ls (zI (if a < b then -1 else if a = b then 0 else 1) :: st) A) : zG Z p l e R s m args below meth c mi As Q pc ls (zL b :: zL a :: st) A := by
  intro h1 h2 h3 rls H locs h4 h5 h6 h7
  have hk := k h1 (zall_c (v := zI (if a < b then -1 else if a = b then 0 else 1)) (zr32_cmp a b) (zall_t (zall_t h2))) h3 rls H locs h4 h5 h6 h7
  rw [List.map_cons, zev_I, zo_cmp (zall_h (zall_t h2)) (zall_h h2)] at hk
  exact W.lcmp hx hb hd hk
theorem g_dup (hx : p.tables.exec = Jvm.exec) (hb : c.code = zcb mi) {v : ZV} (hd : decode (zcb mi) pc = .ok (.dup, 1)) (hv : zc v = true) (k : zG Z p l e R s m args below meth c mi As Q (pc + 1) ls (v :: v :: st) A) : zG Z p l e R s m args below meth c mi As Q pc ls (v :: st) A := by
  intro h1 h2 h3 rls H locs h4 h5 h6 h7
  exact lv_dup hx hb hd (zcat1 hv) (k h1 (zall_c (zall_h h2) h2) h3 rls H locs h4 h5 h6 h7)
theorem g_dup_x1 (hx : p.tables.exec = Jvm.exec) (hb : c.code = zcb mi) {v u : ZV} (hd : decode (zcb mi) pc = .ok (.dup_x1, 1)) (hv : zc v = true) (hu : zc u = true) (k : zG Z p l e R s m args below meth c mi As Q (pc + 1) ls (v :: u :: v :: st) A) : zG Z p l e R s m args below meth c mi As Q pc ls (v :: u :: st) A := by
  intro h1 h2 h3 rls H locs h4 h5 h6 h7
  exact lv_dup_x1 hx hb hd (zcat1 hv) (zcat1 hu) (k h1 (zall_c (zall_h h2) (zall_c (zall_h (zall_t h2)) (zall_c (zall_h h2) (zall_t (zall_t h2))))) h3 rls H locs h4 h5 h6 h7)
theorem g_dup2 (hx : p.tables.exec = Jvm.exec) (hb : c.code = zcb mi) {v u : ZV} (hd : decode (zcb mi) pc = .ok (.dup2, 1)) (hv : zc v = true) (hu : zc u = true) (k : zG Z p l e R s m args below meth c mi As Q (pc + 1) ls (v :: u :: v :: u :: st) A) : zG Z p l e R s m args below meth c mi As Q pc ls (v :: u :: st) A := by
  intro h1 h2 h3 rls H locs h4 h5 h6 h7
  exact lv_dup2_11 hx hb hd (zcat1 hv) (zcat1 hu) (k h1 (zall_c (zall_h h2) (zall_c (zall_h (zall_t h2)) h2)) h3 rls H locs h4 h5 h6 h7)
theorem g_pop (hx : p.tables.exec = Jvm.exec) (hb : c.code = zcb mi) {v : ZV} (hd : decode (zcb mi) pc = .ok (.pop, 1)) (hv : zc v = true) (k : zG Z p l e R s m args below meth c mi As Q (pc + 1) ls st A) : zG Z p l e R s m args below meth c mi As Q pc ls (v :: st) A := by
  intro h1 h2 h3 rls H locs h4 h5 h6 h7
  exact lv_pop hx hb hd (zcat1 hv) (k h1 (zall_t h2) h3 rls H locs h4 h5 h6 h7)
theorem zjmp_s {b : Bool} {n : Nat} {off : Int} {a : ZAct} (h : zjmp b pc n off ls st A = some a) : ∃ t : Nat, (pc : Int) + off = (t : Int) ∧ a = Sum.inl ((if b then t else pc + n), ls, st, A) := by
  unfold zjmp at h
  split at h
  · rename_i t ht
    exact ⟨t, ht, (Option.some.inj h).symm⟩
  · cases h
theorem g_if_eq (hx : p.tables.exec = Jvm.exec) (hb : c.code = zcb mi) {a off : Int} (hd : decode (zcb mi) pc = .ok (.ifCond .eq off, 3)) {t : Nat} (ht : (pc : Int) + off = (t : Int)) (k : zG Z p l e R s m args below meth c mi As Q (if zcmp .eq a 0 then t else pc + 3) ls st A) : zG Z p l e R s m args below meth c mi As Q pc ls (zI a :: st) A := by
  intro h1 h2 h3 rls H locs h4 h5 h6 h7
  refine lv_if_eq hx hb hd ht (fun z => ?_) (fun z => ?_)
  · rw [show zcmp .eq a 0 = true from decide_eq_true ((zo_eq (zall_h h2) zr32_0).mp z), if_pos rfl] at k
    exact k h1 (zall_t h2) h3 rls H locs h4 h5 h6 h7
  · rw [show zcmp .eq a 0 = false from decide_eq_false (fun w => z ((zo_eq (zall_h h2) zr32_0).mpr w)), if_neg (by decide)] at k
    exact k h1 (zall_t h2) h3 rls H locs h4 h5 h6 h7
theorem g_ic_eq (hx : p.tables.exec = Jvm.exec) (hb : c.code = zcb mi) {a b off : Int} (hd : decode (zcb mi) pc = .ok (.if_icmp .eq off, 3)) {t : Nat} (ht : (pc : Int) + off = (t : Int)) (k : zG Z p l e R s m args below meth c mi As Q (if zcmp .eq a b then t else pc + 3) ls st A) : zG Z p l e R s m args below meth c mi As Q pc ls (zI b :: zI a :: st) A := by
  intro h1 h2 h3 rls H locs h4 h5 h6 h7
  refine lv_icmp_eq hx hb hd ht (fun z => ?_) (fun z => ?_)
  · rw [show zcmp .eq a b = true from decide_eq_true ((zo_eq (zall_h (zall_t h2)) (zall_h h2)).mp z), if_pos rfl] at k
    exact k h1 (zall_t (zall_t h2)) h3 rls H locs h4 h5 h6 h7
  · rw [show zcmp .eq a b = false from decide_eq_false (fun w => z ((zo_eq (zall_h (zall_t h2)) (zall_h h2)).mpr w)), if_neg (by decide)] at k
    exact k h1 (zall_t (zall_t h2)) h3 rls H locs h4 h5 h6 h7
theorem g_if_ne (hx : p.tables.exec = Jvm.exec) (hb : c.code = zcb mi) {a off : Int} (hd : decode (zcb mi) pc = .ok (.ifCond .ne off, 3)) {t : Nat} (ht : (pc : Int) + off = (t : Int)) (k : zG Z p l e R s m args below meth c mi As Q (if zcmp .ne a 0 then t else pc + 3) ls st A) : zG Z p l e R s m args below meth c mi As Q pc ls (zI a :: st) A := by
  intro h1 h2 h3 rls H locs h4 h5 h6 h7
  refine lv_if_ne hx hb hd ht (fun z => ?_) (fun z => ?_)
  · rw [show zcmp .ne a 0 = true from decide_eq_true ((not_congr (zo_eq (zall_h h2) zr32_0)).mp z), if_pos rfl] at k
    exact k h1 (zall_t h2) h3 rls H locs h4 h5 h6 h7
  · rw [show zcmp .ne a 0 = false from decide_eq_false (fun w => ((not_congr (zo_eq (zall_h h2) zr32_0)).mpr w) z), if_neg (by decide)] at k
    exact k h1 (zall_t h2) h3 rls H locs h4 h5 h6 h7
theorem g_ic_ne (hx : p.tables.exec = Jvm.exec) (hb : c.code = zcb mi) {a b off : Int} (hd : decode (zcb mi) pc = .ok (.if_icmp .ne off, 3)) {t : Nat} (ht : (pc : Int) + off = (t : Int)) (k : zG Z p l e R s m args below meth c mi As Q (if zcmp .ne a b then t else pc + 3) ls st A) : zG Z p l e R s m args below meth c mi As Q pc ls (zI b :: zI a :: st) A := by
  intro h1 h2 h3 rls H locs h4 h5 h6 h7
  refine lv_icmp_ne hx hb hd ht (fun z => ?_) (fun z => ?_)
  · rw [show zcmp .ne a b = true from decide_eq_true ((not_congr (zo_eq (zall_h (zall_t h2)) (zall_h h2))).mp z), if_pos rfl] at k
    exact k h1 (zall_t (zall_t h2)) h3 rls H locs h4 h5 h6 h7
  · rw [show zcmp .ne a b = false from decide_eq_false (fun w => ((not_congr (zo_eq (zall_h (zall_t h2)) (zall_h h2))).mpr w) z), if_neg (by decide)] at k
    exact k h1 (zall_t (zall_t h2)) h3 rls H locs h4 h5 h6 h7
theorem g_if_lt (hx : p.tables.exec = Jvm.exec) (hb : c.code = zcb mi) {a off : Int} (hd : decode (zcb mi) pc = .ok (.ifCond .lt off, 3)) {t : Nat} (ht : (pc : Int) + off = (t : Int)) (k : zG Z p l e R s m args below meth c mi As Q (if zcmp .lt a 0 then t else pc + 3) ls st A) : zG Z p l e R s m args below meth c mi As Q pc ls (zI a :: st) A := by
  intro h1 h2 h3 rls H locs h4 h5 h6 h7
  refine lv_if_lt hx hb hd ht (fun z => ?_) (fun z => ?_)
  · rw [show zcmp .lt a 0 = true from decide_eq_true ((zo_lt (zall_h h2) zr32_0).mp z), if_pos rfl] at k
    exact k h1 (zall_t h2) h3 rls H locs h4 h5 h6 h7
  · rw [show zcmp .lt a 0 = false from decide_eq_false (fun w => z ((zo_lt (zall_h h2) zr32_0).mpr w)), if_neg (by decide)] at k
    exact k h1 (zall_t h2) h3 rls H locs h4 h5 h6 h7
theorem g_ic_lt (hx : p.tables.exec = Jvm.exec) (hb : c.code = zcb mi) {a b off : Int} (hd : decode (zcb mi) pc = .ok (.if_icmp .lt off, 3)) {t : Nat} (ht : (pc : Int) + off = (t : Int)) (k : zG Z p l e R s m args below meth c mi As Q (if zcmp .lt a b then t else pc + 3) ls st A) : zG Z p l e R s m args below meth c mi As Q pc ls (zI b :: zI a :: st) A := by
  intro h1 h2 h3 rls H locs h4 h5 h6 h7
  refine lv_icmp_lt hx hb hd ht (fun z => ?_) (fun z => ?_)
  · rw [show zcmp .lt a b = true from decide_eq_true ((zo_lt (zall_h (zall_t h2)) (zall_h h2)).mp z), if_pos rfl] at k
    exact k h1 (zall_t (zall_t h2)) h3 rls H locs h4 h5 h6 h7
  · rw [show zcmp .lt a b = false from decide_eq_false (fun w => z ((zo_lt (zall_h (zall_t h2)) (zall_h h2)).mpr w)), if_neg (by decide)] at k
    exact k h1 (zall_t (zall_t h2)) h3 rls H locs h4 h5 h6 h7
theorem g_if_ge (hx : p.tables.exec = Jvm.exec) (hb : c.code = zcb mi) {a off : Int} (hd : decode (zcb mi) pc = .ok (.ifCond .ge off, 3)) {t : Nat} (ht : (pc : Int) + off = (t : Int)) (k : zG Z p l e R s m args below meth c mi As Q (if zcmp .ge a 0 then t else pc + 3) ls st A) : zG Z p l e R s m args below meth c mi As Q pc ls (zI a :: st) A := by
  intro h1 h2 h3 rls H locs h4 h5 h6 h7
  refine lv_if_ge hx hb hd ht (fun z => ?_) (fun z => ?_)
  · rw [show zcmp .ge a 0 = true from decide_eq_true ((zo_le zr32_0 (zall_h h2)).mp z), if_pos rfl] at k
    exact k h1 (zall_t h2) h3 rls H locs h4 h5 h6 h7
  · rw [show zcmp .ge a 0 = false from decide_eq_false (fun w => z ((zo_le zr32_0 (zall_h h2)).mpr w)), if_neg (by decide)] at k
    exact k h1 (zall_t h2) h3 rls H locs h4 h5 h6 h7
theorem g_ic_ge (hx : p.tables.exec = Jvm.exec) (hb : c.code = zcb mi) {a b off : Int} (hd : decode (zcb mi) pc = .ok (.if_icmp .ge off, 3)) {t : Nat} (ht : (pc : Int) + off = (t : Int)) (k : zG Z p l e R s m args below meth c mi As Q (if zcmp .ge a b then t else pc + 3) ls st A) : zG Z p l e R s m args below meth c mi As Q pc ls (zI b :: zI a :: st) A := by
  intro h1 h2 h3 rls H locs h4 h5 h6 h7
  refine lv_icmp_ge hx hb hd ht (fun z => ?_) (fun z => ?_)
  · rw [show zcmp .ge a b = true from decide_eq_true ((zo_le (zall_h h2) (zall_h (zall_t h2))).mp z), if_pos rfl] at k
    exact k h1 (zall_t (zall_t h2)) h3 rls H locs h4 h5 h6 h7
  · rw [show zcmp .ge a b = false from decide_eq_false (fun w => z ((zo_le (zall_h h2) (zall_h (zall_t h2))).mpr w)), if_neg (by decide)] at k
    exact k h1 (zall_t (zall_t h2)) h3 rls H locs h4 h5 h6 h7
theorem g_if_gt (hx : p.tables.exec = Jvm.exec) (hb : c.code = zcb mi) {a off : Int} (hd : decode (zcb mi) pc = .ok (.ifCond .gt off, 3)) {t : Nat} (ht : (pc : Int) + off = (t : Int)) (k : zG Z p l e R s m args below meth c mi As Q (if zcmp .gt a 0 then t else pc + 3) ls st A) : zG Z p l e R s m args below meth c mi As Q pc ls (zI a :: st) A := by
  intro h1 h2 h3 rls H locs h4 h5 h6 h7
  refine lv_if_gt hx hb hd ht (fun z => ?_) (fun z => ?_)
  · rw [show zcmp .gt a 0 = true from decide_eq_true ((zo_lt zr32_0 (zall_h h2)).mp z), if_pos rfl] at k
    exact k h1 (zall_t h2) h3 rls H locs h4 h5 h6 h7
  · rw [show zcmp .gt a 0 = false from decide_eq_false (fun w => z ((zo_lt zr32_0 (zall_h h2)).mpr w)), if_neg (by decide)] at k
    exact k h1 (zall_t h2) h3 rls H locs h4 h5 h6 h7
theorem g_ic_gt (hx : p.tables.exec = Jvm.exec) (hb : c.code = zcb mi) {a b off : Int} (hd : decode (zcb mi) pc = .ok (.if_icmp .gt off, 3)) {t : Nat} (ht : (pc : Int) + off = (t : Int)) (k : zG Z p l e R s m args below meth c mi As Q (if zcmp .gt a b then t else pc + 3) ls st A) : zG Z p l e R s m args below meth c mi As Q pc ls (zI b :: zI a :: st) A := by
  intro h1 h2 h3 rls H locs h4 h5 h6 h7
  refine lv_icmp_gt hx hb hd ht (fun z => ?_) (fun z => ?_)
  · rw [show zcmp .gt a b = true from decide_eq_true ((zo_lt (zall_h h2) (zall_h (zall_t h2))).mp z), if_pos rfl] at k
    exact k h1 (zall_t (zall_t h2)) h3 rls H locs h4 h5 h6 h7
  · rw [show zcmp .gt a b = false from decide_eq_false (fun w => z ((zo_lt (zall_h h2) (zall_h (zall_t h2))).mpr w)), if_neg (by decide)] at k
    exact k h1 (zall_t (zall_t h2)) h3 rls H locs h4 h5 h6 h7
theorem g_if_le (hx : p.tables.exec = Jvm.exec) (hb : c.code = zcb mi) {a off : Int} (hd : decode (zcb mi) pc = .ok (.ifCond .le off, 3)) {t : Nat} (ht : (pc : Int) + off = (t : Int)) (k : zG Z p l e R s m args below meth c mi As Q (if zcmp .le a 0 then t else pc + 3) ls st A) : zG Z p l e R s m args below meth c mi As Q pc ls (zI a :: st) A := by
  intro h1 h2 h3 rls H locs h4 h5 h6 h7
  refine lv_if_le hx hb hd ht (fun z => ?_) (fun z => ?_)
  · rw [show zcmp .le a 0 = true from decide_eq_true ((zo_le (zall_h h2) zr32_0).mp z), if_pos rfl] at k
    exact k h1 (zall_t h2) h3 rls H locs h4 h5 h6 h7
  · rw [show zcmp .le a 0 = false from decide_eq_false (fun w => z ((zo_le (zall_h h2) zr32_0).mpr w)), if_neg (by decide)] at k
    exact k h1 (zall_t h2) h3 rls H locs h4 h5 h6 h7
theorem g_ic_le (hx : p.tables.exec = Jvm.exec) (hb : c.code = zcb mi) {a b off : Int} (hd : decode (zcb mi) pc = .ok (.if_icmp .le off, 3)) {t : Nat} (ht : (pc : Int) + off = (t : Int)) (k : zG Z p l e R s m args below meth c mi As Q (if zcmp .le a b then t else pc + 3) ls st A) : zG Z p l e R s m args below meth c mi As Q pc ls (zI b :: zI a :: st) A := by
  intro h1 h2 h3 rls H locs h4 h5 h6 h7
  refine lv_icmp_le hx hb hd ht (fun z => ?_) (fun z => ?_)
  · rw [show zcmp .le a b = true from decide_eq_true ((zo_le (zall_h (zall_t h2)) (zall_h h2)).mp z), if_pos rfl] at k
    exact k h1 (zall_t (zall_t h2)) h3 rls H locs h4 h5 h6 h7
  · rw [show zcmp .le a b = false from decide_eq_false (fun w => z ((zo_le (zall_h (zall_t h2)) (zall_h h2)).mpr w)), if_neg (by decide)] at k
    exact k h1 (zall_t (zall_t h2)) h3 rls H locs h4 h5 h6 h7
theorem zrho_inj {a b : Option Nat} (h : a = b ∨ (zfr a = true ∧ zfr b = true)) : a.map (zrho Z) = b.map (zrho Z) ↔ a = b := by
  constructor
  · intro q
    rcases h with h | ⟨ha, hb⟩
    · exact h
    · cases a with
      | none => cases b with
        | none => rfl
        | some y => cases q
      | some x => cases b with
        | none => cases q
        | some y =>
          have hx : 300 ≤ x := of_decide_eq_true ha
          have hy : 300 ≤ y := of_decide_eq_true hb
          have e : zrho Z x = zrho Z y := Option.some.inj q
          unfold zrho at e
          rw [if_neg (by omega), if_neg (by omega)] at e
          exact congrArg some (by omega)
  · intro q; rw [q]
theorem g_ac_eq (hx : p.tables.exec = Jvm.exec) (hb : c.code = zcb mi) {a b : Option Nat} {off : Int} (hd : decode (zcb mi) pc = .ok (.if_acmp .eq off, 3)) (hg : a = b ∨ (zfr a = true ∧ zfr b = true)) {t : Nat} (ht : (pc : Int) + off = (t : Int)) (k : zG Z p l e R s m args below meth c mi As Q (if decide (a = b) then t else pc + 3) ls st A) : zG Z p l e R s m args below meth c mi As Q pc ls (zO b :: zO a :: st) A := by
  intro h1 h2 h3 rls H locs h4 h5 h6 h7
  rw [List.map_cons, List.map_cons, zev_O, zev_O]
  refine lv_acmp_eq hx hb hd ht (fun z => ?_) (fun z => ?_)
  · rw [show decide (a = b) = true from decide_eq_true ((zrho_inj hg).mp z), if_pos rfl] at k
    exact k h1 (zall_t (zall_t h2)) h3 rls H locs h4 h5 h6 h7
  · rw [show decide (a = b) = false from decide_eq_false (fun w => z ((zrho_inj hg).mpr w)), if_neg (by decide)] at k
    exact k h1 (zall_t (zall_t h2)) h3 rls H locs h4 h5 h6 h7
theorem g_ac_ne (hx : p.tables.exec = Jvm.exec) (hb : c.code = zcb mi) {a b : Option Nat} {off : Int} (hd : decode (zcb mi) pc = .ok (.if_acmp .ne off, 3)) (hg : a = b ∨ (zfr a = true ∧ zfr b = true)) {t : Nat} (ht : (pc : Int) + off = (t : Int)) (k : zG Z p l e R s m args below meth c mi As Q (if decide (a ≠ b) then t else pc + 3) ls st A) : zG Z p l e R s m args below meth c mi As Q pc ls (zO b :: zO a :: st) A := by
  intro h1 h2 h3 rls H locs h4 h5 h6 h7
  rw [List.map_cons, List.map_cons, zev_O, zev_O]
  refine lv_acmp_ne hx hb hd ht (fun z => ?_) (fun z => ?_)
  · rw [show decide (a ≠ b) = true from decide_eq_true ((not_congr (zrho_inj hg)).mp z), if_pos rfl] at k
    exact k h1 (zall_t (zall_t h2)) h3 rls H locs h4 h5 h6 h7
  · rw [show decide (a ≠ b) = false from decide_eq_false (fun w => ((not_congr (zrho_inj hg)).mpr w) z), if_neg (by decide)] at k
    exact k h1 (zall_t (zall_t h2)) h3 rls H locs h4 h5 h6 h7
theorem g_ifnull (hx : p.tables.exec = Jvm.exec) (hb : c.code = zcb mi) {a : Option Nat} {off : Int} (hd : decode (zcb mi) pc = .ok (.ifnull off, 3)) {t : Nat} (ht : (pc : Int) + off = (t : Int)) (k : zG Z p l e R s m args below meth c mi As Q (if decide (a = none) then t else pc + 3) ls st A) : zG Z p l e R s m args below meth c mi As Q pc ls (zO a :: st) A := by
  intro h1 h2 h3 rls H locs h4 h5 h6 h7
  cases a with
  | none => exact lv_ifnullN hx hb hd ht (k h1 (zall_t h2) h3 rls H locs h4 h5 h6 h7)
  | some a => exact lv_ifnull hx hb hd (k h1 (zall_t h2) h3 rls H locs h4 h5 h6 h7)
theorem g_ifnonnull (hx : p.tables.exec = Jvm.exec) (hb : c.code = zcb mi) {a : Option Nat} {off : Int} (hd : decode (zcb mi) pc = .ok (.ifnonnull off, 3)) {t : Nat} (ht : (pc : Int) + off = (t : Int)) (k : zG Z p l e R s m args below meth c mi As Q (if decide (a ≠ none) then t else pc + 3) ls st A) : zG Z p l e R s m args below meth c mi As Q pc ls (zO a :: st) A := by
  intro h1 h2 h3 rls H locs h4 h5 h6 h7
  cases a with
  | none => exact lv_ifnonnullN hx hb hd (k h1 (zall_t h2) h3 rls H locs h4 h5 h6 h7)
  | some a => exact lv_ifnonnull hx hb hd ht (k h1 (zall_t h2) h3 rls H locs h4 h5 h6 h7)
theorem g_goto (hx : p.tables.exec = Jvm.exec) (hb : c.code = zcb mi) {off : Int} (hd : decode (zcb mi) pc = .ok (.goto off, 3)) {t : Nat} (ht : (pc : Int) + off = (t : Int)) (k : zG Z p l e R s m args below meth c mi As Q t ls st A) : zG Z p l e R s m args below meth c mi As Q pc ls st A := by
  intro h1 h2 h3 rls H locs h4 h5 h6 h7
  exact lv_goto hx hb hd ht (k h1 h2 h3 rls H locs h4 h5 h6 h7)
theorem g_tswD (hx : p.tables.exec = Jvm.exec) (hb : c.code = zcb mi) {x dd lo hi : Int} {offs : Array Int} {n : Nat} (hd : decode (zcb mi) pc = .ok (.tableswitch dd lo hi offs, n)) (ho : x < lo ∨ hi < x) {t : Nat} (ht : (pc : Int) + dd = (t : Int)) (k : zG Z p l e R s m args below meth c mi As Q t ls st A) : zG Z p l e R s m args below meth c mi As Q pc ls (zI x :: st) A := by
  intro h1 h2 h3 rls H locs h4 h5 h6 h7
  exact lv_tableOut hx hb hd (by rw [zr32_of (zall_h h2)]; exact ho) ht (k h1 (zall_t h2) h3 rls H locs h4 h5 h6 h7)
theorem g_tsw (hx : p.tables.exec = Jvm.exec) (hb : c.code = zcb mi) {x dd lo hi off : Int} {offs : Array Int} {n : Nat} (hd : decode (zcb mi) pc = .ok (.tableswitch dd lo hi offs, n)) (h0 : ¬ (x < lo ∨ hi < x)) (ho : offs[(x - lo).toNat]? = some off) {t : Nat} (ht : (pc : Int) + off = (t : Int)) (k : zG Z p l e R s m args below meth c mi As Q t ls st A) : zG Z p l e R s m args below meth c mi As Q pc ls (zI x :: st) A := by
  intro h1 h2 h3 rls H locs h4 h5 h6 h7
  have e := zr32_of (zall_h (P := zsok) h2)
  exact lv_tableIn hx hb hd (by rw [e]; omega) (by rw [e]; omega) (by rw [e]; exact ho) ht (k h1 (zall_t h2) h3 rls H locs h4 h5 h6 h7)
theorem g_lsw (hx : p.tables.exec = Jvm.exec) (hb : c.code = zcb mi) {x dd : Int} {ps : Array (Int × Int)} {n : Nat} (hd : decode (zcb mi) pc = .ok (.lookupswitch dd ps, n)) (hs : (ps.toList.zip (ps.toList.drop 1)).all (fun (a, next) => decide (a.1 < next.1)) = true) {t : Nat} (ht : (pc : Int) + Op.lookupswitch.offset ps.toList dd x = (t : Int)) (k : zG Z p l e R s m args below meth c mi As Q t ls st A) : zG Z p l e R s m args below meth c mi As Q pc ls (zI x :: st) A := by
  intro h1 h2 h3 rls H locs h4 h5 h6 h7
  have e := zr32_of (zall_h (P := zsok) h2)
  exact lv_lookup hx hb hd hs (by rw [e]) ht (k h1 (zall_t h2) h3 rls H locs h4 h5 h6 h7)
end SIM
