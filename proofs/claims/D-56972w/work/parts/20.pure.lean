/-! THE INTERPRETER, ITS FIRST PIECE: the instructions that touch neither the heap nor a call. 'zp_step' says what one does to the counter, the locals (a list of places and values) and the stack; 'zp_ok' that the machine does it. -/
def zp_s1 (lv : List (Nat × Value)) (i : Nat) (v : Value) : List (Nat × Value) := (i, v) :: lv.filter (fun q => !(q.1 == i) && !(q.1 + 1 == i && q.2.category == 2))
def zp_s2 (lv : List (Nat × Value)) (i : Nat) (v : Value) : List (Nat × Value) := (i, v) :: lv.filter (fun q => !(q.1 == i) && (!(q.1 == i + 1) && !(q.1 + 1 == i && q.2.category == 2)))
def zp_ld (lv : List (Nat × Value)) (i : Nat) : Option Value := (lv.find? (fun q => q.1 == i)).map (·.2)
def zp_to (pc : Nat) (off : Int) : Option Nat := if 0 ≤ (pc : Int) + off then some ((pc : Int) + off).toNat else none
theorem zp_to_ok {pc : Nat} {off : Int} {t : Nat} (h : zp_to pc off = some t) : (pc : Int) + off = (t : Int) := by
  unfold zp_to at h
  split at h
  · obtain rfl := Option.some.inj h
    rw [Int.toNat_of_nonneg (by assumption)]
  · cases h
theorem zp_ld_at {ls : Array Slot} {nL : Nat} {lv : List (Nat × Value)} (h : lv_has ls nL lv) {i : Nat} {v : Value} (hl : zp_ld lv i = some v) : ls[i]? = some (.val v) := by
  unfold zp_ld at hl
  cases hf : lv.find? (fun q => q.1 == i) with
  | none => rw [hf] at hl; cases hl
  | some q =>
    rw [hf] at hl
    obtain rfl := Option.some.inj hl
    have h1 := List.find?_some hf
    have h2 := List.mem_of_find?_eq_some hf
    have h3 : q.1 = i := by simpa using h1
    have h4 := h.2.2 q h2
    rw [h3] at h4
    exact h4
theorem zp_ld_mem {lv : List (Nat × Value)} {i : Nat} {v : Value} (hl : zp_ld lv i = some v) : ∃ k : Nat, lv[k]? = some (i, v) := by
  unfold zp_ld at hl
  cases hf : lv.find? (fun q => q.1 == i) with
  | none => rw [hf] at hl; cases hl
  | some q =>
    rw [hf] at hl
    obtain rfl := Option.some.inj hl
    have h1 := List.find?_some hf
    have h2 := List.mem_of_find?_eq_some hf
    have h3 : q.1 = i := by simpa using h1
    obtain ⟨k, hk⟩ := List.getElem?_of_mem h2
    exact ⟨k, by rw [hk, ← h3]⟩
abbrev zp_L : Type := List (Nat × Value)
abbrev zp_F : Type := Nat × zp_L × List Value
/-- a load of a local onto the stack: of an int, a long, a float, a double, a reference or null -/
def zp_i (v : Option Value) : Option Value := match v with
  | some (.int x) => some (.int x)
  | _ => none
def zp_l (v : Option Value) : Option Value := match v with
  | some (.long x) => some (.long x)
  | _ => none
def zp_f (v : Option Value) : Option Value := match v with
  | some (.float x) => some (.float x)
  | _ => none
def zp_d (v : Option Value) : Option Value := match v with
  | some (.double x) => some (.double x)
  | _ => none
def zp_a (v : Option Value) : Option Value := match v with
  | some (.ref x) => some (.ref x)
  | some .null => some .null
  | _ => none
def zp_push (v : Option Value) (pc : Nat) (lv : zp_L) (st : List Value) : Option zp_F := match v with
  | some v => some (pc, lv, v :: st)
  | none => none
/-- a branch: to its target if b, else on -/
def zp_br (b : Bool) (t : Option Nat) (on : Nat) (lv : zp_L) (st : List Value) : Option zp_F := match b, t with
  | true, some t => some (t, lv, st)
  | false, some _ => some (on, lv, st)
  | _, none => none
/-- loads and stores of locals, by kind -/
def zp_ldst (i : Instr) (len pc nL : Nat) (lv : zp_L) (st : List Value) : Option zp_F := match i, len, st with
  | .iload k, 2, st => zp_push (zp_i (zp_ld lv k)) (pc + 2) lv st
  | .iload_n k, 1, st => zp_push (zp_i (zp_ld lv (k : Nat))) (pc + 1) lv st
  | .lload k, 2, st => zp_push (zp_l (zp_ld lv k)) (pc + 2) lv st
  | .lload_n k, 1, st => zp_push (zp_l (zp_ld lv (k : Nat))) (pc + 1) lv st
  | .fload k, 2, st => zp_push (zp_f (zp_ld lv k)) (pc + 2) lv st
  | .fload_n k, 1, st => zp_push (zp_f (zp_ld lv (k : Nat))) (pc + 1) lv st
  | .dload k, 2, st => zp_push (zp_d (zp_ld lv k)) (pc + 2) lv st
  | .dload_n k, 1, st => zp_push (zp_d (zp_ld lv (k : Nat))) (pc + 1) lv st
  | .aload k, 2, st => zp_push (zp_a (zp_ld lv k)) (pc + 2) lv st
  | .aload_n k, 1, st => zp_push (zp_a (zp_ld lv (k : Nat))) (pc + 1) lv st
  | .istore k, 2, .int x :: st => if k < nL then some (pc + 2, zp_s1 lv k (.int x), st) else none
  | .istore_n k, 1, .int x :: st => if (k : Nat) < nL then some (pc + 1, zp_s1 lv (k : Nat) (.int x), st) else none
  | .fstore k, 2, .float x :: st => if k < nL then some (pc + 2, zp_s1 lv k (.float x), st) else none
  | .fstore_n k, 1, .float x :: st => if (k : Nat) < nL then some (pc + 1, zp_s1 lv (k : Nat) (.float x), st) else none
  | .lstore k, 2, .long x :: st => if k + 1 < nL then some (pc + 2, zp_s2 lv k (.long x), st) else none
  | .lstore_n k, 1, .long x :: st => if (k : Nat) + 1 < nL then some (pc + 1, zp_s2 lv (k : Nat) (.long x), st) else none
  | .dstore k, 2, .double x :: st => if k + 1 < nL then some (pc + 2, zp_s2 lv k (.double x), st) else none
  | .dstore_n k, 1, .double x :: st => if (k : Nat) + 1 < nL then some (pc + 1, zp_s2 lv (k : Nat) (.double x), st) else none
  | .astore k, 2, .ref x :: st => if k < nL then some (pc + 2, zp_s1 lv k (.ref x), st) else none
  | .astore_n k, 1, .ref x :: st => if (k : Nat) < nL then some (pc + 1, zp_s1 lv (k : Nat) (.ref x), st) else none
  | .astore k, 2, .null :: st => if k < nL then some (pc + 2, zp_s1 lv k .null, st) else none
  | .astore_n k, 1, .null :: st => if (k : Nat) < nL then some (pc + 1, zp_s1 lv (k : Nat) .null, st) else none
  | .iinc k n, 3, st => match zp_ld lv k with
    | some (.int x) => if k < nL then some (pc + 3, zp_s1 lv k (.int (x + Int32.ofInt n)), st) else none
    | _ => none
  | _, _, _ => none
/-- constants and arithmetic -/
def zp_ar (i : Instr) (len pc : Nat) (lv : zp_L) (st : List Value) : Option zp_F := match i, len, st with
  | .iconst n, 1, st => some (pc + 1, lv, .int (Int32.ofInt n) :: st)
  | .bipush n, 2, st => some (pc + 2, lv, .int (Int8.ofInt n).toInt32 :: st)
  | .sipush n, 3, st => some (pc + 3, lv, .int (Int16.ofInt n).toInt32 :: st)
  | .lconst n, 1, st => some (pc + 1, lv, .long (Int64.ofNat (n : Nat)) :: st)
  | .fconst n, 1, st => if n = 0 then some (pc + 1, lv, .float FP.fconst0 :: st) else none
  | .dconst n, 1, st => if n = 0 then some (pc + 1, lv, .double FP.dconst0 :: st) else none
  | .aconst_null, 1, st => some (pc + 1, lv, .null :: st)
  | .iadd, 1, .int y :: .int x :: st => some (pc + 1, lv, .int (x + y) :: st)
  | .isub, 1, .int y :: .int x :: st => some (pc + 1, lv, .int (x - y) :: st)
  | .imul, 1, .int y :: .int x :: st => some (pc + 1, lv, .int (x * y) :: st)
  | .iand, 1, .int y :: .int x :: st => some (pc + 1, lv, .int (x &&& y) :: st)
  | .ineg, 1, .int x :: st => some (pc + 1, lv, .int (-x) :: st)
  | .ladd, 1, .long y :: .long x :: st => some (pc + 1, lv, .long (x + y) :: st)
  | .lsub, 1, .long y :: .long x :: st => some (pc + 1, lv, .long (x - y) :: st)
  | .lmul, 1, .long y :: .long x :: st => some (pc + 1, lv, .long (x * y) :: st)
  | .ldiv, 1, .long y :: .long x :: st => if y = 0 then none else some (pc + 1, lv, .long (x / y) :: st)
  | .i2l, 1, .int x :: st => some (pc + 1, lv, .long x.toInt64 :: st)
  | .i2f, 1, .int x :: st => some (pc + 1, lv, .float (FP.i2f x) :: st)
  | .i2d, 1, .int x :: st => some (pc + 1, lv, .double (FP.i2d x) :: st)
  | .l2d, 1, .long x :: st => some (pc + 1, lv, .double (FP.l2d x) :: st)
  | .ishr, 1, .int y :: .int x :: st => some (pc + 1, lv, .int (x >>> (y &&& 31)) :: st)
  | .ishl, 1, .int y :: .int x :: st => some (pc + 1, lv, .int (x <<< (y &&& 31)) :: st)
  | .iushr, 1, .int y :: .int x :: st => some (pc + 1, lv, .int (x.toUInt32 >>> (y.toUInt32 &&& Int32.toUInt32 31)).toInt32 :: st)
  | .lcmp, 1, .long y :: .long x :: st => some (pc + 1, lv, .int (lg_cmp x y) :: st)
  | .fcmp op, 1, .float y :: .float x :: st => some (pc + 1, lv, .int (Op.cmpValue (FP.fcmp x y) op) :: st)
  | .dcmp op, 1, .double y :: .double x :: st => some (pc + 1, lv, .int (Op.cmpValue (FP.dcmp x y) op) :: st)
  | .fdiv, 1, .float y :: .float x :: st => if FP.fdiv x y &&& 0x7fffffff ≤ 0x7f800000 then some (pc + 1, lv, .float (FP.fdiv x y) :: st) else none
  | .ddiv, 1, .double y :: .double x :: st => if FP.ddiv x y &&& 0x7fffffffffffffff ≤ 0x7ff0000000000000 then some (pc + 1, lv, .double (FP.ddiv x y) :: st) else none
  | .f2d, 1, .float x :: st => if FP.f2d x &&& 0x7fffffffffffffff ≤ 0x7ff0000000000000 then some (pc + 1, lv, .double (FP.f2d x) :: st) else none
  | .dup, 1, v :: st => if v.category = 1 then some (pc + 1, lv, v :: v :: st) else none
  | .pop, 1, v :: st => if v.category = 1 then some (pc + 1, lv, st) else none
  | .dup_x1, 1, v :: w :: st => if v.category = 1 ∧ w.category = 1 then some (pc + 1, lv, v :: w :: v :: st) else none
  | .dup2, 1, v :: w :: st => if v.category = 2 then some (pc + 1, lv, v :: v :: w :: st) else if v.category = 1 ∧ w.category = 1 then some (pc + 1, lv, v :: w :: v :: w :: st) else none
  | .pop2, 1, v :: st => if v.category = 2 then some (pc + 1, lv, st) else none
  | _, _, _ => none
/-- branches -/
def zp_jump (i : Instr) (len pc : Nat) (lv : zp_L) (st : List Value) : Option zp_F := match i, len, st with
  | .goto o, 3, st => zp_br true (zp_to pc o) 0 lv st
  | .ifCond .eq o, 3, .int x :: st => zp_br (decide (x = 0)) (zp_to pc o) (pc + 3) lv st
  | .ifCond .ne o, 3, .int x :: st => zp_br (decide (¬ x = 0)) (zp_to pc o) (pc + 3) lv st
  | .ifCond .lt o, 3, .int x :: st => zp_br (decide (x < 0)) (zp_to pc o) (pc + 3) lv st
  | .ifCond .ge o, 3, .int x :: st => zp_br (decide (0 ≤ x)) (zp_to pc o) (pc + 3) lv st
  | .ifCond .gt o, 3, .int x :: st => zp_br (decide (0 < x)) (zp_to pc o) (pc + 3) lv st
  | .ifCond .le o, 3, .int x :: st => zp_br (decide (x ≤ 0)) (zp_to pc o) (pc + 3) lv st
  | .if_icmp .eq o, 3, .int y :: .int x :: st => zp_br (decide (x = y)) (zp_to pc o) (pc + 3) lv st
  | .if_icmp .ne o, 3, .int y :: .int x :: st => zp_br (decide (¬ x = y)) (zp_to pc o) (pc + 3) lv st
  | .if_icmp .lt o, 3, .int y :: .int x :: st => zp_br (decide (x < y)) (zp_to pc o) (pc + 3) lv st
  | .if_icmp .ge o, 3, .int y :: .int x :: st => zp_br (decide (y ≤ x)) (zp_to pc o) (pc + 3) lv st
  | .if_icmp .gt o, 3, .int y :: .int x :: st => zp_br (decide (y < x)) (zp_to pc o) (pc + 3) lv st
  | .if_icmp .le o, 3, .int y :: .int x :: st => zp_br (decide (x ≤ y)) (zp_to pc o) (pc + 3) lv st
  | .ifnull o, 3, .ref _ :: st => zp_br false (zp_to pc o) (pc + 3) lv st
  | .ifnull o, 3, .null :: st => zp_br true (zp_to pc o) (pc + 3) lv st
  | .ifnonnull o, 3, .ref _ :: st => zp_br true (zp_to pc o) (pc + 3) lv st
  | .ifnonnull o, 3, .null :: st => zp_br false (zp_to pc o) (pc + 3) lv st
  | .if_acmp .eq o, 3, .ref y :: .ref x :: st => zp_br (decide (x = y)) (zp_to pc o) (pc + 3) lv st
  | .if_acmp .eq o, 3, .null :: .ref _ :: st => zp_br false (zp_to pc o) (pc + 3) lv st
  | .if_acmp .eq o, 3, .ref _ :: .null :: st => zp_br false (zp_to pc o) (pc + 3) lv st
  | .if_acmp .ne o, 3, .ref y :: .ref x :: st => zp_br (decide (¬ x = y)) (zp_to pc o) (pc + 3) lv st
  | .if_acmp .ne o, 3, .null :: .ref _ :: st => zp_br true (zp_to pc o) (pc + 3) lv st
  | .if_acmp .ne o, 3, .ref _ :: .null :: st => zp_br true (zp_to pc o) (pc + 3) lv st
  | .tableswitch dflt lo hi offs, _, .int x :: st => if x.toInt < lo ∨ hi < x.toInt then zp_br true (zp_to pc dflt) 0 lv st else match offs[(x.toInt - lo).toNat]? with
    | some o => zp_br true (zp_to pc o) 0 lv st
    | none => none
  | _, _, _ => none
theorem zp_push_ok {v : Option Value} {pc : Nat} {lv : zp_L} {st : List Value} {f : zp_F} (h : zp_push v pc lv st = some f) : ∃ x, v = some x ∧ f = (pc, lv, x :: st) := by
  cases v with
  | none => cases h
  | some x => exact ⟨x, rfl, (Option.some.inj h).symm⟩
theorem zp_i_ok {v : Option Value} {w : Value} (h : zp_i v = some w) : ∃ x, v = some (.int x) ∧ w = .int x := by
  unfold zp_i at h
  split at h
  · exact ⟨_, rfl, (Option.some.inj h).symm⟩
  · cases h
theorem zp_l_ok {v : Option Value} {w : Value} (h : zp_l v = some w) : ∃ x, v = some (.long x) ∧ w = .long x := by
  unfold zp_l at h
  split at h
  · exact ⟨_, rfl, (Option.some.inj h).symm⟩
  · cases h
theorem zp_f_ok {v : Option Value} {w : Value} (h : zp_f v = some w) : ∃ x, v = some (.float x) ∧ w = .float x := by
  unfold zp_f at h
  split at h
  · exact ⟨_, rfl, (Option.some.inj h).symm⟩
  · cases h
theorem zp_d_ok {v : Option Value} {w : Value} (h : zp_d v = some w) : ∃ x, v = some (.double x) ∧ w = .double x := by
  unfold zp_d at h
  split at h
  · exact ⟨_, rfl, (Option.some.inj h).symm⟩
  · cases h
theorem zp_a_ok {v : Option Value} {w : Value} (h : zp_a v = some w) : (∃ x, v = some (.ref x) ∧ w = .ref x) ∨ (v = some .null ∧ w = .null) := by
  unfold zp_a at h
  split at h
  · exact Or.inl ⟨_, rfl, (Option.some.inj h).symm⟩
  · exact Or.inr ⟨rfl, (Option.some.inj h).symm⟩
  · cases h
theorem zp_br_ok {b : Bool} {t : Option Nat} {on : Nat} {lv : zp_L} {st : List Value} {f : zp_F} (h : zp_br b t on lv st = some f) : ∃ t', t = some t' ∧ f = (if b then t' else on, lv, st) := by
  unfold zp_br at h
  split at h
  · exact ⟨_, rfl, (Option.some.inj h).symm⟩
  · exact ⟨_, rfl, (Option.some.inj h).symm⟩
  · cases h
section ZP
variable {p : Program} {l : Launch} {e : Env} {R : Room} {s : State} {m : MethodId} {args : Array Value} {below : List Frame} {meth : Method} {c : Code} {H : Heap} {locs : List Loc} {cells slots : Nat} {Q : State → Prop}
variable {cc : ByteArray} {ls : Array Slot} {i : Instr} {len pc nL : Nat} {lv : zp_L} {st : List Value} {f : zp_F}
set_option maxHeartbeats 4000000 in
theorem zp_ldst_ok (hx : p.tables.exec = Jvm.exec) (hb : c.code = cc) (h : zp_ldst i len pc nL lv st = some f) (hd : decode cc pc = .ok (i, len)) (hl : lv_has ls nL lv)
    (k : ∀ ls' : Array Slot, lv_has ls' nL f.2.1 → W p l e R s m args below meth c H locs cells slots Q (F0 m f.1 ls' f.2.2)) : W p l e R s m args below meth c H locs cells slots Q (F0 m pc ls st) := by
  unfold zp_ldst at h
  split at h
  · obtain ⟨v, h1, rfl⟩ := zp_push_ok h; obtain ⟨x, h2, rfl⟩ := zp_i_ok h1; exact lv_iload hx hb hd (zp_ld_at hl h2) (k ls hl)
  · obtain ⟨v, h1, rfl⟩ := zp_push_ok h; obtain ⟨x, h2, rfl⟩ := zp_i_ok h1; exact lv_iload_n hx hb hd rfl (zp_ld_at hl h2) (k ls hl)
  · obtain ⟨v, h1, rfl⟩ := zp_push_ok h; obtain ⟨x, h2, rfl⟩ := zp_l_ok h1; exact lv_lload hx hb hd (zp_ld_at hl h2) (k ls hl)
  · obtain ⟨v, h1, rfl⟩ := zp_push_ok h; obtain ⟨x, h2, rfl⟩ := zp_l_ok h1; exact lv_lload_n hx hb hd rfl (zp_ld_at hl h2) (k ls hl)
  · obtain ⟨v, h1, rfl⟩ := zp_push_ok h; obtain ⟨x, h2, rfl⟩ := zp_f_ok h1; exact lv_fload hx hb hd (zp_ld_at hl h2) (k ls hl)
  · obtain ⟨v, h1, rfl⟩ := zp_push_ok h; obtain ⟨x, h2, rfl⟩ := zp_f_ok h1; exact lv_fload_n hx hb hd rfl (zp_ld_at hl h2) (k ls hl)
  · obtain ⟨v, h1, rfl⟩ := zp_push_ok h; obtain ⟨x, h2, rfl⟩ := zp_d_ok h1; exact lv_dload hx hb hd (zp_ld_at hl h2) (k ls hl)
  · obtain ⟨v, h1, rfl⟩ := zp_push_ok h; obtain ⟨x, h2, rfl⟩ := zp_d_ok h1; exact lv_dload_n hx hb hd rfl (zp_ld_at hl h2) (k ls hl)
  · obtain ⟨v, h1, rfl⟩ := zp_push_ok h
    rcases zp_a_ok h1 with ⟨x, h2, rfl⟩ | ⟨h2, rfl⟩
    · exact lv_aload hx hb hd (zp_ld_at hl h2) (k ls hl)
    · exact lv_aloadN hx hb hd (zp_ld_at hl h2) (k ls hl)
  · obtain ⟨v, h1, rfl⟩ := zp_push_ok h
    rcases zp_a_ok h1 with ⟨x, h2, rfl⟩ | ⟨h2, rfl⟩
    · exact lv_aload_n hx hb hd rfl (zp_ld_at hl h2) (k ls hl)
    · exact lv_aload_nN hx hb hd rfl (zp_ld_at hl h2) (k ls hl)
  · split at h
    · obtain rfl := Option.some.inj h; exact lv_istore hx hb hd hl (by assumption) rfl (fun ls' h' => k ls' h')
    · cases h
  · split at h
    · obtain rfl := Option.some.inj h; exact lv_istore_n hx hb hd rfl hl (by assumption) rfl (fun ls' h' => k ls' h')
    · cases h
  · split at h
    · obtain rfl := Option.some.inj h; exact lv_fstore hx hb hd hl (by assumption) rfl (fun ls' h' => k ls' h')
    · cases h
  · split at h
    · obtain rfl := Option.some.inj h; exact lv_fstore_n hx hb hd rfl hl (by assumption) rfl (fun ls' h' => k ls' h')
    · cases h
  · split at h
    · obtain rfl := Option.some.inj h; exact lv_lstore hx hb hd hl (by assumption) rfl (fun ls' h' => k ls' h')
    · cases h
  · split at h
    · obtain rfl := Option.some.inj h; exact lv_lstore_n hx hb hd rfl hl (by assumption) rfl (fun ls' h' => k ls' h')
    · cases h
  · split at h
    · obtain rfl := Option.some.inj h; exact lv_dstore hx hb hd hl (by assumption) rfl (fun ls' h' => k ls' h')
    · cases h
  · split at h
    · obtain rfl := Option.some.inj h; exact lv_dstore_n hx hb hd rfl hl (by assumption) rfl (fun ls' h' => k ls' h')
    · cases h
  · split at h
    · obtain rfl := Option.some.inj h; exact lv_astore hx hb hd hl (by assumption) rfl (fun ls' h' => k ls' h')
    · cases h
  · split at h
    · obtain rfl := Option.some.inj h; exact lv_astore_n hx hb hd rfl hl (by assumption) rfl (fun ls' h' => k ls' h')
    · cases h
  · split at h
    · obtain rfl := Option.some.inj h; exact lv_astoreN hx hb hd hl (by assumption) rfl (fun ls' h' => k ls' h')
    · cases h
  · split at h
    · obtain rfl := Option.some.inj h; exact lv_astore_nN hx hb hd rfl hl (by assumption) rfl (fun ls' h' => k ls' h')
    · cases h
  · split at h
    · split at h
      · obtain rfl := Option.some.inj h
        obtain ⟨kk, hk⟩ := zp_ld_mem (by assumption)
        exact lv_iinc hx hb hd hl hk rfl (by assumption) rfl (fun ls' h' => k ls' h')
      · cases h
    · cases h
  · cases h
set_option maxHeartbeats 4000000 in
theorem zp_ar_ok (hx : p.tables.exec = Jvm.exec) (hb : c.code = cc) (h : zp_ar i len pc lv st = some f) (hd : decode cc pc = .ok (i, len)) (hl : lv_has ls nL lv)
    (k : ∀ ls' : Array Slot, lv_has ls' nL f.2.1 → W p l e R s m args below meth c H locs cells slots Q (F0 m f.1 ls' f.2.2)) : W p l e R s m args below meth c H locs cells slots Q (F0 m pc ls st) := by
  unfold zp_ar at h
  split at h
  · obtain rfl := Option.some.inj h; exact lv_iconst hx hb hd rfl (k ls hl)
  · obtain rfl := Option.some.inj h; exact lv_bipush hx hb hd rfl (k ls hl)
  · obtain rfl := Option.some.inj h; exact lv_sipush hx hb hd rfl (k ls hl)
  · obtain rfl := Option.some.inj h; exact lv_lconst hx hb hd rfl (k ls hl)
  · split at h
    · obtain rfl := Option.some.inj h; rename_i h0; subst h0; exact lv_fconst0 hx hb hd (k ls hl)
    · cases h
  · split at h
    · obtain rfl := Option.some.inj h; rename_i h0; subst h0; exact lv_dconst0 hx hb hd (k ls hl)
    · cases h
  · obtain rfl := Option.some.inj h; exact lv_null hx hb hd (k ls hl)
  · obtain rfl := Option.some.inj h; exact lv_iadd hx hb hd (k ls hl)
  · obtain rfl := Option.some.inj h; exact lv_isub hx hb hd (k ls hl)
  · obtain rfl := Option.some.inj h; exact lv_imul hx hb hd (k ls hl)
  · obtain rfl := Option.some.inj h; exact lv_iand hx hb hd (k ls hl)
  · obtain rfl := Option.some.inj h; exact lv_ineg hx hb hd (k ls hl)
  · obtain rfl := Option.some.inj h; exact lv_ladd hx hb hd (k ls hl)
  · obtain rfl := Option.some.inj h; exact lv_lsub hx hb hd (k ls hl)
  · obtain rfl := Option.some.inj h; exact lv_lmul hx hb hd (k ls hl)
  · split at h
    · cases h
    · obtain rfl := Option.some.inj h; exact lv_ldiv hx hb hd (by assumption) (k ls hl)
  · obtain rfl := Option.some.inj h; exact lv_i2l hx hb hd rfl (k ls hl)
  · obtain rfl := Option.some.inj h; exact lv_i2f hx hb hd (k ls hl)
  · obtain rfl := Option.some.inj h; exact lv_i2d hx hb hd (k ls hl)
  · obtain rfl := Option.some.inj h; exact lv_l2d hx hb hd (k ls hl)
  · obtain rfl := Option.some.inj h; exact lv_ishr hx hb hd (k ls hl)
  · obtain rfl := Option.some.inj h; exact lv_ishl hx hb hd (k ls hl)
  · obtain rfl := Option.some.inj h; exact lv_iushr hx hb hd rfl (k ls hl)
  · obtain rfl := Option.some.inj h; exact W.lcmp hx hb hd (k ls hl)
  · obtain rfl := Option.some.inj h; exact lv_fcmp hx hb hd (k ls hl)
  · obtain rfl := Option.some.inj h; exact lv_dcmp hx hb hd (k ls hl)
  · split at h
    · obtain rfl := Option.some.inj h; exact lv_fdiv hx hb hd (by assumption) (k ls hl)
    · cases h
  · split at h
    · obtain rfl := Option.some.inj h; exact lv_ddiv hx hb hd (by assumption) (k ls hl)
    · cases h
  · split at h
    · obtain rfl := Option.some.inj h; exact lv_f2d hx hb hd (by assumption) (k ls hl)
    · cases h
  · split at h
    · obtain rfl := Option.some.inj h; exact lv_dup hx hb hd (by assumption) (k ls hl)
    · cases h
  · split at h
    · obtain rfl := Option.some.inj h; exact lv_pop hx hb hd (by assumption) (k ls hl)
    · cases h
  · split at h
    · rename_i h0; obtain rfl := Option.some.inj h; exact lv_dup_x1 hx hb hd h0.1 h0.2 (k ls hl)
    · cases h
  · split at h
    · obtain rfl := Option.some.inj h; exact lv_dup2_2 hx hb hd (by assumption) (k ls hl)
    · split at h
      · rename_i h0; obtain rfl := Option.some.inj h; exact lv_dup2_11 hx hb hd h0.1 h0.2 (k ls hl)
      · cases h
  · split at h
    · obtain rfl := Option.some.inj h; exact lv_pop2_2 hx hb hd (by assumption) (k ls hl)
    · cases h
  · cases h
end ZP
