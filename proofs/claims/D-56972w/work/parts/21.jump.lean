/-! THE INTERPRETER: the branches, and the pure step as a whole -/
section ZJ
variable {p : Program} {l : Launch} {e : Env} {R : Room} {s : State} {m : MethodId} {args : Array Value} {below : List Frame} {meth : Method} {c : Code} {H : Heap} {locs : List Loc} {cells slots : Nat} {Q : State → Prop}
variable {cc : ByteArray} {ls : Array Slot} {i : Instr} {len pc nL : Nat} {lv : zp_L} {st : List Value} {f : zp_F}
theorem zp_two {P : Prop} {dp : Decidable P} {t on : Nat} {ls : Array Slot} {st : List Value} (k : W p l e R s m args below meth c H locs cells slots Q (F0 m (if decide P then t else on) ls st)) :
    (P → W p l e R s m args below meth c H locs cells slots Q (F0 m t ls st)) ∧ (¬ P → W p l e R s m args below meth c H locs cells slots Q (F0 m on ls st)) := by
  refine ⟨fun h => ?_, fun h => ?_⟩
  · have e1 : (if decide P then t else on) = t := by simp [h]
    rw [e1] at k; exact k
  · have e1 : (if decide P then t else on) = on := by simp [h]
    rw [e1] at k; exact k
set_option maxHeartbeats 4000000 in
theorem zp_jump_ok (hx : p.tables.exec = Jvm.exec) (hb : c.code = cc) (h : zp_jump i len pc lv st = some f) (hd : decode cc pc = .ok (i, len)) (hl : lv_has ls nL lv)
    (k : ∀ ls' : Array Slot, lv_has ls' nL f.2.1 → W p l e R s m args below meth c H locs cells slots Q (F0 m f.1 ls' f.2.2)) : W p l e R s m args below meth c H locs cells slots Q (F0 m pc ls st) := by
  unfold zp_jump at h
  split at h
  · obtain ⟨t, h1, rfl⟩ := zp_br_ok h; exact lv_goto hx hb hd (zp_to_ok h1) (k ls hl)
  · obtain ⟨t, h1, rfl⟩ := zp_br_ok h; exact lv_if_eq hx hb hd (zp_to_ok h1) (zp_two (k ls hl)).1 (zp_two (k ls hl)).2
  · obtain ⟨t, h1, rfl⟩ := zp_br_ok h; exact lv_if_ne hx hb hd (zp_to_ok h1) (zp_two (k ls hl)).1 (fun q => (zp_two (k ls hl)).2 (fun r => r q))
  · obtain ⟨t, h1, rfl⟩ := zp_br_ok h; exact lv_if_lt hx hb hd (zp_to_ok h1) (zp_two (k ls hl)).1 (zp_two (k ls hl)).2
  · obtain ⟨t, h1, rfl⟩ := zp_br_ok h; exact lv_if_ge hx hb hd (zp_to_ok h1) (zp_two (k ls hl)).1 (zp_two (k ls hl)).2
  · obtain ⟨t, h1, rfl⟩ := zp_br_ok h; exact lv_if_gt hx hb hd (zp_to_ok h1) (zp_two (k ls hl)).1 (zp_two (k ls hl)).2
  · obtain ⟨t, h1, rfl⟩ := zp_br_ok h; exact lv_if_le hx hb hd (zp_to_ok h1) (zp_two (k ls hl)).1 (zp_two (k ls hl)).2
  · obtain ⟨t, h1, rfl⟩ := zp_br_ok h; exact lv_icmp_eq hx hb hd (zp_to_ok h1) (zp_two (k ls hl)).1 (zp_two (k ls hl)).2
  · obtain ⟨t, h1, rfl⟩ := zp_br_ok h; exact lv_icmp_ne hx hb hd (zp_to_ok h1) (zp_two (k ls hl)).1 (fun q => (zp_two (k ls hl)).2 (fun r => r q))
  · obtain ⟨t, h1, rfl⟩ := zp_br_ok h; exact lv_icmp_lt hx hb hd (zp_to_ok h1) (zp_two (k ls hl)).1 (zp_two (k ls hl)).2
  · obtain ⟨t, h1, rfl⟩ := zp_br_ok h; exact lv_icmp_ge hx hb hd (zp_to_ok h1) (zp_two (k ls hl)).1 (zp_two (k ls hl)).2
  · obtain ⟨t, h1, rfl⟩ := zp_br_ok h; exact lv_icmp_gt hx hb hd (zp_to_ok h1) (zp_two (k ls hl)).1 (zp_two (k ls hl)).2
  · obtain ⟨t, h1, rfl⟩ := zp_br_ok h; exact lv_icmp_le hx hb hd (zp_to_ok h1) (zp_two (k ls hl)).1 (zp_two (k ls hl)).2
  · obtain ⟨t, h1, rfl⟩ := zp_br_ok h; exact lv_ifnull hx hb hd (k ls hl)
  · obtain ⟨t, h1, rfl⟩ := zp_br_ok h; exact lv_ifnullN hx hb hd (zp_to_ok h1) (k ls hl)
  · obtain ⟨t, h1, rfl⟩ := zp_br_ok h; exact lv_ifnonnull hx hb hd (zp_to_ok h1) (k ls hl)
  · obtain ⟨t, h1, rfl⟩ := zp_br_ok h; exact lv_ifnonnullN hx hb hd (k ls hl)
  · obtain ⟨t, h1, rfl⟩ := zp_br_ok h
    refine lv_acmp_eq (rx := some _) (ry := some _) hx hb hd (zp_to_ok h1) (fun q => (zp_two (k ls hl)).1 (Option.some.inj q)) (fun q => (zp_two (k ls hl)).2 (fun r => q (by rw [r])))
  · obtain ⟨t, h1, rfl⟩ := zp_br_ok h
    refine lv_acmp_eq (rx := some _) (ry := none) hx hb hd (zp_to_ok h1) (fun q => by cases q) (fun _ => k ls hl)
  · obtain ⟨t, h1, rfl⟩ := zp_br_ok h
    refine lv_acmp_eq (rx := none) (ry := some _) hx hb hd (zp_to_ok h1) (fun q => by cases q) (fun _ => k ls hl)
  · obtain ⟨t, h1, rfl⟩ := zp_br_ok h
    refine lv_acmp_ne (rx := some _) (ry := some _) hx hb hd (zp_to_ok h1) (fun q => (zp_two (k ls hl)).1 (fun r => q (by rw [r]))) (fun q => (zp_two (k ls hl)).2 (fun r => r (Option.some.inj q)))
  · obtain ⟨t, h1, rfl⟩ := zp_br_ok h
    refine lv_acmp_ne (rx := some _) (ry := none) hx hb hd (zp_to_ok h1) (fun _ => k ls hl) (fun q => by cases q)
  · obtain ⟨t, h1, rfl⟩ := zp_br_ok h
    refine lv_acmp_ne (rx := none) (ry := some _) hx hb hd (zp_to_ok h1) (fun _ => k ls hl) (fun q => by cases q)
  · split at h
    · obtain ⟨t, h1, rfl⟩ := zp_br_ok h; exact lv_tableOut hx hb hd (by assumption) (zp_to_ok h1) (k ls hl)
    · rename_i hn
      split at h
      · obtain ⟨t, h1, rfl⟩ := zp_br_ok h
        exact lv_tableIn hx hb hd (fun q => hn (Or.inl q)) (fun q => hn (Or.inr q)) (by assumption) (zp_to_ok h1) (k ls hl)
      · cases h
  · cases h
/-- the pure step: loads and stores, arithmetic, branches -/
def zp_step (i : Instr) (len pc nL : Nat) (lv : zp_L) (st : List Value) : Option zp_F := match zp_ldst i len pc nL lv st with
  | some f => some f
  | none => match zp_ar i len pc lv st with
    | some f => some f
    | none => zp_jump i len pc lv st
theorem zp_ok (hx : p.tables.exec = Jvm.exec) (hb : c.code = cc) (h : zp_step i len pc nL lv st = some f) (hd : decode cc pc = .ok (i, len)) (hl : lv_has ls nL lv)
    (k : ∀ ls' : Array Slot, lv_has ls' nL f.2.1 → W p l e R s m args below meth c H locs cells slots Q (F0 m f.1 ls' f.2.2)) : W p l e R s m args below meth c H locs cells slots Q (F0 m pc ls st) := by
  unfold zp_step at h
  split at h
  · obtain rfl := Option.some.inj h; exact zp_ldst_ok hx hb (by assumption) hd hl k
  · split at h
    · obtain rfl := Option.some.inj h; exact zp_ar_ok hx hb (by assumption) hd hl k
    · exact zp_jump_ok hx hb h hd hl k
end ZJ
