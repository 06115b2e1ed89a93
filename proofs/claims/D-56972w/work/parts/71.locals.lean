/-! RUNS: a run needs no more of the locals than it looks up
-/
set_option maxRecDepth 100000
/-- what lv has, lv' has -/
def lvs (lv lv' : zp_L) : Prop := (lv.map (·.1)).Nodup ∧ ∀ q ∈ lv, zp_ld lv' q.1 = some q.2
theorem lvs_ld {lv lv' : zp_L} (h : lvs lv lv') {k : Nat} {v : Value} (hk : zp_ld lv k = some v) : zp_ld lv' k = some v := by
  unfold zp_ld at hk
  cases hf : lv.find? (fun q => q.1 == k) with
  | none => rw [hf] at hk; cases hk
  | some q =>
    rw [hf] at hk
    have h1 := List.find?_some hf
    have h2 := h.2 q (List.mem_of_find?_eq_some hf)
    simp only [beq_iff_eq] at h1
    rw [h1] at h2
    rw [h2]
    exact hk
theorem find_filter {lv : zp_L} {p : Nat × Value → Bool} {i : Nat} {v : Value} (h : zp_ld lv i = some v) (hp : p (i, v) = true) : zp_ld (lv.filter p) i = some v := by
  induction lv with
  | nil => cases h
  | cons q t ih =>
    unfold zp_ld at h ⊢
    by_cases hq : q.1 = i
    · rw [List.find?_cons_of_pos (by simpa using hq)] at h
      have hv : q.2 = v := Option.some.inj h
      have e : q = (i, v) := by rw [← hq, ← hv]
      rw [List.filter_cons_of_pos (by rw [e]; exact hp), List.find?_cons_of_pos (by simpa using hq)]
      exact h
    · rw [List.find?_cons_of_neg (by simpa using hq)] at h
      by_cases hpq : p q = true
      · rw [List.filter_cons_of_pos hpq, List.find?_cons_of_neg (by simpa using hq)]
        exact ih h
      · rw [List.filter_cons_of_neg hpq]
        exact ih h
theorem lvs_store {lv lv' : zp_L} (h : lvs lv lv') {k : Nat} {v : Value} {p : Nat × Value → Bool} (hp : ∀ w : Value, p (k, w) = false) : lvs ((k, v) :: lv.filter p) ((k, v) :: lv'.filter p) := by
  have hk : ∀ q ∈ lv.filter p, q.1 ≠ k := by
    intro q hq e
    have h1 := (List.mem_filter.mp hq).2
    have h2 := hp q.2
    rw [← e] at h2
    rw [h2] at h1
    cases h1
  refine ⟨?_, ?_⟩
  · rw [List.map_cons, List.nodup_cons]
    refine ⟨fun hm => ?_, ?_⟩
    · obtain ⟨q, q1, q2⟩ := List.mem_map.mp hm
      exact hk q q1 q2
    · exact List.Nodup.sublist (List.Sublist.map _ List.filter_sublist) h.1
  · intro q hq
    rcases List.mem_cons.mp hq with rfl | hq
    · unfold zp_ld
      rw [List.find?_cons_of_pos (by simp)]
      rfl
    · have h1 := List.mem_filter.mp hq
      have h3 := find_filter (h.2 q h1.1) h1.2
      unfold zp_ld at h3 ⊢
      rw [List.find?_cons_of_neg (by have := hk q hq; simp; omega)]
      exact h3
theorem lvs_s1 {lv lv' : zp_L} (h : lvs lv lv') (k : Nat) (v : Value) : lvs (zp_s1 lv k v) (zp_s1 lv' k v) := lvs_store h (fun w => by simp)
theorem lvs_s2 {lv lv' : zp_L} (h : lvs lv lv') (k : Nat) (v : Value) : lvs (zp_s2 lv k v) (zp_s2 lv' k v) := lvs_store h (fun w => by simp)
theorem lvs_filter {lv lv' : zp_L} (h : lvs lv lv') (p : Nat × Value → Bool) : lvs (lv.filter p) (lv'.filter p) :=
  ⟨List.Nodup.sublist (List.Sublist.map _ List.filter_sublist) h.1, fun q hq => find_filter (h.2 q (List.mem_filter.mp hq).1) (List.mem_filter.mp hq).2⟩
/-- loads and stores -/
def zisl : Instr → Bool
  | .iload _ => true
  | .iload_n _ => true
  | .lload _ => true
  | .lload_n _ => true
  | .fload _ => true
  | .fload_n _ => true
  | .dload _ => true
  | .dload_n _ => true
  | .aload _ => true
  | .aload_n _ => true
  | .istore _ => true
  | .istore_n _ => true
  | .fstore _ => true
  | .fstore_n _ => true
  | .lstore _ => true
  | .lstore_n _ => true
  | .dstore _ => true
  | .dstore_n _ => true
  | .astore _ => true
  | .astore_n _ => true
  | .iinc _ _ => true
  | _ => false
section ZLV
variable {i : Instr} {len pc nL : Nat} {lv lv' : zp_L} {st : List Value} {f : zp_F} {g : zG} {own : Nat} {nm : String} {L : List zIt} {σ : zS}
theorem zisl_no (h : zisl i = false) : zp_ldst i len pc nL lv st = none := by
  unfold zp_ldst
  split <;> first | rfl | cases h
theorem zp_push_lv {v v' : Option Value} (hv : ∀ x, v = some x → v' = some x) (h : zp_push v pc lv st = some f) : f.2.1 = lv ∧ zp_push v' pc lv' st = some (f.1, lv', f.2.2) := by
  cases v with
  | none => cases h
  | some x =>
    rw [hv x rfl]
    obtain rfl := Option.some.inj h
    exact ⟨rfl, rfl⟩
theorem zp_ldst_lv (hl : lvs lv lv') (h : zp_ldst i len pc nL lv st = some f) : ∃ lv2 : zp_L, zp_ldst i len pc nL lv' st = some (f.1, lv2, f.2.2) ∧ lvs f.2.1 lv2 := by
  have hI : ∀ k x, zp_i (zp_ld lv k) = some x → zp_i (zp_ld lv' k) = some x := by
    intro k x hx
    cases hk : zp_ld lv k with
    | none => rw [hk] at hx; cases hx
    | some v => rw [hk] at hx; rw [lvs_ld hl hk]; exact hx
  have hL : ∀ k x, zp_l (zp_ld lv k) = some x → zp_l (zp_ld lv' k) = some x := by
    intro k x hx
    cases hk : zp_ld lv k with
    | none => rw [hk] at hx; cases hx
    | some v => rw [hk] at hx; rw [lvs_ld hl hk]; exact hx
  have hF : ∀ k x, zp_f (zp_ld lv k) = some x → zp_f (zp_ld lv' k) = some x := by
    intro k x hx
    cases hk : zp_ld lv k with
    | none => rw [hk] at hx; cases hx
    | some v => rw [hk] at hx; rw [lvs_ld hl hk]; exact hx
  have hD : ∀ k x, zp_d (zp_ld lv k) = some x → zp_d (zp_ld lv' k) = some x := by
    intro k x hx
    cases hk : zp_ld lv k with
    | none => rw [hk] at hx; cases hx
    | some v => rw [hk] at hx; rw [lvs_ld hl hk]; exact hx
  have hA : ∀ k x, zp_a (zp_ld lv k) = some x → zp_a (zp_ld lv' k) = some x := by
    intro k x hx
    cases hk : zp_ld lv k with
    | none => rw [hk] at hx; cases hx
    | some v => rw [hk] at hx; rw [lvs_ld hl hk]; exact hx
  unfold zp_ldst at h ⊢
  split at h
  all_goals first
    | (obtain ⟨e1, e2⟩ := zp_push_lv (lv' := lv') (hI _) h; exact ⟨lv', e2, e1 ▸ hl⟩)
    | (obtain ⟨e1, e2⟩ := zp_push_lv (lv' := lv') (hL _) h; exact ⟨lv', e2, e1 ▸ hl⟩)
    | (obtain ⟨e1, e2⟩ := zp_push_lv (lv' := lv') (hF _) h; exact ⟨lv', e2, e1 ▸ hl⟩)
    | (obtain ⟨e1, e2⟩ := zp_push_lv (lv' := lv') (hD _) h; exact ⟨lv', e2, e1 ▸ hl⟩)
    | (obtain ⟨e1, e2⟩ := zp_push_lv (lv' := lv') (hA _) h; exact ⟨lv', e2, e1 ▸ hl⟩)
    | (split at h
       · rename_i hc
         obtain rfl := Option.some.inj h
         first
          | exact ⟨_, by simp only; rw [if_pos hc], lvs_s1 hl _ _⟩
          | exact ⟨_, by simp only; rw [if_pos hc], lvs_s2 hl _ _⟩
       · cases h)
    | (split at h
       · rename_i hk
         split at h
         · rename_i hc
           obtain rfl := Option.some.inj h
           exact ⟨_, by simp only; rw [lvs_ld hl hk]; simp only; rw [if_pos hc], lvs_s1 hl _ _⟩
         · cases h
       · cases h)
    | cases h
theorem zp_br_lv {b : Bool} {t : Option Nat} {on : Nat} (h : zp_br b t on lv st = some f) : f.2.1 = lv ∧ zp_br b t on lv' st = some (f.1, lv', f.2.2) := by
  unfold zp_br at h ⊢
  split at h
  · obtain rfl := Option.some.inj h; exact ⟨rfl, rfl⟩
  · obtain rfl := Option.some.inj h; exact ⟨rfl, rfl⟩
  · cases h
theorem zp_ar_lv (h : zp_ar i len pc lv st = some f) : zisl i = false ∧ f.2.1 = lv ∧ zp_ar i len pc lv' st = some (f.1, lv', f.2.2) := by
  unfold zp_ar at h ⊢
  split at h
  all_goals first
    | (obtain rfl := Option.some.inj h; exact ⟨rfl, rfl, rfl⟩)
    | (split at h
       · rename_i hc
         first
          | (obtain rfl := Option.some.inj h; exact ⟨rfl, rfl, by simp only; rw [if_pos hc]⟩)
          | cases h
       · rename_i hc
         first
          | (obtain rfl := Option.some.inj h; exact ⟨rfl, rfl, by simp only; rw [if_neg hc]⟩)
          | (split at h
             · rename_i hc2
               obtain rfl := Option.some.inj h; exact ⟨rfl, rfl, by simp only; rw [if_neg hc, if_pos hc2]⟩
             · cases h)
          | cases h)
    | cases h
theorem zp_jump_lv (h : zp_jump i len pc lv st = some f) : zisl i = false ∧ f.2.1 = lv ∧ zp_jump i len pc lv' st = some (f.1, lv', f.2.2) := by
  unfold zp_jump at h
  split at h
  all_goals first
    | exact ⟨rfl, (zp_br_lv (lv' := lv') h).1, (zp_br_lv (lv' := lv') h).2⟩
    | cases h
    | skip
  rename_i dflt lo hi offs x st0
  refine ⟨rfl, ?_⟩
  show _ ∧ (if x.toInt < lo ∨ hi < x.toInt then zp_br true (zp_to pc dflt) 0 lv' st0 else match offs[(x.toInt - lo).toNat]? with
    | some o => zp_br true (zp_to pc o) 0 lv' st0
    | none => none) = _
  by_cases hc : x.toInt < lo ∨ hi < x.toInt
  · rw [if_pos hc] at h ⊢
    exact zp_br_lv h
  · rw [if_neg hc] at h ⊢
    cases ho : offs[(x.toInt - lo).toNat]? with
    | none => rw [ho] at h; cases h
    | some o => rw [ho] at h; exact zp_br_lv h
theorem zp_step_lv (hl : lvs lv lv') (h : zp_step i len pc nL lv st = some f) : ∃ lv2 : zp_L, zp_step i len pc nL lv' st = some (f.1, lv2, f.2.2) ∧ lvs f.2.1 lv2 := by
  unfold zp_step at h ⊢
  split at h
  · rename_i f' hf
    obtain rfl := Option.some.inj h
    obtain ⟨lv2, h1, h2⟩ := zp_ldst_lv hl hf
    rw [h1]
    exact ⟨lv2, rfl, h2⟩
  · split at h
    · rename_i f' hf
      obtain rfl := Option.some.inj h
      obtain ⟨h1, h2, h3⟩ := zp_ar_lv (lv' := lv') hf
      rw [zisl_no h1, h3]
      exact ⟨lv', rfl, h2 ▸ hl⟩
    · rename_i ha
      obtain ⟨h1, h2, h3⟩ := zp_jump_lv (lv' := lv') h
      have ha' : zp_ar i len pc lv' st = none := by
        cases hq : zp_ar i len pc lv' st with
        | none => rfl
        | some f2 => have := (zp_ar_lv (lv' := lv) hq).2.2; rw [ha] at this; cases this
      rw [zisl_no h1, ha']
      exact ⟨lv', h3, h2 ▸ hl⟩
end ZLV
