/-! THE ROOM: entries of many lots on a part -/
set_option maxRecDepth 100000
section ZF19
variable {z : Nat → Nat} {k w : Nat} {X : hS} {B : Nat}
theorem exmax {P : Nat → Prop} [DecidablePred P] : ∀ n : Nat, (∃ l : Nat, l < n ∧ P l) → ∃ m : Nat, m < n ∧ P m ∧ ∀ l : Nat, l < n → P l → l ≤ m
  | 0, ⟨l, h, _⟩ => absurd h (Nat.not_lt_zero l)
  | n + 1, ⟨l, h, hp⟩ => by
    by_cases hn : P n
    · exact ⟨n, by omega, hn, fun j hj _ => by omega⟩
    · have hl : l < n := by
        rcases Nat.lt_succ_iff_lt_or_eq.mp h with h | h
        · exact h
        · rw [h] at hp
          exact absurd hp hn
      obtain ⟨m, m1, m2, m3⟩ := exmax n ⟨l, hl, hp⟩
      refine ⟨m, by omega, m2, fun j hj hpj => ?_⟩
      by_cases e : j = n
      · rw [e] at hpj
        exact absurd hpj hn
      · exact m3 j (by omega) hpj
/-- all that was gone beyond on a part -/
theorem tr_sum (hI : iAll z k X) (hX : iX w X) : ns (sn X 8) (fun o => trB X o B) ≤ (bL X B - 1) * (w + 1) := by
  have hsw : ns (sn X 8) (fun o => trB X o B) = ns (sn X 6) (fun l => ns (sn X 8) (fun o => if ptL X l = B ∧ t26 X o l = true then 1 else 0)) := ns_swap _ _
  rw [hsw]
  by_cases hex : ∃ l : Nat, l < sn X 6 ∧ ptL X l = B
  · obtain ⟨m, m1, m2, m3⟩ := exmax _ hex
    have h1 : ns (sn X 6) (fun l => ns (sn X 8) (fun o => if ptL X l = B ∧ t26 X o l = true then 1 else 0)) ≤ ns (sn X 6) (fun l => (w + 1) * (if ptL X l = B ∧ l ≠ m then 1 else 0)) := ns_le (fun l hl => by
      by_cases hlB : ptL X l = B
      · by_cases hlm : l = m
        · rw [if_neg (fun c => c.2 hlm)]
          refine Nat.le_of_eq ((ns_cg (g := fun _ => 0) (fun o ho => if_neg (fun c => ?_))).trans (ns_zero _))
          have ht := c.2
          unfold t26 at ht
          rw [Bool.and_eq_true, List.any_eq_true] at ht
          obtain ⟨-, b, hb, hd⟩ := ht
          obtain ⟨d1, d2⟩ := of_decide_eq_true hd
          obtain ⟨e, he, rfl⟩ := List.mem_map.mp hb
          have := fTl_at hI ho e he
          have := m3 e.1.toNat (by omega) (by rw [d2]; exact hlB)
          omega
        · rw [if_pos ⟨hlB, hlm⟩, Nat.mul_one]
          have h2 := hX l hl
          have h3 : ns (sn X 8) (fun o => if ptL X l = B ∧ t26 X o l = true then 1 else 0) ≤ trL X l := ns_le (fun o _ => by
            by_cases ht : t26 X o l = true
            · rw [if_pos ⟨hlB, ht⟩, if_pos ht]; omega
            · rw [if_neg (fun c => ht c.2)]; exact Nat.zero_le _)
          split at h2 <;> omega
      · refine Nat.le_trans (Nat.le_of_eq ((ns_cg (g := fun _ => 0) (fun o _ => if_neg (fun c => hlB c.1))).trans (ns_zero _))) (Nat.zero_le _))
    refine Nat.le_trans h1 ?_
    rw [ns_mul, Nat.mul_comm]
    refine Nat.mul_le_mul_right _ ?_
    have h4 : ns (sn X 6) (fun l => if ptL X l = B ∧ l ≠ m then 1 else 0) + ns (sn X 6) (fun l => if l = m then 1 else 0) = bL X B := by
      rw [← ns_add]
      unfold bL
      refine ns_cg (fun l _ => ?_)
      by_cases hlB : ptL X l = B
      · by_cases hlm : l = m
        · rw [if_neg (fun c => c.2 hlm), if_pos hlm, if_pos hlB]
        · rw [if_pos ⟨hlB, hlm⟩, if_neg hlm, if_pos hlB]
      · rw [if_neg (fun c => hlB c.1), if_neg (fun e => hlB (by rw [e]; exact m2)), if_neg hlB]
    rw [ns_one m1] at h4
    omega
  · refine Nat.le_trans (Nat.le_of_eq ((ns_cg (g := fun _ => 0) (fun l hl => ?_)).trans (ns_zero _))) (Nat.zero_le _)
    exact (ns_cg (g := fun _ => 0) (fun o _ => if_neg (fun c => hex ⟨l, hl, c.1⟩))).trans (ns_zero _)
/-- entries of a list of lots on a part -/
theorem tops_tr (hI : iAll z k X) (hL : iLt z X) (hC : iCk X) (hX : iX w X) (R : List Nat) (hnd : R.Nodup) (hR : ∀ y ∈ R, y < sn X 6) :
    (R.map (fun y => pS (sn X 6) (ptL X) B (fun _ => true) (eL X y))).sum ≤ (R.map (fun y => cL X (ptL X y) B)).sum + (bL X B - 1) * (w + 1) := by
  have key : ∀ R : List Nat, R.Nodup → (∀ y ∈ R, y < sn X 6) → ∃ O : List Nat, O.Nodup ∧ (∀ o ∈ O, o < sn X 8 ∧ ∃ y ∈ R, sT X 8 13 o = (y : Nat)) ∧ (R.map (fun y => pS (sn X 6) (ptL X) B (fun _ => true) (eL X y))).sum ≤ (R.map (fun y => cL X (ptL X y) B)).sum + (O.map (fun o => trB X o B)).sum := by
    intro R
    induction R with
    | nil => intro _ _; exact ⟨[], List.nodup_nil, fun o ho => absurd ho List.not_mem_nil, Nat.le_refl _⟩
    | cons y R ih =>
      intro hnd hR
      rw [List.nodup_cons] at hnd
      obtain ⟨O, o1, o2, o3⟩ := ih hnd.2 (fun x hx => hR x (List.mem_cons_of_mem _ hx))
      rw [List.map_cons, List.sum_cons, List.map_cons, List.sum_cons]
      rcases ent_tr hI hL hC (hR y List.mem_cons_self) B with h | ⟨o, ho, h13, hle⟩
      · exact ⟨O, o1, fun o ho => ⟨(o2 o ho).1, let ⟨x, hx, e⟩ := (o2 o ho).2; ⟨x, List.mem_cons_of_mem _ hx, e⟩⟩, by omega⟩
      · refine ⟨o :: O, List.nodup_cons.mpr ⟨fun hin => ?_, o1⟩, fun q hq => ?_, by rw [List.map_cons, List.sum_cons]; omega⟩
        · obtain ⟨-, x, hx, e⟩ := o2 o hin
          have : x = y := by omega
          exact hnd.1 (this ▸ hx)
        · rcases List.mem_cons.mp hq with rfl | hq
          · exact ⟨ho, y, List.mem_cons_self, h13⟩
          · obtain ⟨a, x, hx, e⟩ := o2 q hq
            exact ⟨a, x, List.mem_cons_of_mem _ hx, e⟩
  obtain ⟨O, o1, o2, o3⟩ := key R hnd hR
  have h1 := ns_mem (n := sn X 8) (P := fun _ => True) (f := fun o => trB X o B) o1 (fun o ho => ⟨(o2 o ho).1, trivial⟩)
  have h2 : ns (sn X 8) (fun l => if True then trB X l B else 0) = ns (sn X 8) (fun o => trB X o B) := ns_cg (fun _ _ => if_pos trivial)
  have h3 := tr_sum (B := B) hI hX
  omega
end ZF19
