/-! THE ACCOUNT: one call, by what it is put to -/
set_option maxRecDepth 100000
section ZG18
variable {z : Nat → Nat} {k x v T : Nat} {S S2 : hS} {c : Ctr}
theorem kD.rb {o : Nat} (h : kD z S S2) (h1 : sT S2 8 1 o = sT S 8 1 o) (hb : _root_.Jvm.Pilot.CFoundrymarkLaw_law_r2382_07130c.rb z S2 o = true) : _root_.Jvm.Pilot.CFoundrymarkLaw_law_r2382_07130c.rb z S o = true := by
  obtain ⟨w1, w2, w3⟩ := of_decide_eq_true hb
  rcases h o with u | u
  · exact decide_eq_true ⟨by rw [← h1]; exact w1, by rw [← u]; exact w2, by rw [← u]; exact w3⟩
  · exact absurd u w2
/-- orders that aren't new are known -/
theorem known (hA : AccC z k S T c) (g : gW z S S2) (hd : kD z S S2) (hn : ∀ o : Nat, sn S 8 ≤ o → o < sn S2 8 → sT S2 8 7 o = (z 0 : Nat)) : ∀ o : Nat, o < sn S2 8 → sb z S2 o = true → c.2.2.2 o = true := fun o ho hb => by
  by_cases h8 : o < sn S 8
  · exact hA.2.1 o h8 (hd.sb (g.2.2.1.2 1 o h8 (by decide)) hb)
  · exact absurd (hn o (by omega) ho) (of_decide_eq_true hb).2
theorem made_gW (hA : AccC z k S T c) (g : gW z S S2) : ∀ o : Nat, c.2.2.2 o = true → o < sn S2 8 ∧ (sT S2 8 1 o).toNat % 2 = 0 := fun o w => by
  obtain ⟨a, b⟩ := hA.2.2.1 o w
  have := g.2.2.1.1
  exact ⟨by omega, by rw [g.2.2.1.2 1 o a (by decide)]; exact b⟩
theorem chN_gW (hA : AccC z k S T c) (g : gW z S S2) : chN S2 c.2.2.2 = chN S c.2.2.2 := chN_up g.2.2.1.1 (fun o w => (hA.2.2.1 o w).1)
theorem keepW {n1 : Nat} (hA : AccC z k S T c) (hb : ∀ o : Nat, o < sn S 8 → rb z S2 o = true → rb z S o = true) (h : n1 = 0 ∨ 1 ≤ c.2.2.1 ∨ ∃ o : Nat, c.2.2.2 o = true ∧ rb z S o = false) : n1 = 0 ∨ 1 ≤ c.2.2.1 ∨ ∃ o : Nat, c.2.2.2 o = true ∧ rb z S2 o = false := by
  rcases h with h | h | ⟨o, h1, h2⟩
  · exact Or.inl h
  · exact Or.inr (Or.inl h)
  · refine Or.inr (Or.inr ⟨o, h1, ?_⟩)
    cases hh : rb z S2 o with
    | false => rfl
    | true =>
      rw [hb o (hA.2.2.1 o h1).1 hh] at h2
      exact absurd h2 (by decide)
theorem acc_q (hz : zInj z) (hI : iAll z k S) (hI2 : iAll z (k + 1) S2) (g : gW z S S2) (hA : AccC z k S T c) (hc : cb z S2 ≤ cb z S) (hx : x ≤ MG S2 + 9) (hs : ∀ o : Nat, o < sn S2 8 → sb z S2 o = true → c.2.2.2 o = true) : AccC z (k + 1) S2 (T + x) (cI_q c) := by
  have h3 := made_gW hA g
  have h4 := chN_gW hA g
  obtain ⟨a1, a2, a3, n1, b1, b2, b3⟩ := hA
  refine ⟨?_, hs, h3, n1, b1, Or.inr (Or.inl (Nat.le_add_left 1 _)), ?_⟩
  · show c.1 + c.2.1 + (c.2.2.1 + 1) + cb z S2 + chN S2 c.2.2.2 ≤ k + 1
    omega
  · show T + x ≤ bnd z S2 c.1 n1 c.2.1 (c.2.2.1 + 1) c.2.2.2 + 9 * (k + 1)
    have := bnd_gW (n := c.1) (n1 := n1) (h := c.2.1) (q := c.2.2.1) (ch := c.2.2.2) hz g hI hI2
    rw [bnd_q]
    omega
theorem acc_0 (hz : zInj z) (hI : iAll z k S) (hI2 : iAll z (k + 1) S2) (g : gW z S S2) (hA : AccC z k S T c) (hc : cb z S2 ≤ cb z S + 1) (hx : x ≤ 9) (hs : ∀ o : Nat, o < sn S2 8 → sb z S2 o = true → c.2.2.2 o = true) (hb : ∀ o : Nat, o < sn S 8 → rb z S2 o = true → rb z S o = true) : AccC z (k + 1) S2 (T + x) c := by
  have h3 := made_gW hA g
  have h4 := chN_gW hA g
  have hA0 := hA
  obtain ⟨a1, a2, a3, n1, b1, b2, b3⟩ := hA
  refine ⟨by omega, hs, h3, n1, b1, keepW hA0 hb b2, ?_⟩
  have := bnd_gW (n := c.1) (n1 := n1) (h := c.2.1) (q := c.2.2.1) (ch := c.2.2.2) hz g hI hI2
  omega
theorem acc_h (hz : zInj z) (hI : iAll z k S) (hI2 : iAll z (k + 1) S2) (g : gW z S S2) (hA : AccC z k S T c) (hc : cb z S2 ≤ cb z S) (hx : x ≤ 2 * HX S c.2.2.2 + (4 * sn S 8 + 3)) (hs : ∀ o : Nat, o < sn S2 8 → sb z S2 o = true → c.2.2.2 o = true) (hb : ∀ o : Nat, o < sn S 8 → rb z S2 o = true → rb z S o = true) : AccC z (k + 1) S2 (T + x) (cI_h c) := by
  have h3 := made_gW hA g
  have h4 := chN_gW hA g
  have hA0 := hA
  obtain ⟨a1, a2, a3, n1, b1, b2, b3⟩ := hA
  have hkw := keepW hA0 hb b2
  refine ⟨?_, hs, h3, n1, b1, hkw, ?_⟩
  · show c.1 + (c.2.1 + 1) + c.2.2.1 + cb z S2 + chN S2 c.2.2.2 ≤ k + 1
    omega
  · show T + x ≤ bnd z S2 c.1 n1 (c.2.1 + 1) c.2.2.1 c.2.2.2 + 9 * (k + 1)
    have h1 := bnd_gW (n := c.1) (n1 := n1) (h := c.2.1 + 1) (q := c.2.2.1) (ch := c.2.2.2) hz g hI hI2
    rw [bnd_h (X := S)] at h1
    omega
theorem acc_n (hz : zInj z) (hI : iAll z k S) (hI2 : iAll z (k + 1) S2) (g : gW z S S2) (hA : AccC z k S T c) (hc : cb z S2 ≤ cb z S) (hx : x ≤ smS S + sn S 6 + FW S ∨ (x ≤ smS S + sn S 6 + FW S + PW S ∧ ∃ o : Nat, o < sn S 8 ∧ sT S 8 7 o = (z 1 : Nat) ∧ sb z S o = true)) (hs : ∀ o : Nat, o < sn S2 8 → sb z S2 o = true → c.2.2.2 o = true) (hb : ∀ o : Nat, o < sn S 8 → rb z S2 o = true → rb z S o = true) : AccC z (k + 1) S2 (T + x) (cI_n c) := by
  have h3 := made_gW hA g
  have h4 := chN_gW hA g
  have hA0 := hA
  obtain ⟨a1, a2, a3, n1, b1, b2, b3⟩ := hA
  have hcount : (cI_n c).1 + (cI_n c).2.1 + (cI_n c).2.2.1 + cb z S2 + chN S2 (cI_n c).2.2.2 ≤ k + 1 := by
    show (c.1 + 1) + c.2.1 + c.2.2.1 + cb z S2 + chN S2 c.2.2.2 ≤ k + 1
    omega
  rcases hx with hx | ⟨hx, o, ho, h1, hso⟩
  · have hkw := keepW hA0 hb b2
    refine ⟨hcount, hs, h3, n1, Nat.le_succ_of_le b1, hkw, ?_⟩
    show T + x ≤ bnd z S2 (c.1 + 1) n1 c.2.1 c.2.2.1 c.2.2.2 + 9 * (k + 1)
    have h1 := bnd_gW (n := c.1 + 1) (n1 := n1) (h := c.2.1) (q := c.2.2.1) (ch := c.2.2.2) hz g hI hI2
    rw [bnd_n (X := S)] at h1
    omega
  · have hch : c.2.2.2 o = true := a2 o ho hso
    have hrb : rb z S2 o = false := by
      cases hh : rb z S2 o with
      | false => rfl
      | true => exact absurd h1 (of_decide_eq_true (hb o ho hh)).2.2
    refine ⟨hcount, hs, h3, n1 + 1, Nat.succ_le_succ b1, Or.inr (Or.inr ⟨o, hch, hrb⟩), ?_⟩
    show T + x ≤ bnd z S2 (c.1 + 1) (n1 + 1) c.2.1 c.2.2.1 c.2.2.2 + 9 * (k + 1)
    have h2 := bnd_gW (n := c.1 + 1) (n1 := n1 + 1) (h := c.2.1) (q := c.2.2.1) (ch := c.2.2.2) hz g hI hI2
    rw [bnd_n (X := S), bnd_n1 (X := S)] at h2
    omega
theorem acc_c (hz : zInj z) (hI : iAll z k S) (hI2 : iAll z (k + 1) S2) (g : gW z S S2) (hA : AccC z k S T c) (hc : cb z S2 ≤ cb z S) (hv : v < sn S 8) (hm : (sT S 8 1 v).toNat % 2 = 0) (h0 : c.2.2.2 v = false) (hx : x ≤ 2 * EWs S (pO S v) + 20 * sn S 6 + 31)
    (hn : ∀ o : Nat, o < sn S2 8 → o < sn S 8) (hs : ∀ o : Nat, o < sn S 8 → o ≠ v → sb z S2 o = true → sb z S o = true) (hb : ∀ o : Nat, o < sn S 8 → o ≠ v → rb z S2 o = true → rb z S o = true) : AccC z (k + 1) S2 (T + x) (cI_c v c) := by
  have h3 := made_gW hA g
  have h4 := chN_gW hA g
  obtain ⟨a1, a2, a3, n1, b1, b2, b3⟩ := hA
  have h8 := g.2.2.1.1
  refine ⟨?_, fun o ho w => ?_, fun o w => ?_, n1, b1, ?_, ?_⟩
  · show c.1 + c.2.1 + c.2.2.1 + cb z S2 + chN S2 (fun o => if o = v then true else c.2.2.2 o) ≤ k + 1
    rw [chN_add (by omega) h0]
    omega
  · show (if o = v then true else c.2.2.2 o) = true
    by_cases e : o = v
    · exact if_pos e
    · rw [if_neg e]
      exact a2 o (hn o ho) (hs o (hn o ho) e w)
  · have w : (if o = v then true else c.2.2.2 o) = true := w
    by_cases e : o = v
    · rw [e, g.2.2.1.2 1 v hv (by decide)]
      exact ⟨by omega, hm⟩
    · rw [if_neg e] at w
      exact h3 o w
  · rcases b2 with h | h | ⟨o, h1, h2⟩
    · exact Or.inl h
    · exact Or.inr (Or.inl h)
    · have hne : o ≠ v := fun e => by rw [e, h0] at h1; exact Bool.false_ne_true h1
      refine Or.inr (Or.inr ⟨o, ?_, ?_⟩)
      · show (if o = v then true else c.2.2.2 o) = true
        rw [if_neg hne]; exact h1
      · cases hh : rb z S2 o with
        | false => rfl
        | true =>
          rw [hb o (a3 o h1).1 hne hh] at h2
          exact absurd h2 (by decide)
  · show T + x ≤ bnd z S2 c.1 n1 c.2.1 c.2.2.1 (fun o => if o = v then true else c.2.2.2 o) + 9 * (k + 1)
    have h1 := bnd_gW (n := c.1) (n1 := n1) (h := c.2.1) (q := c.2.2.1) (ch := c.2.2.2) hz g hI hI2
    have h2 := bnd_c (X := S) (z := z) (n := c.1) (n1 := n1) (h := c.2.1) (q := c.2.2.1) hv h0
    have h5 := bnd_gW (n := c.1) (n1 := n1) (h := c.2.1) (q := c.2.2.1) (ch := fun o => if o = v then true else c.2.2.2 o) hz g hI hI2
    omega
theorem acc_d (hz : zInj z) (hI : iAll z k S) (hI2 : iAll z (k + 1) S2) (g : gW z S S2) (hA : AccC z k S T c) (hc : cb z S2 ≤ cb z S + 1) (hv : v < sn S 8) (h0 : db z S v = false) (h1 : db z S2 v = true) (hx : x ≤ 2 * sA S (pO S v) + 4 * sn S 6 + 15) (hs : ∀ o : Nat, o < sn S2 8 → sb z S2 o = true → c.2.2.2 o = true) (hb : ∀ o : Nat, o < sn S 8 → rb z S2 o = true → rb z S o = true) : AccC z (k + 1) S2 (T + x) c := by
  have h3 := made_gW hA g
  have h4 := chN_gW hA g
  have hA0 := hA
  obtain ⟨a1, a2, a3, n1, b1, b2, b3⟩ := hA
  refine ⟨by omega, hs, h3, n1, b1, keepW hA0 hb b2, ?_⟩
  have := bnd_d (n := c.1) (n1 := n1) (h := c.2.1) (q := c.2.2.1) (ch := c.2.2.2) hz g hI hI2 hv h0 h1
  omega
end ZG18
