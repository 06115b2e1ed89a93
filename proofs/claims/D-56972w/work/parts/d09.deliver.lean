/-! THE ROOM: deliveries -/
set_option maxRecDepth 100000
section ZD9
variable {z : Nat → Nat} {k k2 o l : Nat} {X X' X2 S S2 T G U Y : hS}
/-- a plan: new pieces in a list of nobody -/
theorem plG.gW (h : plG S T) (hI : iAll z k S) : gW z S T := by
  have u := fun (c : Nat) (hc : c ≠ 7 ∧ c ≠ 27) => h.ceq hc
  exact ⟨⟨Nat.le_of_eq (u 6 (by decide)).1.symm, fun j l _ _ => (u 6 (by decide)).2.1 j l⟩, ⟨h.2.2.1, fun j t ht _ => h.2.2.2.2.2.1 j t ht⟩, ⟨Nat.le_of_eq (u 8 (by decide)).1.symm, fun j l _ _ => (u 8 (by decide)).2.1 j l⟩, ⟨Nat.le_of_eq (u 4 (by decide)).1.symm, fun j l _ => (u 4 (by decide)).2.1 j l⟩, ⟨Nat.le_of_eq (u 2 (by decide)).1.symm, fun j l _ _ => (u 2 (by decide)).2.1 j l⟩, ⟨Nat.le_of_eq (u 3 (by decide)).1.symm, fun l _ => (u 3 (by decide)).2.1 0 l⟩, pgr.same ((u 21 (by decide)).2.2 0), fun i _ => ⟨[], by rw [(u 24 (by decide)).2.2 i, List.append_nil]⟩, fun q s _ _ h6 hs => ⟨⟨s, ⟨by omega, fun _ => Nat.le_refl _⟩, h6, by rw [(u 8 (by decide)).2.1]; exact hs⟩, (u 26 (by decide)).2.2 _, by rw [(u 8 (by decide)).2.1]; exact Int.le_refl _, fun _ => (u 8 (by decide)).2.1 13 q⟩, fun q hq _ => h.e27 (h.oL hI hq).2.2.2, fun l _ => (u 26 (by decide)).2.2 _⟩
theorem plG.rn (h : plG S T) (hI : iAll z k S) (hR : iRn z S) : gRn z S T := by
  have g := h.gW hI
  have u := fun (c : Nat) (hc : c ≠ 7 ∧ c ≠ 27) => h.ceq hc
  have n8 := (u 8 (by decide)).1
  have n6 := (u 6 (by decide)).1
  have e26 := (u 26 (by decide)).2.2
  have t8 := (u 8 (by decide)).2.1
  obtain ⟨⟨hD, hLt, hC⟩, hM, hPq⟩ := hR
  refine ⟨g, ⟨fun p q hp hq t ht v hv => ?_, fun l hl => ?_, fun p hp hne => ?_⟩, fun p hp hne => ?_, fun p hp => ?_⟩
  · rw [n8] at hp hq
    rw [g.oL hp, e26] at ht
    rw [g.dL hq, h.e27 (h.oL hI hq).2.2.2] at hv
    exact hD p q hp hq t ht v hv
  · rw [n6] at hl
    rw [g.1.2 1 l hl (by decide), g.1.2 3 l hl (by decide), g.1.2 2 l hl (by decide), e26]
    rcases hLt l hl with w | ⟨w1, w2, q, w3, w4, w5, w6, w7, w8⟩
    · exact Or.inl w
    · refine Or.inr ⟨w1, w2, q, by omega, by rw [t8]; exact w4, by rw [t8]; exact w5, by rw [t8]; exact w6, by rw [t8]; exact w7, ?_⟩
      unfold fPr
      rw [t8]
      exact w8
  · rw [n8] at hp
    rw [g.oL hp, e26] at hne
    exact (hC p hp hne).gW g hI.pt hI.lo hI.or hI.tk hp (hM p hp hne) (e26 _)
  · rw [n8] at hp
    rw [g.oL hp, e26] at hne
    rw [t8]
    exact hM p hp hne
  · rw [n8] at hp
    rw [t8, t8]
    exact hPq p hp
/-- a delivery -/
theorem dlZW (hz : zInj z) (hP : plG S T) (hI : iAll z k S) (hR : iRn z S) (ho : o < sn S 8) (hst : fDelOk z S o = true) : gRn z S (fDlZ z T o (sn S 27)) := by
  obtain ⟨g1, hR1⟩ := hP.rn hI hR
  have hIT := hP.inv hI
  have u := fun (c : Nat) (hc : c ≠ 7 ∧ c ≠ 27) => hP.ceq hc
  have hoT : o < sn T 8 := by rw [(u 8 (by decide)).1]; exact ho
  obtain ⟨e5, -, e6, l27⟩ := hP.oL hI ho
  have s7 : sT T 8 7 o = sT S 8 7 o := (u 8 (by decide)).2.1 7 o
  have hs04 : sT T 8 7 o = (z 0 : Nat) ∧ (sT T 8 1 o).toNat % 2 = 1 ∨ sT T 8 7 o = (z 4 : Nat) := by
    unfold fDelOk fStg at hst
    rw [Bool.or_eq_true, Bool.and_eq_true] at hst
    rw [s7, (u 8 (by decide)).2.1 1 o]
    rcases hst with ⟨a, b⟩ | a
    · exact Or.inl ⟨of_decide_eq_true b, of_decide_eq_true a⟩
    · exact Or.inr (of_decide_eq_true a)
  have hnew := hP.2.2.2.2.2.2.1
  have n : ∀ c : Nat, sn (fDlZ z T o (sn S 27)) c = sn T c := fun c => dZ_n
  have t : ∀ c j i : Nat, ¬ (c = 8 ∧ (j = 7 ∨ j = 12) ∧ i = o) → ¬ (c = 6 ∧ (j = 4 ∨ j = 6)) → ¬ (c = 7 ∧ j = 2) → sT (fDlZ z T o (sn S 27)) c j i = sT T c j i := fun c j i a b d => dZ_T a b d
  have E : ∀ c i : Nat, ¬ (c = 27 ∧ i = fDelL T o) → sE (fDlZ z T o (sn S 27)) c i = sE T c i := fun c i h => by rw [dZ_E, if_neg h]
  have dne : ∀ q : Nat, q < sn T 8 → q ≠ o → fDelL T q ≠ fDelL T o := fun q hq hne e => hne (hIT.sp.2.1 q o hq hoT (by
    have h1 := (hIT.or q hq).2.2.2.2.2.2.1
    have h2 := (hIT.or o hoT).2.2.2.2.2.2.1
    unfold fDelL at e
    omega))
  have g2 : gW z T (fDlZ z T o (sn S 27)) := by
    refine ⟨⟨Nat.le_of_eq (n 6).symm, fun j l _ hj => t 6 j l (by omega) (by omega) (by omega)⟩, ⟨Nat.le_of_eq (n 7).symm, fun j x _ hj => t 7 j x (by omega) (by omega) (by omega)⟩, ⟨Nat.le_of_eq (n 8).symm, fun j q _ hj => t 8 j q (by omega) (by omega) (by omega)⟩, ⟨Nat.le_of_eq (n 4).symm, fun j l _ => t 4 j l (by omega) (by omega) (by omega)⟩, ⟨Nat.le_of_eq (n 2).symm, fun j l _ _ => t 2 j l (by omega) (by omega) (by omega)⟩, ⟨Nat.le_of_eq (n 3).symm, fun l _ => t 3 0 l (by omega) (by omega) (by omega)⟩, pgr.same (E 21 0 (by omega)), fun i _ => ⟨[], by rw [E 24 i (by omega), List.append_nil]⟩, fun q s hq h2 h6 hs => ⟨?_, E 26 _ (by omega), by rw [t 8 8 q (by omega) (by omega) (by omega)]; exact Int.le_refl _, fun _ => t 8 13 q (by omega) (by omega) (by omega)⟩, fun q hq hs => E 27 _ (fun w => ?_), fun l _ => E 26 _ (by omega)⟩
    · by_cases e : q = o
      · rw [e]
        exact ⟨5, ⟨by decide, fun _ => by omega⟩, by decide, dZ_87⟩
      · exact ⟨s, ⟨h2, fun _ => Nat.le_refl _⟩, h6, by rw [t 8 7 q (by omega) (by omega) (by omega)]; exact hs⟩
    · have e : q = o := Decidable.byContradiction (fun hne => dne q hq hne w.2)
      rw [e] at hs
      rcases hs04 with ⟨a, -⟩ | a
      · have := hz 0 5 (by decide) (by decide) (by omega)
        omega
      · have := hz 4 5 (by decide) (by decide) (by omega)
        omega
  obtain ⟨⟨hD, hLt, hC⟩, hM, hPq⟩ := hR1
  refine ⟨g1.trans g2, ⟨fun p q hp hq x hx v hv => ?_, fun l hl => ?_, fun p hp hne => ?_⟩, fun p hp hne => ?_, fun p hp => ?_⟩
  · rw [n] at hp hq
    rw [g2.oL hp, E 26 _ (by omega)] at hx
    rw [g2.dL hq, dZ_E] at hv
    split at hv
    · -- the new list: pieces that were not there
      have h3 := hnew v hv
      have hp8 : p < sn S 8 := by rw [← (u 8 (by decide)).1]; exact hp
      obtain ⟨f5, f26, -, -⟩ := hP.oL hI hp8
      rw [f5, (u 26 (by decide)).2.2] at hx
      have h4 := hI.tk.1 (fOL S p) f26 x hx
      omega
    · exact hD p q hp hq x hx v hv
  · rw [n] at hl
    rw [g2.1.2 1 l hl (by decide), g2.1.2 3 l hl (by decide), g2.1.2 2 l hl (by decide), E 26 _ (by omega)]
    rcases hLt l hl with w | ⟨w1, w2, q, w3, w4, w5, w6, w7, w8⟩
    · exact Or.inl w
    · refine Or.inr ⟨w1, w2, q, by rw [n]; exact w3, by rw [t 8 13 q (by omega) (by omega) (by omega)]; exact w4, by rw [t 8 5 q (by omega) (by omega) (by omega)]; exact w5, by rw [t 8 1 q (by omega) (by omega) (by omega)]; exact w6, by rw [t 8 2 q (by omega) (by omega) (by omega)]; exact w7, ?_⟩
      unfold fPr
      by_cases e : q = o
      · rw [e, dZ_87]
        exact decide_eq_false (fun w => by
          have := hz 1 5 (by decide) (by decide) (by omega)
          omega)
      · rw [t 8 7 q (by omega) (by omega) (by omega)]
        exact w8
  · rw [n] at hp
    rw [g2.oL hp, E 26 _ (by omega)] at hne
    exact (hC p hp hne).gW g2 hIT.pt hIT.lo hIT.or hIT.tk hp (hM p hp hne) (E 26 _ (by omega))
  · rw [n] at hp
    rw [g2.oL hp, E 26 _ (by omega)] at hne
    rw [t 8 1 p (by omega) (by omega) (by omega)]
    exact hM p hp hne
  · rw [n] at hp
    rw [t 8 8 p (by omega) (by omega) (by omega), t 8 2 p (by omega) (by omega) (by omega)]
    exact hPq p hp
end ZD9
