/-! THE ROOM: parts and components -/
set_option maxRecDepth 100000
section ZD5
variable {z : Nat → Nat} {k k2 o l : Nat} {X X' X2 S S2 Y : hS}
theorem gRn.keep (hI : iAll z k X) (hR : iRn z X) (g : gW z X X') (n6 : sn X' 6 = sn X 6) (n8 : sn X' 8 = sn X 8) (t8 : ∀ j q : Nat, j = 7 ∨ j = 8 ∨ j = 13 → sT X' 8 j q = sT X 8 j q) (e26 : ∀ i : Nat, sE X' 26 i = sE X 26 i) (e27 : ∀ i : Nat, sE X' 27 i = sE X 27 i) : gRn z X X' := by
  obtain ⟨⟨hD, hLt, hC⟩, hM, hPq⟩ := hR
  refine ⟨g, ⟨fun p q hp hq t ht u hu => ?_, fun l hl => ?_, fun p hp hne => ?_⟩, fun p hp hne => ?_, fun p hp => ?_⟩
  · rw [n8] at hp hq
    rw [g.oL hp, e26] at ht
    rw [g.dL hq, e27] at hu
    exact hD p q hp hq t ht u hu
  · rw [n6] at hl
    rw [g.1.2 1 l hl (by decide), g.1.2 3 l hl (by decide), g.1.2 2 l hl (by decide), e26]
    rcases hLt l hl with w | ⟨w1, w2, q, w3, w4, w5, w6, w7, w8⟩
    · exact Or.inl w
    · refine Or.inr ⟨w1, w2, q, by omega, by rw [t8 13 q (Or.inr (Or.inr rfl))]; exact w4, by rw [g.2.2.1.2 5 q w3 (by decide)]; exact w5, by rw [g.2.2.1.2 1 q w3 (by decide)]; exact w6, by rw [g.2.2.1.2 2 q w3 (by decide)]; exact w7, ?_⟩
      unfold fPr
      rw [t8 7 q (Or.inl rfl)]
      exact w8
  · rw [n8] at hp
    rw [g.oL hp, e26] at hne
    exact (hC p hp hne).gW g hI.pt hI.lo hI.or hI.tk hp (hM p hp hne) (e26 _)
  · rw [n8] at hp
    rw [g.oL hp, e26] at hne
    rw [g.2.2.1.2 1 p hp (by decide)]
    exact hM p hp hne
  · rw [n8] at hp
    rw [t8 8 p (Or.inr (Or.inl rfl)), g.2.2.1.2 2 p hp (by decide)]
    exact hPq p hp
theorem stAP {c : Bool} {f : Int} (hI : iAll z k S) (hI2 : iAll z k2 S2) (hR : iRn z S) (h : pAP S S2 c f) : gRn z S S2 := by
  rcases h with ⟨v, rfl⟩ | ⟨-, -, rfl⟩
  · exact .mt hI hR
  · refine gRn.fr2 (X' := fAddPart S c f) ?_ mAP_ffr hI2
    have u : ∀ d : Nat, d ≠ 2 → d ≠ 3 → d ≠ 21 → d ≠ 24 → d ≠ 25 → ceq S (fAddPart S c f) d := fun d a b e f g => fAP_ceq a b e f g
    have n24 := hI.pt.2.1
    have g : gW z S (fAddPart S c f) := by
      refine ⟨⟨Nat.le_of_eq (u 6 (by decide) (by decide) (by decide) (by decide) (by decide)).1.symm, fun j l _ _ => (u 6 (by decide) (by decide) (by decide) (by decide) (by decide)).2.1 j l⟩, ⟨Nat.le_of_eq (u 7 (by decide) (by decide) (by decide) (by decide) (by decide)).1.symm, fun j l _ _ => (u 7 (by decide) (by decide) (by decide) (by decide) (by decide)).2.1 j l⟩, ⟨Nat.le_of_eq (u 8 (by decide) (by decide) (by decide) (by decide) (by decide)).1.symm, fun j l _ _ => (u 8 (by decide) (by decide) (by decide) (by decide) (by decide)).2.1 j l⟩, ⟨Nat.le_of_eq (u 4 (by decide) (by decide) (by decide) (by decide) (by decide)).1.symm, fun j l _ => (u 4 (by decide) (by decide) (by decide) (by decide) (by decide)).2.1 j l⟩, ⟨fAP_le 2, fun j i hi _ => ?_⟩, ⟨fAP_le 3, fun i hi => ?_⟩, fAP_gr, fun i hi => ⟨[], ?_⟩, fun q s hq _ h6 hs => ⟨⟨s, ⟨by omega, fun _ => Nat.le_refl _⟩, h6, by rw [(u 8 (by decide) (by decide) (by decide) (by decide) (by decide)).2.1]; exact hs⟩, (u 26 (by decide) (by decide) (by decide) (by decide) (by decide)).2.2 _, by rw [(u 8 (by decide) (by decide) (by decide) (by decide) (by decide)).2.1]; exact Int.le_refl _, fun _ => (u 8 (by decide) (by decide) (by decide) (by decide) (by decide)).2.1 13 q⟩, fun q _ _ => (u 27 (by decide) (by decide) (by decide) (by decide) (by decide)).2.2 _, fun l _ => (u 26 (by decide) (by decide) (by decide) (by decide) (by decide)).2.2 _⟩
      · cases c with
        | true => exact fAPm_old (by omega)
        | false => exact (fAP_bought (by decide) (by decide)).2.1 j i
      · cases c with
        | true => exact fAP_made3.2.1 0 i
        | false => exact fAPb_old (by omega)
      · rw [List.append_nil]
        cases c with
        | true => rw [fAPm_E24, if_neg (by omega)]
        | false => exact (fAP_bought (by decide) (by decide)).2.2 i
    exact gRn.keep hI hR g (u 6 (by decide) (by decide) (by decide) (by decide) (by decide)).1 (u 8 (by decide) (by decide) (by decide) (by decide) (by decide)).1 (fun j q _ => (u 8 (by decide) (by decide) (by decide) (by decide) (by decide)).2.1 j q) (fun i => (u 26 (by decide) (by decide) (by decide) (by decide) (by decide)).2.2 i) (fun i => (u 27 (by decide) (by decide) (by decide) (by decide) (by decide)).2.2 i)
theorem stAC {p q r t : Int} (hI : iAll z k S) (hI2 : iAll z k2 S2) (hR : iRn z S) (h : pcAC S S2 p q r t) : gRn z S S2 := by
  rcases h with ⟨v, rfl⟩ | ⟨-, rfl⟩
  · exact .mt hI hR
  · refine gRn.fr2 (X' := fAddComponent S p q r t) ?_ cAC_ffr hI2
    have u : ∀ d : Nat, d ≠ 4 → d ≠ 24 → ceq S (fAddComponent S p q r t) d := fun d a b => fAC_ceq a b
    have g : gW z S (fAddComponent S p q r t) := by
      refine ⟨⟨Nat.le_of_eq (u 6 (by decide) (by decide)).1.symm, fun j l _ _ => (u 6 (by decide) (by decide)).2.1 j l⟩, ⟨Nat.le_of_eq (u 7 (by decide) (by decide)).1.symm, fun j l _ _ => (u 7 (by decide) (by decide)).2.1 j l⟩, ⟨Nat.le_of_eq (u 8 (by decide) (by decide)).1.symm, fun j l _ _ => (u 8 (by decide) (by decide)).2.1 j l⟩, ⟨by rw [fAC_n4]; omega, fun j l hl => fAC_old (by omega)⟩, ⟨Nat.le_of_eq (u 2 (by decide) (by decide)).1.symm, fun j l _ _ => (u 2 (by decide) (by decide)).2.1 j l⟩, ⟨Nat.le_of_eq (u 3 (by decide) (by decide)).1.symm, fun l _ => (u 3 (by decide) (by decide)).2.1 0 l⟩, pgr.same ((u 21 (by decide) (by decide)).2.2 0), fun i _ => ?_, fun q s _ _ h6 hs => ⟨⟨s, ⟨by omega, fun _ => Nat.le_refl _⟩, h6, by rw [(u 8 (by decide) (by decide)).2.1]; exact hs⟩, (u 26 (by decide) (by decide)).2.2 _, by rw [(u 8 (by decide) (by decide)).2.1]; exact Int.le_refl _, fun _ => (u 8 (by decide) (by decide)).2.1 13 q⟩, fun q _ _ => (u 27 (by decide) (by decide)).2.2 _, fun l _ => (u 26 (by decide) (by decide)).2.2 _⟩
      rw [fAC_24]
      by_cases e : i = fCl S p
      · rw [if_pos e, e]
        exact ⟨[(sn S 4 : Int)], rfl⟩
      · rw [if_neg e]
        exact ⟨[], (List.append_nil _).symm⟩
    exact gRn.keep hI hR g (u 6 (by decide) (by decide)).1 (u 8 (by decide) (by decide)).1 (fun j q _ => (u 8 (by decide) (by decide)).2.1 j q) (fun i => (u 26 (by decide) (by decide)).2.2 i) (fun i => (u 27 (by decide) (by decide)).2.2 i)
end ZD5
