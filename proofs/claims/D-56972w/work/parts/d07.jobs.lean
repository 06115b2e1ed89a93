/-! THE ROOM: jobs end, lots are made -/
set_option maxRecDepth 100000
/-- lots and their orders, but for the stage -/
def iLs (X : hS) : Prop := ∀ l : Nat, l < sn X 6 → ((sT X 6 1 l).toNat % 2 = 1 ∧ sE X 26 (sT X 6 3 l).toNat = []) ∨
  ((sT X 6 1 l).toNat % 2 = 0 ∧ sT X 6 2 l ≤ 100 ∧ ∃ o : Nat, o < sn X 8 ∧ sT X 8 13 o = (l : Nat) ∧ sT X 8 5 o = sT X 6 3 l ∧ sT X 8 1 o = sT X 6 1 l ∧ sT X 6 2 l ≤ sT X 8 2 o)
/-- the shape behind some jobs' ends -/
def shG (X B : hS) : Prop := (sn X 6 ≤ sn B 6 ∧ ∀ j l : Nat, l < sn X 6 → j < 4 → sT B 6 j l = sT X 6 j l) ∧ (sn B 7 = sn X 7 ∧ ∀ j t : Nat, j < 2 → sT B 7 j t = sT X 7 j t) ∧ (sn B 8 = sn X 8 ∧ ∀ j o : Nat, j < 7 → sT B 8 j o = sT X 8 j o) ∧
  (∀ c : Nat, c = 2 ∨ c = 3 ∨ c = 4 ∨ c = 21 ∨ c = 24 ∨ c = 26 ∨ c = 27 → ceq X B c) ∧ (∀ o : Nat, 0 ≤ sT X 8 13 o → sT B 8 13 o = sT X 8 13 o) ∧ iLs B
section ZD7
variable {z : Nat → Nat} {k k2 o l : Nat} {X X' X2 S S2 A B Y : hS}
theorem iLt.ls (h : iLt z X) : iLs X := fun l hl => by
  rcases h l hl with w | ⟨w1, w2, q, w3, w4, w5, w6, w7, -⟩
  · exact Or.inl w
  · exact Or.inr ⟨w1, w2, q, w3, w4, w5, w6, w7⟩
theorem iLs.lt (hz : zInj z) (h : iLs X) (hO : iOr z X) : iLt z X := fun l hl => by
  rcases h l hl with w | ⟨w1, w2, q, w3, w4, w5, w6, w7⟩
  · exact Or.inl w
  · refine Or.inr ⟨w1, w2, q, w3, w4, w5, w6, w7, ?_⟩
    unfold fPr
    refine decide_eq_false (fun e => ?_)
    have h17 := (hO q w3).2.2.2.2.2.2.2.2.2.2.2.2.2.2.2.1
    have := h17 (fun w => by
      have := hz 1 4 (by decide) (by decide) (by omega)
      omega) (fun w => by
      have := hz 1 5 (by decide) (by decide) (by omega)
      omega)
    omega
theorem shG.refl (h : iLs X) : shG X X := ⟨⟨Nat.le_refl _, fun _ _ _ _ => rfl⟩, ⟨rfl, fun _ _ _ => rfl⟩, ⟨rfl, fun _ _ _ => rfl⟩, fun _ _ => ceq.refl, fun _ _ => rfl, h⟩
theorem shG.str (h : shG X A) (g : strEq A B) : shG X B := by
  obtain ⟨⟨a1, a2⟩, ⟨b1, b2⟩, ⟨c1, c2⟩, d, e, f⟩ := h
  obtain ⟨k1, k2, k3, k4, k5, k6, k7, -⟩ := g
  refine ⟨⟨by omega, fun j l hl hj => (k3 j l (by omega)).trans (a2 j l hl hj)⟩, ⟨by omega, fun j t hj => (k5 j t hj).trans (b2 j t hj)⟩, ⟨by omega, fun j q hj => (k7 j q (by omega)).trans (c2 j q hj)⟩, fun c hc => (d c hc).trans (k1 c (by omega)), fun q hq => (k7 13 q (by omega)).trans (e q hq), fun l hl => ?_⟩
  rw [k2] at hl
  rw [k3 1 l (by decide), k3 2 l (by decide), k3 3 l (by decide), (k1 26 (by decide)).2.2]
  rcases f l hl with w | ⟨w1, w2, q, w3, w4, w5, w6, w7⟩
  · exact Or.inl w
  · exact Or.inr ⟨w1, w2, q, by omega, by rw [k7 13 q (by omega)]; exact w4, by rw [k7 5 q (by omega)]; exact w5, by rw [k7 1 q (by omega)]; exact w6, by rw [k7 2 q (by omega)]; exact w7⟩
theorem shG.fin (h100 : ∀ q : Nat, q < sn X 8 → sT X 8 2 q ≤ 100) (h : shG X A) (hf : finOk z A o) (hp : ∀ i : Nat, i < sn A 8 → sT A 8 8 i ≤ sT A 8 2 i) : shG X (fFiB z A o) := by
  obtain ⟨⟨a1, a2⟩, ⟨b1, b2⟩, ⟨c1, c2⟩, d, e, f⟩ := h
  obtain ⟨f1, f2, f3, f4, f5, f6, f7⟩ := hf
  have t8 : ∀ j q : Nat, j < 7 → sT (fFiB z A o) 8 j q = sT A 8 j q := fun j q hj => fB_8 (by omega)
  have t13 : ∀ q : Nat, q ≠ o → sT (fFiB z A o) 8 13 q = sT A 8 13 q := fun q hq => fB_8 (by omega)
  have u : ∀ c : Nat, c ≠ 6 → c ≠ 8 → c ≠ 22 → ceq A (fFiB z A o) c := fun c x y w => fB_c ⟨x, y, w⟩
  refine ⟨⟨by rw [fB_n6]; omega, fun j l hl hj => (fB_6 (by omega)).trans (a2 j l hl hj)⟩, ⟨(u 7 (by decide) (by decide) (by decide)).1.trans b1, fun j t hj => ((u 7 (by decide) (by decide) (by decide)).2.1 j t).trans (b2 j t hj)⟩, ⟨fB_n8.trans c1, fun j q hj => (t8 j q hj).trans (c2 j q hj)⟩, fun c hc => (d c hc).trans (u c (by omega) (by omega) (by omega)), fun q hq => ?_, fun l hl => ?_⟩
  · have e1 := e q hq
    by_cases w : q = o
    · rw [w] at hq e1
      omega
    · exact (t13 q w).trans e1
  · rw [fB_n6] at hl
    rw [(u 26 (by decide) (by decide) (by decide)).2.2]
    by_cases hn : l = sn A 6
    · subst hn
      right
      rw [fB_6n (j := 1) (by decide), fB_6n (j := 2) (by decide), fB_6n (j := 3) (by decide)]
      have h2 := h100 o (by omega)
      have h3 := hp o f1
      have h4 := c2 2 o (by decide)
      refine ⟨?_, ?_, o, by rw [fB_n8]; exact f1, fB_813, ?_, ?_, ?_⟩
      · show (((sT A 8 1 o).toNat : Nat) : Int).toNat % 2 = 0
        rw [Int.toNat_natCast]; exact f2
      · show sT A 8 8 o ≤ 100
        omega
      · rw [t8 5 o (by decide)]
        show sT A 8 5 o = ((fOL A o : Nat) : Int)
        unfold fOL; omega
      · rw [t8 1 o (by decide)]
        show sT A 8 1 o = (((sT A 8 1 o).toNat : Nat) : Int)
        omega
      · rw [t8 2 o (by decide)]
        exact h3
    · rw [fB_6 hn, fB_6 hn, fB_6 hn]
      rcases f l (by omega) with w | ⟨w1, w2, q, w3, w4, w5, w6, w7⟩
      · exact Or.inl w
      · have hq : q ≠ o := by
          rintro rfl
          omega
        exact Or.inr ⟨w1, w2, q, by rw [fB_n8]; exact w3, by rw [t13 q hq]; exact w4, by rw [t8 5 q (by decide)]; exact w5, by rw [t8 1 q (by decide)]; exact w6, by rw [t8 2 q (by decide)]; exact w7⟩
theorem shpC.toG (h : shpC z X B) (hL : iLs X) (h100 : ∀ q : Nat, q < sn X 8 → sT X 8 2 q ≤ 100) (hp : iPq X) : shG X B :=
  h (fun B => shG X B) (fun _ _ g _ w => w.str g) (fun _ _ hf _ hq w => w.fin h100 hf hq) hp (.refl hL)
/-- what a walk of jobs makes of the room's invariants -/
theorem jobsW (hz : zInj z) (h : shpC z X B) (hj : jbS z X B) (hI : iAll z k X) (hI2 : iAll z k2 B) (hR : iRn z X) : gRn z X B := by
  obtain ⟨⟨hD, hLt, hC⟩, hM, hPq⟩ := hR
  have hs := h.toG hLt.ls (fun q hq => (hI.or q hq).2.2.1.2) hPq
  obtain ⟨⟨a1, a2⟩, ⟨b1, b2⟩, ⟨c1, c2⟩, d, e, f⟩ := hs
  obtain ⟨j1, j2, j3, j4⟩ := hj
  have g : gW z X B := by
    refine ⟨⟨a1, a2⟩, ⟨Nat.le_of_eq b1.symm, fun j t _ hj => b2 j t hj⟩, ⟨Nat.le_of_eq c1.symm, fun j q _ hj => c2 j q hj⟩, ⟨Nat.le_of_eq (d 4 (by decide)).1.symm, fun j c _ => (d 4 (by decide)).2.1 j c⟩, ⟨Nat.le_of_eq (d 2 (by decide)).1.symm, fun j c _ _ => (d 2 (by decide)).2.1 j c⟩, ⟨Nat.le_of_eq (d 3 (by decide)).1.symm, fun c _ => (d 3 (by decide)).2.1 0 c⟩, pgr.same ((d 21 (by decide)).2.2 0), fun i _ => ⟨[], by rw [(d 24 (by decide)).2.2 i, List.append_nil]⟩, fun q s hq h2 h6 hs => ⟨?_, (d 26 (by decide)).2.2 _, by rw [j2]; exact Int.le_refl _, e q⟩, fun q _ _ => (d 27 (by decide)).2.2 _, fun l _ => (d 26 (by decide)).2.2 _⟩
    rcases j4 q with w | ⟨⟨s1, s2, s3, s4⟩, t1, t2, t3, t4⟩
    · exact ⟨s, ⟨h2, fun _ => Nat.le_refl _⟩, h6, by rw [w]; exact hs⟩
    · refine ⟨t1, ⟨t2, fun w => ?_⟩, by omega, t4⟩
      rw [hs] at s4
      have := hz s s1 (by omega) (by omega) (by omega)
      omega
  refine ⟨g, ⟨fun p q hp hq t ht u hu => ?_, f.lt hz hI2.or, fun p hp hne => ?_⟩, fun p hp hne => ?_, fun p hp => ?_⟩
  · rw [c1] at hp hq
    rw [g.oL hp, (d 26 (by decide)).2.2] at ht
    rw [g.dL hq, (d 27 (by decide)).2.2] at hu
    exact hD p q hp hq t ht u hu
  · rw [c1] at hp
    rw [g.oL hp, (d 26 (by decide)).2.2] at hne
    exact (hC p hp hne).gW g hI.pt hI.lo hI.or hI.tk hp (hM p hp hne) ((d 26 (by decide)).2.2 _)
  · rw [c1] at hp
    rw [g.oL hp, (d 26 (by decide)).2.2] at hne
    rw [c2 1 p (by decide)]
    exact hM p hp hne
  · rw [c1] at hp
    rw [j2, j3]
    exact hPq p hp
theorem stAd {e : Nat} (hz : zInj z) (hI : iAll z k S) (hI2 : iAll z k2 S2) (hR : iRn z S) (h : pAd z S S2 e) : gRn z S S2 := by
  rcases h with ⟨⟨v, rfl⟩, -⟩ | ⟨h1, h2, -⟩
  · exact .mt hI hR
  · exact jobsW hz h1 h2 hI hI2 hR
end ZD7
