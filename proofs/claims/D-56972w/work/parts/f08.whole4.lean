/-! THE ROOM: measurings keep that a finished order has its own lot; what stays of holds -/
set_option maxRecDepth 100000
/-- old lots' holds stay, new made lots are free -/
def hkR (X Y : hS) : Prop := sn X 6 ≤ sn Y 6 ∧ (∀ l : Nat, l < sn X 6 → sT Y 6 7 l = sT X 6 7 l) ∧ ∀ l : Nat, sn X 6 ≤ l → l < sn Y 6 → (sT Y 6 1 l).toNat % 2 = 0 → sT Y 6 7 l = 0
section ZF8
variable {z : Nat → Nat} {k k2 o l : Nat} {X Y S S2 T G : hS}
theorem yMe {v w : Int} (hz : zInj z) (hRr : rR z S S) (hI : iAll z k S) (hMS : mShape S) (hB : mBox S) (hI2 : iAll z k2 S2) (hR : iRn z S) (h : pMe z S S2 v w) (h0 : i0 z S) : i0 z S2 := by
  have g := (stMe hz hRr hI hMS hB hI2 hR h).1
  refine kE.i0 hz ?_ g hI h0
  rcases h with ⟨v, rfl⟩ | ⟨hv, -, p', rfl⟩
  · exact .ff ffr.mt
  · obtain ⟨q, hq, hq6⟩ := idx hv
    have eq : v.toNat = q := by omega
    rw [eq]
    obtain ⟨p, hp, hqp⟩ := (hI.lo q hq6).2.1
    have eL : fLp S q = fPc S p := by
      unfold fLp
      rw [hqp]; rfl
    have eMS : fMeasS S q w = fHl (fOutS S (pcl S p) (pix S p) w) q (fOut S (pcl S p) (pix S p) w || fh S q) := by
      unfold fMeasS fHl fMeasOut
      unfold pcl pix
      rw [eL]
    have hcl : pcl S p = 2 ∨ pcl S p = 3 := by unfold pcl; omega
    have h1 : kE z S (fMeasS S q w) := by
      rw [eMS]
      exact (kE.sm ((outS_chF (c := pcl S p) (j := pix S p) (v := w)).same hcl)).trans (kE.sm hl_same)
    refine (h1.trans (kE_lose (z := z) (sn S 8))).trans (.ff ?_)
    generalize (fLoseN z (fMeasS S q w) (sn S 8)).1 = T
    have o1 : ∀ U : hS, ffr T U → ffr T (mOutS U p' w) := fun U hU => hU.trans outS_chM.fr
    unfold mMeasS
    split
    · have hL : ∀ (V : hS) (n : Nat), ffr V (mLoseN V n).1 := by
        intro V n
        induction n with
        | zero => exact .refl
        | succ n ih =>
          rw [mLoseN_succ']
          unfold mLoseStep
          split
          · exact ih.trans mFr_ffr
          · exact ih
      exact ((o1 _ ffr.mt).set (by decide)).trans (hL _ _)
    · exact o1 _ ffr.mt
theorem hkR.refl : hkR X X := ⟨Nat.le_refl _, fun _ _ => rfl, fun l h1 h2 => absurd h2 (by omega)⟩
theorem hkR.trans (h : hkR X Y) (g : hkR Y S) (h1 : ∀ l : Nat, l < sn Y 6 → sT S 6 1 l = sT Y 6 1 l) : hkR X S := by
  obtain ⟨a1, a2, a3⟩ := h
  obtain ⟨b1, b2, b3⟩ := g
  refine ⟨by omega, fun l hl => (b2 l (by omega)).trans (a2 l hl), fun l l1 l2 hm => ?_⟩
  by_cases hY : l < sn Y 6
  · rw [h1 l hY] at hm
    exact (b2 l hY).trans (a3 l l1 hY hm)
  · exact b3 l (by omega) l2 hm
theorem hkR.cq (h : ceq X Y 6) : hkR X Y := ⟨Nat.le_of_eq h.1.symm, fun l _ => h.2.1 7 l, fun l h1 h2 => absurd h2 (by have := h.1; omega)⟩
theorem hkR.ff (h : ffr X Y) : hkR X Y := ⟨Nat.le_of_eq (h.1 6 (by decide)).symm, fun l _ => h.2.1 6 7 l (by decide), fun l h1 h2 => absurd h2 (by have := h.1 6 (by decide); omega)⟩
/-- a walk of jobs -/
theorem shpC.hk (h : shpC z X Y) (hp : iPq X) : hkR X Y ∧ ∀ l : Nat, l < sn X 6 → sT Y 6 1 l = sT X 6 1 l := by
  refine h (fun B => hkR X B ∧ ∀ l : Nat, l < sn X 6 → sT B 6 1 l = sT X 6 1 l) (fun A B g _ w => ?_) (fun A o g _ _ w => ?_) hp ⟨.refl, fun _ _ => rfl⟩
  · obtain ⟨w1, w2⟩ := w
    obtain ⟨-, g2, g3, -⟩ := g
    refine ⟨w1.trans ⟨by omega, fun l _ => g3 7 l (by decide), fun l a b => absurd b (by omega)⟩ (fun l _ => g3 1 l (by decide)), fun l hl => (g3 1 l (by decide)).trans (w2 l hl)⟩
  · obtain ⟨w1, w2⟩ := w
    refine ⟨w1.trans ⟨by rw [fB_n6]; omega, fun l hl => fB_6 (by omega), fun l a b _ => ?_⟩ (fun l hl => fB_6 (by omega)), fun l hl => (fB_6 (by have := w1.1; omega)).trans (w2 l hl)⟩
    rw [fB_n6] at b
    have e : l = sn A 6 := by omega
    subst e
    exact fB_6n (j := 7) (by decide)
end ZF8
