/-! THE ROOM: calls that keep the shape; holds, measurings, withdrawals -/
set_option maxRecDepth 100000
section ZD2
variable {z : Nat → Nat} {k k2 o l : Nat} {X X' X2 S S2 Y : hS}
theorem ffr.symm (h : ffr X X') : ffr X' X := ⟨fun c hc => (h.1 c hc).symm, fun c k i hc => (h.2.1 c k i hc).symm, fun c i hc => (h.2.2 c i hc).symm⟩
theorem gRn.fr2 (h : gRn z X X') (hf : ffr X' X2) (hI : iAll z k X2) : gRn z X X2 := h.fr hf (hI.fr hf.symm)
theorem sameW.of (h : ∀ c : Nat, c = 2 ∨ c = 3 ∨ c = 4 ∨ c = 6 ∨ c = 7 ∨ c = 8 ∨ c = 21 ∨ c = 24 ∨ c = 26 ∨ c = 27 → ceq X X' c) : sameW X X' :=
  ⟨⟨(h 6 (by decide)).1, fun j l _ => (h 6 (by decide)).2.1 j l⟩, ⟨(h 7 (by decide)).1, fun j l _ => (h 7 (by decide)).2.1 j l⟩, ⟨(h 8 (by decide)).1, fun j l _ => (h 8 (by decide)).2.1 j l⟩, ⟨(h 4 (by decide)).1, fun j l => (h 4 (by decide)).2.1 j l⟩, ⟨(h 2 (by decide)).1, fun j l _ => (h 2 (by decide)).2.1 j l⟩, ⟨(h 3 (by decide)).1, fun l => (h 3 (by decide)).2.1 0 l⟩, (h 21 (by decide)).2.2 0, fun c i hc => (h c (by omega)).2.2 i⟩
theorem iAll.same (hI : iAll z k X) (h : sameW X X') (hR : iRn z X) : gRn z X X' := gRn.same h hI.pt hI.lo hI.or hI.tk hR
theorem gRn.mt {v : Int} (hI : iAll z k X) (hR : iRn z X) : gRn z X (mt X v) := hI.same (ffr.sameW ffr.mt) hR
theorem gRn.trans (h : gRn z X X') (h2 : gRn z X' X2) : gRn z X X2 := ⟨h.1.trans h2.1, h2.2⟩
theorem stAM {p q r t : Int} (hI : iAll z k S) (hI2 : iAll z k2 S2) (hR : iRn z S) (h : pAM S S2 p q r t) : gRn z S S2 := by
  rcases h with ⟨v, rfl⟩ | ⟨-, -, rfl⟩
  · exact .mt hI hR
  · exact (hI.same (.of (fun c hc => fAM_ceq (by omega) (by omega) (by omega))) hR).fr2 mAM_ffr hI2
theorem stAO {p q r t : Int} (hI : iAll z k S) (hI2 : iAll z k2 S2) (hR : iRn z S) (h : pcAO S S2 p q r t) : gRn z S S2 := by
  rcases h with ⟨v, rfl⟩ | ⟨-, rfl⟩
  · exact .mt hI hR
  · exact (hI.same (.of (fun c hc => fAO_ceq (by omega) (by omega))) hR).fr2 cAO_ffr hI2
theorem chF.same {c i : Nat} (h : chF X X' c i) (hc : c = 2 ∨ c = 3) : sameW X X' := by
  obtain ⟨h1, h2, h3, h4⟩ := h
  have cl : ∀ d : Nat, d ≠ 2 → d ≠ 3 → ceq X X' d := fun d a b => h1 d (by omega)
  have n23 : ∀ d : Nat, d = 2 ∨ d = 3 → sn X' d = sn X d := fun d _ => by
    by_cases e : d = c
    · rw [e]; exact h2
    · exact (h1 d e).1
  have t23 : ∀ d j l : Nat, j = 0 ∨ j = 7 → sT X' d j l = sT X d j l := fun d j l hj => by
    by_cases e : d = c
    · rw [e]; exact h4 j l (by omega)
    · exact (h1 d e).2.1 j l
  exact ⟨⟨(cl 6 (by decide) (by decide)).1, fun j l _ => (cl 6 (by decide) (by decide)).2.1 j l⟩, ⟨(cl 7 (by decide) (by decide)).1, fun j l _ => (cl 7 (by decide) (by decide)).2.1 j l⟩, ⟨(cl 8 (by decide) (by decide)).1, fun j l _ => (cl 8 (by decide) (by decide)).2.1 j l⟩, ⟨(cl 4 (by decide) (by decide)).1, fun j l => (cl 4 (by decide) (by decide)).2.1 j l⟩, ⟨n23 2 (by decide), fun j l hj => t23 2 j l hj⟩, ⟨n23 3 (by decide), fun l => t23 3 0 l (by decide)⟩, (cl 21 (by decide) (by decide)).2.2 0, fun d j hd => (cl d (by omega) (by omega)).2.2 j⟩
theorem stSC {p x w : Int} (hI : iAll z k S) (hI2 : iAll z k2 S2) (hR : iRn z S) (h : pSC S S2 p x w) : gRn z S S2 := by
  rcases h with ⟨v, rfl⟩ | ⟨-, rfl⟩
  · exact .mt hI hR
  · refine (hI.same (chartS_chF.same ?_) hR).fr2 (chartS_chM.fr) hI2
    show 2 + _ % 2 = 2 ∨ 2 + _ % 2 = 3
    omega
/-- a promise is taken back -/
theorem frW (hz : zInj z) (hP : iPt k X) (hL : iLo X) (hO : iOr z X) (hT : iTk X) (hSp : iSp z X) (hR : iRn z X) (ho : o < sn X 8) (hst : sT X 8 7 o = (z 1 : Nat)) : gRn z X (fFr z X o) := by
  have u := fun (c : Nat) (hc : c ≠ 6 ∧ c ≠ 8 ∧ c ≠ 26) => fFr_ceq (z := z) (X := X) (o := o) hc
  have t6 : ∀ j l : Nat, j < 4 → sT (fFr z X o) 6 j l = sT X 6 j l := fun j l hj => fFr_sT (by omega) (by omega)
  have t8 : ∀ j q : Nat, ¬ (j = 7 ∧ q = o) → sT (fFr z X o) 8 j q = sT X 8 j q := fun j q hj => fFr_sT (by omega) (by omega)
  have zne : ∀ s : Nat, 2 ≤ s → s < 6 → (z 1 : Nat) ≠ z s := fun s h2 h6 w => by
    have := hz 1 s (by omega) (by omega) w
    omega
  have sne : ∀ q s : Nat, 2 ≤ s → s < 6 → sT X 8 7 q = (z s : Nat) → q ≠ o := fun q s h2 h6 hs e => by
    rw [e, hst] at hs
    exact zne s h2 h6 (by omega)
  have s26 : ∀ q s : Nat, q < sn X 8 → 2 ≤ s → s < 6 → sT X 8 7 q = (z s : Nat) → sE (fFr z X o) 26 (fOL X q) = sE X 26 (fOL X q) := fun q s hq h2 h6 hs => by
    rw [fFr_sE, if_neg (fun w => ?_)]
    have h5 := (hO q hq).2.2.2.2.2.1
    have h5o := (hO o ho).2.2.2.2.2.1
    have e : sT X 8 5 q = sT X 8 5 o := by
      have := w.2
      unfold fOL at this
      omega
    exact sne q s h2 h6 hs (hSp.1 q o hq ho e)
  have l26 : ∀ l : Nat, l < sn X 6 → sE (fFr z X o) 26 (sT X 6 3 l).toNat = sE X 26 (sT X 6 3 l).toNat := fun l hl => by
    rw [fFr_sE, if_neg (fun w => ?_)]
    have h3 := (hL l hl).2.2.2.1
    have h5o := (hO o ho).2.2.2.2.2.1
    have e : sT X 6 3 l = sT X 8 5 o := by
      have := w.2
      unfold fOL at this
      omega
    rcases hSp.2.2.1 l o hl ho e with w | w
    · exact sne o 4 (by decide) (by decide) w rfl
    · exact sne o 5 (by decide) (by decide) w rfl
  have g : gW z X (fFr z X o) := by
    refine ⟨⟨Nat.le_of_eq fFr_sn.symm, fun j l _ hj => t6 j l hj⟩, ⟨Nat.le_of_eq fFr_sn.symm, fun j t _ _ => (u 7 (by decide)).2.1 j t⟩, ⟨Nat.le_of_eq fFr_sn.symm, fun j q _ hj => t8 j q (by omega)⟩, ⟨Nat.le_of_eq fFr_sn.symm, fun j c _ => (u 4 (by decide)).2.1 j c⟩, ⟨Nat.le_of_eq fFr_sn.symm, fun j i _ _ => (u 2 (by decide)).2.1 j i⟩, ⟨Nat.le_of_eq fFr_sn.symm, fun i _ => (u 3 (by decide)).2.1 0 i⟩, pgr.same ((u 21 (by decide)).2.2 0), fun i _ => ⟨[], by rw [(u 24 (by decide)).2.2 i, List.append_nil]⟩, fun q s hq h2 h6 hs => ⟨⟨s, ⟨by omega, fun _ => Nat.le_refl _⟩, h6, by rw [t8 7 q (fun w => sne q s h2 h6 hs w.2)]; exact hs⟩, s26 q s hq h2 h6 hs, by rw [t8 8 q (by omega)]; exact Int.le_refl _, fun _ => t8 13 q (by omega)⟩, fun q hq hs => (u 27 (by decide)).2.2 _, l26⟩
  have eOL : ∀ q : Nat, fOL (fFr z X o) q = fOL X q := fun q => congrArg Int.toNat (t8 5 q (by omega))
  have eDL : ∀ q : Nat, fDelL (fFr z X o) q = fDelL X q := fun q => congrArg Int.toNat (t8 6 q (by omega))
  obtain ⟨⟨hD, hLt, hC⟩, hM, hPq⟩ := hR
  refine ⟨g, ⟨fun p q hp hq t ht v hv => ?_, fun l hl => ?_, fun p hp hne => ?_⟩, fun p hp hne => ?_, fun p hp => ?_⟩
  · rw [fFr_sn] at hp hq
    rw [eOL, fFr_sE] at ht
    rw [eDL, (u 27 (by decide)).2.2] at hv
    split at ht
    · exact absurd ht List.not_mem_nil
    · exact hD p q hp hq t ht v hv
  · rw [fFr_sn] at hl
    rw [t6 1 l (by decide), t6 3 l (by decide), t6 2 l (by decide), l26 l hl]
    rcases hLt l hl with w | ⟨w1, w2, q, w3, w4, w5, w6, w7, w8⟩
    · exact Or.inl w
    · refine Or.inr ⟨w1, w2, q, by rw [fFr_sn]; exact w3, by rw [t8 13 q (by omega)]; exact w4, by rw [t8 5 q (by omega)]; exact w5, by rw [t8 1 q (by omega)]; exact w6, by rw [t8 2 q (by omega)]; exact w7, ?_⟩
      by_cases e : q = o
      · rw [e] at w8
        unfold fPr at w8
        exact absurd hst (of_decide_eq_false w8)
      · unfold fPr
        rw [t8 7 q (fun w => e w.2)]
        exact w8
  · rw [fFr_sn] at hp
    rw [eOL, fFr_sE] at hne
    split at hne
    · exact absurd rfl hne
    · rename_i w
      have hne2 := hne
      exact (hC p hp hne).gW g hP hL hO hT hp (hM p hp hne) (by rw [fFr_sE, if_neg w])
  · rw [fFr_sn] at hp
    rw [eOL, fFr_sE] at hne
    rw [t8 1 p (by omega)]
    split at hne
    · exact absurd rfl hne
    · exact hM p hp hne
  · rw [fFr_sn] at hp
    rw [t8 8 p (by omega), t8 2 p (by omega)]
    exact hPq p hp
theorem loseW (hz : zInj z) (hRr : rR z X Y) (hI : iNo z k X) (hS : mShape Y) (hB : mBox Y) (hR : iRn z X) : ∀ n : Nat, n ≤ sn X 8 → gRn z X (fLoseN z X n).1 := by
  intro n
  induction n with
  | zero => intro _; exact ⟨.refl, hR⟩
  | succ n ih =>
    intro hn
    have P := pairLose hz hRr hI hS hB n (by omega)
    have g := ih (by omega)
    have sF : fLoseN z X (n + 1) = fLoseStep z (fLoseN z X n) n := fLoseN_succ'
    unfold fLoseStep at sF
    cases e : fLoses z (fLoseN z X n).1 n with
    | false =>
      rw [e, if_neg (by decide)] at sF
      rw [sF]; exact g
    | true =>
      rw [e, if_pos rfl] at sF
      rw [sF]
      have hst : sT (fLoseN z X n).1 8 7 n = (z 1 : Nat) := by
        unfold fLoses at e
        rw [Bool.and_eq_true] at e
        exact of_decide_eq_true e.1
      have hi := P.i
      exact g.trans (frW hz hi.2.1 hi.2.2.2.1 hi.2.2.2.2.2.1 hi.2.2.2.2.1 hi.2.2.2.2.2.2.1 g.2 (by rw [P.n8]; omega) hst)
end ZD2
