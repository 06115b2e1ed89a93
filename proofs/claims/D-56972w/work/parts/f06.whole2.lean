/-! THE ROOM: all calls but scraps keep that a finished order has its own lot, whole -/
set_option maxRecDepth 100000
/-- stages: the same, or new or promised -/
def kE (z : Nat → Nat) (X Y : hS) : Prop := sn Y 8 = sn X 8 ∧ ∀ q : Nat, (sT Y 8 7 q = sT X 8 7 q ∨ sT Y 8 7 q = (z 0 : Nat) ∨ sT Y 8 7 q = (z 1 : Nat)) ∧ sT Y 8 8 q = sT X 8 8 q
section ZF6
variable {z : Nat → Nat} {k k2 o l : Nat} {X Y S S2 T G : hS}
theorem g0_of (g : gW z X Y) (hI : iAll z k X) (H : ∀ o : Nat, o < sn Y 8 → (sT Y 8 1 o).toNat % 2 = 0 → ∀ s : Nat, 2 ≤ s → s < 6 → sT Y 8 7 o = (z s : Nat) → o < sn X 8 ∧ (∃ s' : Nat, 2 ≤ s' ∧ s' < 6 ∧ (4 ≤ s → 4 ≤ s') ∧ sT X 8 7 o = (z s' : Nat)) ∧ sT Y 8 8 o = sT X 8 8 o) (h : i0 z X) : i0 z Y := fun o ho hmd s s2 s6 hs => by
  obtain ⟨h8, ⟨s', a1, a2, a3, a4⟩, h88⟩ := H o ho hmd s s2 s6 hs
  have e1 := g.2.2.1.2 1 o h8 (by decide)
  have e2 := g.2.2.1.2 2 o h8 (by decide)
  rw [e1] at hmd
  obtain ⟨b1, b2⟩ := h o h8 hmd s' a1 a2 a4
  rw [h88, e2]
  refine ⟨b1, fun h4 => ?_⟩
  obtain ⟨c1, c2⟩ := b2 (a3 h4)
  have h13 := (hI.or o h8).2.2.2.2.2.2.2.2.2.2.1
  have e13 := (g.2.2.2.2.2.2.2.2.1 o s' h8 a1 a2 a4).2.2.2 c1
  rw [e13]
  exact ⟨c1, (g.1.2 2 _ (by omega) (by decide)).trans c2⟩
theorem kE.i0 (hz : zInj z) (h : kE z X Y) (g : gW z X Y) (hI : iAll z k X) (hX : _root_.Jvm.Pilot.CFoundrymarkLaw_law_r2382_07130c.i0 z X) : _root_.Jvm.Pilot.CFoundrymarkLaw_law_r2382_07130c.i0 z Y :=
  g0_of g hI (fun o ho _ s s2 s6 hs => by
    obtain ⟨h1, h2⟩ := h
    obtain ⟨a, b⟩ := h2 o
    refine ⟨by omega, ⟨s, s2, s6, fun w => w, ?_⟩, b⟩
    rcases a with a | a | a
    · rw [← a]; exact hs
    · have := hz s 0 (by omega) (by decide) (by omega)
      omega
    · have := hz s 1 (by omega) (by decide) (by omega)
      omega) hX
theorem kE.refl : kE z X X := ⟨rfl, fun _ => ⟨Or.inl rfl, rfl⟩⟩
theorem kE.trans (h : kE z X Y) (g : kE z Y S) : kE z X S := by
  refine ⟨g.1.trans h.1, fun q => ⟨?_, (g.2 q).2.trans (h.2 q).2⟩⟩
  rcases (g.2 q).1 with a | a
  · rcases (h.2 q).1 with b | b
    · exact Or.inl (a.trans b)
    · rw [← a] at b
      exact Or.inr b
  · exact Or.inr a
theorem kE.ff (h : ffr X Y) : kE z X Y := ⟨h.1 8 (by decide), fun q => ⟨Or.inl (h.2.1 8 7 q (by decide)), h.2.1 8 8 q (by decide)⟩⟩
theorem kE.sm (h : sameW X Y) : kE z X Y := ⟨h.2.2.1.1, fun q => ⟨Or.inl (h.2.2.1.2 7 q (by decide)), h.2.2.1.2 8 q (by decide)⟩⟩
theorem kE.cq (h : ceq X Y 8) : kE z X Y := ⟨h.1, fun q => ⟨Or.inl (h.2.1 7 q), h.2.1 8 q⟩⟩
theorem kE_fr : kE z X (fFr z X o) := ⟨fFr_sn, fun q => by
  refine ⟨?_, fFr_sT (by omega) (by omega)⟩
  by_cases e : q = o
  · rw [e]; exact Or.inr (Or.inl fFr_87)
  · exact Or.inl (fFr_sT (by omega) (by omega))⟩
theorem kE_lose : ∀ n : Nat, kE z X (fLoseN z X n).1 := by
  intro n
  induction n with
  | zero => exact kE.refl
  | succ n ih =>
    have sF : fLoseN z X (n + 1) = fLoseStep z (fLoseN z X n) n := fLoseN_succ'
    unfold fLoseStep at sF
    cases e : fLoses z (fLoseN z X n).1 n with
    | false =>
      rw [e, if_neg (by decide)] at sF
      rw [sF]; exact ih
    | true =>
      rw [e, if_pos rfl] at sF
      rw [sF]
      exact ih.trans kE_fr
theorem yAM {p q r t : Int} (hz : zInj z) (hI : iAll z k S) (hI2 : iAll z k2 S2) (hR : iRn z S) (h : pAM S S2 p q r t) (h0 : i0 z S) : i0 z S2 := by
  have g := (stAM hI hI2 hR h).1
  refine kE.i0 hz ?_ g hI h0
  rcases h with ⟨v, rfl⟩ | ⟨-, -, rfl⟩
  · exact .ff ffr.mt
  · exact (kE.cq (fAM_ceq (by decide) (by decide) (by decide))).trans (.ff mAM_ffr)
theorem yAO {p q r t : Int} (hz : zInj z) (hI : iAll z k S) (hI2 : iAll z k2 S2) (hR : iRn z S) (h : pcAO S S2 p q r t) (h0 : i0 z S) : i0 z S2 := by
  have g := (stAO hI hI2 hR h).1
  refine kE.i0 hz ?_ g hI h0
  rcases h with ⟨v, rfl⟩ | ⟨-, rfl⟩
  · exact .ff ffr.mt
  · exact (kE.cq (fAO_ceq (by decide) (by decide))).trans (.ff cAO_ffr)
theorem ySC {p x w : Int} (hz : zInj z) (hI : iAll z k S) (hI2 : iAll z k2 S2) (hR : iRn z S) (h : pSC S S2 p x w) (h0 : i0 z S) : i0 z S2 := by
  have g := (stSC hI hI2 hR h).1
  refine kE.i0 hz ?_ g hI h0
  rcases h with ⟨v, rfl⟩ | ⟨-, rfl⟩
  · exact .ff ffr.mt
  · refine (kE.sm (chartS_chF.same ?_)).trans (.ff chartS_chM.fr)
    show 2 + _ % 2 = 2 ∨ 2 + _ % 2 = 3
    omega
theorem yAP {c : Bool} {f : Int} (hz : zInj z) (hI : iAll z k S) (hI2 : iAll z k2 S2) (hR : iRn z S) (h : pAP S S2 c f) (h0 : i0 z S) : i0 z S2 := by
  have g := (stAP hI hI2 hR h).1
  refine kE.i0 hz ?_ g hI h0
  rcases h with ⟨v, rfl⟩ | ⟨-, -, rfl⟩
  · exact .ff ffr.mt
  · exact (kE.cq (fAP_ceq (by decide) (by decide) (by decide) (by decide) (by decide))).trans (.ff mAP_ffr)
theorem yAC {p q r t : Int} (hz : zInj z) (hI : iAll z k S) (hI2 : iAll z k2 S2) (hR : iRn z S) (h : pcAC S S2 p q r t) (h0 : i0 z S) : i0 z S2 := by
  have g := (stAC hI hI2 hR h).1
  refine kE.i0 hz ?_ g hI h0
  rcases h with ⟨v, rfl⟩ | ⟨-, rfl⟩
  · exact .ff ffr.mt
  · exact (kE.cq (fAC_ceq (by decide) (by decide))).trans (.ff cAC_ffr)
theorem yRc {p q c s v : Int} (hz : zInj z) (hI : iAll z k S) (hI2 : iAll z k2 S2) (hR : iRn z S) (h : pRc z S S2 p q c s v) (h0 : i0 z S) : i0 z S2 := by
  have g := (stRc hI hI2 hR h).1
  refine kE.i0 hz ?_ g hI h0
  rcases h with ⟨v, rfl⟩ | ⟨-, is, rfl⟩
  · exact .ff ffr.mt
  · rw [fRecv_eq, mRecv_eq]
    generalize fIsR (fRl z S s.toNat) v = b
    have hf : ffr (fRefuse z (fL S p q c b) s.toNat s.toNat (fRl z S s.toNat) v) (mSupS z (mL (fRefuse z (fL S p q c b) s.toNat s.toNat (fRl z S s.toNat) v) p q c is) s.toNat is) := mL_ffr.trans mSupS_ffr
    exact ((kE.cq (fL_ceq (by decide))).trans (.cq (fRefuse_ceq (by decide)))).trans (.ff hf)
theorem yOr {p qq o d : Int} (hz : zInj z) (hI : iAll z k S) (hI2 : iAll z k2 S2) (hR : iRn z S) (h : pOr z S S2 p qq o d) (h0 : i0 z S) : i0 z S2 := by
  have g := (stOr hI hI2 hR h).1
  rcases h with ⟨v, rfl⟩ | ⟨-, rfl⟩
  · exact kE.i0 hz (.ff ffr.mt) g hI h0
  · have hf : ffr (fOrderS z S p qq o d) (mOrderS (fOrderS z S p qq o d) p qq o d) := mO_ffr
    refine g0_of g hI (fun q hq _ s s2 s6 hs => ?_) h0
    rw [hf.1 8 (by decide), fO_n8] at hq
    rw [hf.2.1 8 7 _ (by decide)] at hs
    rw [hf.2.1 8 8 _ (by decide)]
    by_cases e : q = sn S 8
    · subst e
      rw [fO_new (j := 7) (by decide)] at hs
      have hs : ((z 0 : Nat) : Int) = (z s : Nat) := hs
      have := hz 0 s (by decide) (by omega) (by omega)
      omega
    · rw [fO_old (by omega)] at hs ⊢
      exact ⟨by omega, ⟨s, s2, s6, fun w => w, hs⟩, rfl⟩
theorem yHo {v : Int} {on : Bool} (hz : zInj z) (hRr : rR z S S) (hI : iAll z k S) (hMS : mShape S) (hB : mBox S) (hI2 : iAll z k2 S2) (hR : iRn z S) (h : pHo z S S2 v on) (h0 : i0 z S) : i0 z S2 := by
  have g := (stHo hz hRr hI hMS hB hI2 hR h).1
  refine kE.i0 hz ?_ g hI h0
  rcases h with ⟨v, rfl⟩ | ⟨-, rfl⟩
  · exact .ff ffr.mt
  · obtain ⟨-, -, -, -, -, -, -, -, hf, -⟩ := pairHold (q := v.toNat) (on := on) hz hRr hI hMS hB
    exact ((kE.sm (hl_same (i := v.toNat) (on := on))).trans (kE_lose (sn S 8))).trans (.ff hf)
theorem yWd {v : Int} (hz : zInj z) (hI : iAll z k S) (hI2 : iAll z k2 S2) (hR : iRn z S) (h : pWd z S S2 v) (h0 : i0 z S) : i0 z S2 := by
  have g := (stWd hz hI hI2 hR h).1
  refine kE.i0 hz ?_ g hI h0
  rcases h with ⟨v, rfl⟩ | ⟨-, -, rfl⟩
  · exact .ff ffr.mt
  · exact kE_fr.trans (.ff ((ffr.mt (v := 0)).trans mFr_ffr))
theorem yAd {e : Nat} (hz : zInj z) (hI : iAll z k S) (hR : iRn z S) (h : pAd z S S2 e) (h0 : i0 z S) : i0 z S2 := by
  rcases h with ⟨⟨v, rfl⟩, -⟩ | ⟨h1, -, -⟩
  · exact h0
  · refine (h1.jb hz hR.2.2).i0 hz (fun i hi => (hI.or i hi).2.2.2.2.2.2.2.2.2.2.1.2) (fun i hi => (hI.or i hi).2.2.1.1) (fun i hi hs hp => ?_) h0
    have := ((hI.or i hi).2.2.2.2.2.2.2.2.2.2.2.2.2.2.1 (Or.inr hs)).2.1
    omega
end ZF6
