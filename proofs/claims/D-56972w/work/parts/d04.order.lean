/-! THE ROOM: orders, lots that come in -/
set_option maxRecDepth 100000
section ZD4
variable {z : Nat → Nat} {k k2 o l : Nat} {X X' X2 S S2 Y : hS}
/-- new lists and a new order or a new lot without entries: what stays -/
theorem gRn.grow (hI : iAll z k X) (hR : iRn z X) (h3 : ∀ c : Nat, c = 3 ∨ c = 2 ∨ c = 4 ∨ c = 7 ∨ c = 21 ∨ c = 24 → ceq X X' c)
    (a1 : sn X 6 ≤ sn X' 6) (a2 : ∀ j l : Nat, l < sn X 6 → j < 4 → sT X' 6 j l = sT X 6 j l) (c1 : sn X 8 ≤ sn X' 8) (c2 : ∀ j q : Nat, q < sn X 8 → sT X' 8 j q = sT X 8 j q)
    (d1 : ∀ i : Nat, i < sn X 26 → sE X' 26 i = sE X 26 i) (d2 : ∀ i : Nat, i < sn X 27 → sE X' 27 i = sE X 27 i)
    (e1 : ∀ q : Nat, sn X 8 ≤ q → q < sn X' 8 → sE X' 26 (fOL X' q) = [] ∧ sE X' 27 (fDelL X' q) = [])
    (e2 : ∀ l : Nat, sn X 6 ≤ l → l < sn X' 6 → (sT X' 6 1 l).toNat % 2 = 1 ∧ sE X' 26 (sT X' 6 3 l).toNat = []) (e3 : ∀ q : Nat, sn X 8 ≤ q → q < sn X' 8 → sT X' 8 8 q ≤ sT X' 8 2 q) : gRn z X X' := by
  have o26 : ∀ q : Nat, q < sn X 8 → fOL X q < sn X 26 := fun q hq => by
    have := (hI.or q hq).2.2.2.2.2.1
    unfold fOL; omega
  have o27 : ∀ q : Nat, q < sn X 8 → fDelL X q < sn X 27 := fun q hq => by
    have := (hI.or q hq).2.2.2.2.2.2.1
    unfold fDelL; omega
  have l26 : ∀ l : Nat, l < sn X 6 → (sT X 6 3 l).toNat < sn X 26 := fun l hl => by
    have := (hI.lo l hl).2.2.2.1
    omega
  have eOL : ∀ q : Nat, q < sn X 8 → fOL X' q = fOL X q := fun q hq => congrArg Int.toNat (c2 5 q hq)
  have eDL : ∀ q : Nat, q < sn X 8 → fDelL X' q = fDelL X q := fun q hq => congrArg Int.toNat (c2 6 q hq)
  have g : gW z X X' := ⟨⟨a1, a2⟩, ⟨Nat.le_of_eq (h3 7 (by decide)).1.symm, fun j t _ _ => (h3 7 (by decide)).2.1 j t⟩, ⟨c1, fun j q hq _ => c2 j q hq⟩, ⟨Nat.le_of_eq (h3 4 (by decide)).1.symm, fun j t _ => (h3 4 (by decide)).2.1 j t⟩, ⟨Nat.le_of_eq (h3 2 (by decide)).1.symm, fun j t _ _ => (h3 2 (by decide)).2.1 j t⟩, ⟨Nat.le_of_eq (h3 3 (by decide)).1.symm, fun t _ => (h3 3 (by decide)).2.1 0 t⟩, pgr.same ((h3 21 (by decide)).2.2 0), fun i _ => ⟨[], by rw [(h3 24 (by decide)).2.2 i, List.append_nil]⟩, fun q s hq _ h6 hs => ⟨⟨s, ⟨by omega, fun _ => Nat.le_refl _⟩, h6, by rw [c2 7 q hq]; exact hs⟩, d1 _ (o26 q hq), by rw [c2 8 q hq]; exact Int.le_refl _, fun _ => c2 13 q hq⟩, fun q hq _ => d2 _ (o27 q hq), fun l hl => d1 _ (l26 l hl)⟩
  obtain ⟨⟨hD, hLt, hC⟩, hM, hPq⟩ := hR
  refine ⟨g, ⟨fun p q hp hq t ht u hu => ?_, fun l hl => ?_, fun p hp hne => ?_⟩, fun p hp hne => ?_, fun p hp => ?_⟩
  · by_cases hp8 : p < sn X 8
    · by_cases hq8 : q < sn X 8
      · rw [eOL p hp8, d1 _ (o26 p hp8)] at ht
        rw [eDL q hq8, d2 _ (o27 q hq8)] at hu
        exact hD p q hp8 hq8 t ht u hu
      · rw [(e1 q (by omega) hq).2] at hu
        exact absurd hu List.not_mem_nil
    · rw [(e1 p (by omega) hp).1] at ht
      exact absurd ht List.not_mem_nil
  · by_cases hl6 : l < sn X 6
    · rw [a2 1 l hl6 (by decide), a2 3 l hl6 (by decide), a2 2 l hl6 (by decide), d1 _ (l26 l hl6)]
      rcases hLt l hl6 with w | ⟨w1, w2, q, w3, w4, w5, w6, w7, w8⟩
      · exact Or.inl w
      · refine Or.inr ⟨w1, w2, q, by omega, by rw [c2 13 q w3]; exact w4, by rw [c2 5 q w3]; exact w5, by rw [c2 1 q w3]; exact w6, by rw [c2 2 q w3]; exact w7, ?_⟩
        unfold fPr
        rw [c2 7 q w3]
        exact w8
    · exact Or.inl (e2 l (by omega) hl)
  · by_cases hp8 : p < sn X 8
    · rw [eOL p hp8, d1 _ (o26 p hp8)] at hne
      exact (hC p hp8 hne).gW g hI.pt hI.lo hI.or hI.tk hp8 (hM p hp8 hne) (d1 _ (o26 p hp8))
    · exact absurd (e1 p (by omega) hp).1 hne
  · by_cases hp8 : p < sn X 8
    · rw [eOL p hp8, d1 _ (o26 p hp8)] at hne
      rw [c2 1 p hp8]
      exact hM p hp8 hne
    · exact absurd (e1 p (by omega) hp).1 hne
  · by_cases hp8 : p < sn X 8
    · rw [c2 8 p hp8, c2 2 p hp8]
      exact hPq p hp8
    · exact e3 p (by omega) hp
theorem stOr {p qq o d : Int} (hI : iAll z k S) (hI2 : iAll z k2 S2) (hR : iRn z S) (h : pOr z S S2 p qq o d) : gRn z S S2 := by
  rcases h with ⟨v, rfl⟩ | ⟨-, rfl⟩
  · exact .mt hI hR
  · refine (gRn.grow hI hR (fun c hc => fO_ceq (by omega)) (Nat.le_of_eq (fO_ceq (by decide)).1.symm) (fun j l _ _ => (fO_ceq (by decide)).2.1 j l) (by rw [fO_n8]; omega) (fun j q hq => fO_old (by omega)) (fun i hi => by rw [fO_26, if_neg (by omega)]) (fun i hi => by rw [fO_27, if_neg (by omega)]) (fun q h1 h2 => ?_) (fun l h1 h2 => ?_) (fun q h1 h2 => ?_)).fr2 mO_ffr hI2
    · rw [fO_n8] at h2
      have e : q = sn S 8 := by omega
      subst e
      constructor
      · unfold fOL
        rw [fO_new (j := 5) (by decide)]
        show sE _ 26 ((sn S 26 : Nat) : Int).toNat = []
        rw [Int.toNat_natCast, fO_26, if_pos rfl]
      · unfold fDelL
        rw [fO_new (j := 6) (by decide)]
        show sE _ 27 ((sn S 27 : Nat) : Int).toNat = []
        rw [Int.toNat_natCast, fO_27, if_pos rfl]
    · rw [(fO_ceq (c := 6) (by decide)).1] at h2
      omega
    · have h3 := ((hI2.fr (ffr.symm mO_ffr)).or q h2).2.2.1.1
      rw [fO_n8] at h2
      have e : q = sn S 8 := by omega
      subst e
      have e8 : sT (fOrderS z S p qq o d) 8 8 (sn S 8) = 0 := fO_new (j := 8) (by decide)
      omega
theorem stRc {p q c s v : Int} (hI : iAll z k S) (hI2 : iAll z k2 S2) (hR : iRn z S) (h : pRc z S S2 p q c s v) : gRn z S S2 := by
  rcases h with ⟨v, rfl⟩ | ⟨hc, is, rfl⟩
  · exact .mt hI hR
  · rw [fRecv_eq] at hI2 ⊢
    rw [mRecv_eq] at hI2 ⊢
    generalize fIsR (fRl z S s.toNat) v = b at *
    have hodd : fPc S p % 2 = 1 := by
      unfold fRecvCode at hc
      split at hc
      · exact absurd hc (by decide)
      · split at hc
        · exact absurd hc (by decide)
        · rename_i w
          exact Decidable.of_not_not w
    have g1 : gRn z S (fL S p q c b) := gRn.grow hI hR (fun d hd => fL_ceq (by omega)) (by rw [fL_n6]; omega) (fun j l hl _ => fL_old (by omega)) (Nat.le_of_eq (fL_ceq (by decide)).1.symm) (fun j q _ => (fL_ceq (by decide)).2.1 j q) (fun i hi => by rw [fL_26, if_neg (by omega)]) (fun i hi => (fL_ceq (by decide)).2.2 i) (fun q h1 h2 => by
      rw [(fL_ceq (d := 8) (by decide)).1] at h2
      omega) (fun l h1 h2 => by
      rw [fL_n6] at h2
      have e : l = sn S 6 := by omega
      subst e
      rw [fL_new (j := 1) (by decide), fL_new (j := 3) (by decide)]
      refine ⟨?_, ?_⟩
      · show ((fPc S p : Nat) : Int).toNat % 2 = 1
        rw [Int.toNat_natCast]; exact hodd
      · show sE _ 26 ((sn S 26 : Nat) : Int).toNat = []
        rw [Int.toNat_natCast, fL_26, if_pos rfl]) (fun q h1 h2 => by
      rw [(fL_ceq (d := 8) (by decide)).1] at h2
      omega)
    have hf : ffr (fRefuse z (fL S p q c b) s.toNat s.toNat (fRl z S s.toNat) v) (mSupS z (mL (fRefuse z (fL S p q c b) s.toNat s.toNat (fRl z S s.toNat) v) p q c is) s.toNat is) := mL_ffr.trans mSupS_ffr
    have hI3 := hI2.fr hf.symm
    have sm : sameW (fL S p q c b) (fRefuse z (fL S p q c b) s.toNat s.toNat (fRl z S s.toNat) v) := .of (fun d hd => fRefuse_ceq (by omega))
    refine gRn.fr2 (g1.trans ?_) hf hI2
    -- the invariants behind, looked at from the front
    have sm' : sameW (fRefuse z (fL S p q c b) s.toNat s.toNat (fRl z S s.toNat) v) (fL S p q c b) := .of (fun d hd => by
      have w := fRefuse_ceq (z := z) (X := fL S p q c b) (x := s.toNat) (m := s.toNat) (r := fRl z S s.toNat) (v := v) (c := d) (by omega)
      exact ⟨w.1.symm, fun a b => (w.2.1 a b).symm, fun a => (w.2.2 a).symm⟩)
    refine ⟨sm.gW, ?_⟩
    have hc2 := g1.2
    obtain ⟨⟨hD, hLt, hC⟩, hM, hPq⟩ := hc2
    obtain ⟨⟨a1, a2⟩, ⟨b1, b2⟩, ⟨c1, c2⟩, ⟨x1, x2⟩, ⟨y1, y2⟩, ⟨z1, z2⟩, w1, p2⟩ := sm
    generalize fRefuse z (fL S p q c b) s.toNat s.toNat (fRl z S s.toNat) v = T at *
    generalize fL S p q c b = R at *
    have eOL : ∀ q : Nat, fOL T q = fOL R q := fun q => congrArg Int.toNat (c2 5 q (by decide))
    have eDL : ∀ q : Nat, fDelL T q = fDelL R q := fun q => congrArg Int.toNat (c2 6 q (by decide))
    have ePr : ∀ q : Nat, fPr z T q = fPr z R q := fun q => by unfold fPr; rw [c2 7 q (by decide)]
    refine ⟨⟨fun o q ho hq t ht u hu => ?_, fun l hl => ?_, fun o ho hne => ?_⟩, fun o ho hne => ?_, fun o ho => ?_⟩
    · rw [c1] at ho hq
      rw [eOL, p2 26 _ (by decide)] at ht
      rw [eDL, p2 27 _ (by decide)] at hu
      exact hD o q ho hq t ht u hu
    · rw [a1] at hl
      rw [a2 1 l (by decide), a2 3 l (by decide), a2 2 l (by decide), p2 26 _ (by decide)]
      rcases hLt l hl with w | ⟨w1, w2, o, w3, w4, w5, w6, w7, w8⟩
      · exact Or.inl w
      · exact Or.inr ⟨w1, w2, o, by omega, by rw [c2 13 o (by decide)]; exact w4, by rw [c2 5 o (by decide)]; exact w5, by rw [c2 1 o (by decide)]; exact w6, by rw [c2 2 o (by decide)]; exact w7, by rw [ePr]; exact w8⟩
    · rw [c1] at ho
      have hne2 := hne
      rw [eOL, p2 26 _ (by decide)] at hne2
      have hc3 := hC o ho hne2
      have hmd := hM o ho hne2
      -- back from T to R and forth: T is well
      obtain ⟨cs, k1, k2', k3, k4, k5, k6⟩ := hc3
      have eFL : ∀ l : Nat, fLp T l = fLp R l := fun l => congrArg Int.toNat (a2 1 l (by decide))
      have ePn : ∀ l : Nat, fPnum T l = fPnum R l := fun l => by
        unfold fPnum
        rw [eFL]
        have hcl : 2 + fLp R l % 2 = 2 ∨ 2 + fLp R l % 2 = 3 := by omega
        rcases hcl with e | e
        · rw [e]; exact y2 0 _ (Or.inl rfl)
        · rw [e]; exact z2 _
      refine ⟨cs, ?_, ?_, fun c hcs => ?_, k4, fun c hcs => ?_, k6⟩
      · rw [k1]
        unfold fTl
        rw [eOL, p2 26 _ (by decide)]
        exact List.map_congr_left (fun t _ => by rw [b2 0 _ (by decide), b2 1 _ (by decide)])
      · unfold fComps at k2' ⊢
        rw [c2 1 o (by decide), y2 7 _ (Or.inr rfl), p2 24 _ (by decide)]
        exact k2'
      · obtain ⟨d1, d2, d3⟩ := k3 c hcs
        refine ⟨d1, fun e he => ?_, by rw [c2 2 o (by decide)]; exact d3⟩
        obtain ⟨l, l1, l2, l3, l4⟩ := d2 e he
        exact ⟨l, by rw [a1]; exact l1, l2, by rw [ePn, x2]; exact l3, l4⟩
      · obtain ⟨w, w1, w2, w3⟩ := k5 c hcs
        exact ⟨w, by rw [a1]; exact w1, by rw [ePn, x2]; exact w2, w3⟩
    · rw [c1] at ho
      rw [eOL, p2 26 _ (by decide)] at hne
      rw [c2 1 o (by decide)]
      exact hM o ho hne
    · rw [c1] at ho
      rw [c2 8 o (by decide), c2 2 o (by decide)]
      exact hPq o ho
end ZD4
