/-! THE ACCOUNT: what holds, measurings, promises, releases, deliveries cost, in terms of the structure -/
set_option maxRecDepth 100000
/-- promised orders, part by part -/
def HW (z : Nat → Nat) (X : hS) : Nat := ns (np X) (fun p => ho (cT X) (bL X) (capL X) p (prN z X p))
section ZG12
variable {z : Nat → Nat} {k l o p : Nat} {S X Y : hS}
theorem prW_cg (h26 : ∀ i : Nat, sE Y 26 i = sE X 26 i) (h6 : ∀ i : Nat, sT Y 6 3 i = sT X 6 3 i) (h7 : ∀ j t : Nat, sT Y 7 j t = sT X 7 j t) (h8 : ∀ j q : Nat, sT Y 8 j q = sT X 8 j q) : prW z Y o = prW z X o := by
  have hch : fch Y = fch X := funext (fun i => by
    unfold fch
    rw [h6, h26]
    exact List.map_congr_left (fun t _ => by rw [h7]))
  have hT : fTl Y o = fTl X o := by
    unfold fTl fOL
    rw [h8, h26]
    exact List.map_congr_left (fun t _ => by rw [h7, h7])
  have hN : nT Y = nT X := by
    unfold nT
    rw [hch]
  unfold prW
  rw [hT, hN, h8]
theorem lose_HW (hz : zInj z) (hI : iAll z k S) (hR : iRn z S) (h26 : ∀ i : Nat, sE Y 26 i = sE S 26 i) (h6 : ∀ i : Nat, sT Y 6 3 i = sT S 6 3 i) (h7 : ∀ j t : Nat, sT Y 7 j t = sT S 7 j t) (h8 : ∀ j q : Nat, sT Y 8 j q = sT S 8 j q) :
    (fLoseN z Y (sn S 8)).2.2 ≤ 1 + (2 * sn S 8 + HW z S) := by
  refine Nat.le_trans (lose_cost hz (sn S 8)) (Nat.add_le_add_left ?_ 1)
  rw [ns_add]
  have h2 : ns (sn S 8) (fun _ => 2) = 2 * sn S 8 := by
    have := ns_mul (f := fun _ => 1) 2 (sn S 8)
    rw [ns_const] at this
    exact this
  have h3 : ns (sn S 8) (fun o => prW z Y o) = ns (sn S 8) (fun o => prW z S o) := ns_cg (fun o _ => prW_cg h26 h6 h7 h8)
  have h4 := prW_parts hI hR
  rw [h2, h3]
  exact Nat.add_le_add_left h4 _
theorem nHo_le (hz : zInj z) (hI : iAll z k S) (hR : iRn z S) (v : Int) (on : Bool) : nHo z S v on ≤ 1 + (2 * sn S 8 + HW z S) := by
  unfold nHo
  by_cases h : 0 ≤ v ∧ v < sn S 6
  · rw [if_pos h]
    exact lose_HW hz hI hR (fun _ => rfl) (fun i => by rw [sT_set, if_neg (by omega)]) (fun j t => by rw [sT_set, if_neg (by omega)]) (fun j q => by rw [sT_set, if_neg (by omega)])
  · rw [if_neg h]; exact Nat.zero_le _
theorem nMe_le (hz : zInj z) (hI : iAll z k S) (hR : iRn z S) (v w : Int) : nMe z S v w ≤ 1 + (2 * sn S 8 + HW z S) := by
  unfold nMe
  by_cases h : (0 ≤ v ∧ v < sn S 6) ∧ (0 ≤ w ∧ w ≤ 2000)
  · rw [if_pos h]
    obtain ⟨q, hq, hq6⟩ := idx h.1
    have eq : v.toNat = q := by omega
    rw [eq]
    obtain ⟨p, hp, hqp⟩ := (hI.lo q hq6).2.1
    have eL : fLp S q = fPc S p := by
      unfold fLp
      rw [hqp]; rfl
    have eMS : fMeasS S q w = fHl (fOutS S (pcl S p) (pix S p) w) q (fOut S (pcl S p) (pix S p) w || fh S q) := by
      unfold fMeasS fHl fMeasOut
      unfold pcl pix
      rw [eL]
    have hcl : pcl S p = 2 ∨ pcl S p = 3 := by unfold pcl; omega
    have hO := outS_chF (X := S) (c := pcl S p) (j := pix S p) (v := w)
    have u : ∀ d : Nat, d ≠ 2 → d ≠ 3 → ceq S (fOutS S (pcl S p) (pix S p) w) d := fun d h2 h3 => hO.1 d (by omega)
    rw [eMS]
    refine lose_HW hz hI hR (fun i => (u 26 (by decide) (by decide)).2.2 i) (fun i => ?_) (fun j t => ?_) (fun j t => ?_)
    · unfold fHl
      rw [sT_set, if_neg (by omega)]
      exact (u 6 (by decide) (by decide)).2.1 3 i
    · unfold fHl
      rw [sT_set, if_neg (by omega)]
      exact (u 7 (by decide) (by decide)).2.1 j t
    · unfold fHl
      rw [sT_set, if_neg (by omega)]
      exact (u 8 (by decide) (by decide)).2.1 j t
  · rw [if_neg h]; exact Nat.zero_le _
/-- an order's walks, by its part -/
theorem cW_EW (hI : iAll z k S) (ho : o < sn S 8) (hmd : (sT S 8 1 o).toNat % 2 = 0) : ∃ p : Nat, p < np S ∧ sT S 8 1 o = (fPc S p : Nat) ∧ cW S o (fComps S o).length = EWs S p := by
  obtain ⟨p, h1, h2, -, h4⟩ := comps_sum hI ho hmd
  refine ⟨p, h1, h2, ?_⟩
  rw [h4]
  unfold EWs
  exact ns_cg (fun B _ => by unfold cT; rw [if_pos h1])
theorem nPr_le (hz : zInj z) (hRr : rR z S S) (hI : iAll z k S) (hMS : mShape S) (hB : mBox S) (v : Int) : (nPr z S v).1 ≤ 2 * mx (np S) (EWs S) + 20 * sn S 6 + 11 := by
  unfold nPr
  by_cases hc : cPr z S v = true
  · rw [if_pos hc]
    unfold cPr at hc
    rw [Bool.and_eq_true, Bool.and_eq_true] at hc
    obtain ⟨o, ho, ho8⟩ := idx (of_decide_eq_true hc.1)
    have eo : v.toNat = o := by omega
    rw [eo] at hc ⊢
    have hmd : (sT S 8 1 o).toNat % 2 = 0 := of_decide_eq_true hc.2.1
    have hst : sT S 8 7 o = (z 0 : Nat) := of_decide_eq_true hc.2.2
    have fm := (pairRA hz hRr hI hMS hB ho8 hst hmd).2.2.2.2.2.2.1.1
    have hm := fm.trans (mfr.mt (v := 0))
    have h := raC hz (hRr.frY hMS hB hm) hI (hMS.fr hm) (hB.fr hm) ho8 hst hmd
    obtain ⟨p, hp, -, e⟩ := cW_EW hI ho8 hmd
    rw [e] at h
    have := mx_ge (f := EWs S) hp
    show (fRA z S o).2.2.1 + (mRA (mt (fRA z S o).1 0) o).2.2.1 ≤ _
    omega
  · rw [if_neg hc]; exact Nat.zero_le _
theorem nRl_le (hz : zInj z) (hRr : rR z S S) (hI : iAll z k S) (hD : iDj S) (hMS : mShape S) (hB : mBox S) (hk : k ≤ 1000) (v : Int) :
    (nRl z S v).1 = 0 ∨ ∃ o p : Nat, o < sn S 8 ∧ v.toNat = o ∧ p < np S ∧ sT S 8 1 o = (fPc S p : Nat) ∧ (sT S 8 1 o).toNat % 2 = 0 ∧ (nRl z S v).1 ≤ 2 * EWs S p + 20 * sn S 6 + 11 := by
  rcases nRlC (v := v) hz hRr hI hD hMS hB hk with h | ⟨hc, h8, hmd, h⟩
  · exact Or.inl h
  · obtain ⟨p, hp, e1, e⟩ := cW_EW hI h8 hmd
    rw [e] at h
    exact Or.inr ⟨v.toNat, p, h8, rfl, hp, e1, hmd, h⟩
end ZG12
