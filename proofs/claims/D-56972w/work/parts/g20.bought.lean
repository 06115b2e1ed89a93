/-! THE ACCOUNT: bought lots are as many as were received -/
set_option maxRecDepth 100000
def bgN (X : hS) : Nat := ns (sn X 6) (fun l => if (sT X 6 1 l).toNat % 2 = 1 then 1 else 0)
/-- new lots are made ones -/
def nwM (X Y : hS) : Prop := ∀ l : Nat, sn X 6 ≤ l → l < sn Y 6 → (sT Y 6 1 l).toNat % 2 = 0
section ZG20
variable {z : Nat → Nat} {k x s o T U : Nat} {X Y S S2 A B G : hS} {c c2 : Ctr}
theorem nwM.eq (h : sn Y 6 = sn X 6) : nwM X Y := fun l h1 h2 => by omega
theorem nwM.bg (h : nwM X Y) (g : gW z X Y) : bgN Y = bgN X := by
  unfold bgN
  rw [ns_tail g.1.1 (fun l h1 h2 => if_neg (by have := h l h1 h2; omega))]
  exact ns_cg (fun l hl => by rw [g.1.2 1 l hl (by decide)])
theorem lose_n (n : Nat) : sn (fLoseN z X n).1 6 = sn X 6 := by
  induction n with
  | zero => rfl
  | succ n ih =>
    have sF : fLoseN z X (n + 1) = fLoseStep z (fLoseN z X n) n := fLoseN_succ'
    unfold fLoseStep at sF
    cases e : fLoses z (fLoseN z X n).1 n with
    | false =>
      rw [e, if_neg (by decide)] at sF
      rw [sF]; exact ih
    | true =>
      rw [e, if_pos rfl] at sF
      rw [sF]
      exact (show sn (fFr z (fLoseN z X n).1 n) 6 = sn (fLoseN z X n).1 6 from fFr_sn).trans ih
/-- jobs make made lots -/
theorem shpC.nw (h : shpC z A B) (hp : ∀ i : Nat, i < sn A 8 → sT A 8 8 i ≤ sT A 8 2 i) : sn A 6 ≤ sn B 6 ∧ nwM A B :=
  h (fun C => sn A 6 ≤ sn C 6 ∧ nwM A C)
    (fun C D hs _ ⟨p1, p2⟩ => by
      obtain ⟨-, k2, k3, -⟩ := hs
      refine ⟨by omega, fun l h1 h2 => ?_⟩
      rw [k3 1 l (by decide)]
      exact p2 l h1 (by omega))
    (fun C q hf _ _ ⟨p1, p2⟩ => by
      refine ⟨by rw [fB_n6]; omega, fun l h1 h2 => ?_⟩
      rw [fB_n6] at h2
      by_cases e : l = sn C 6
      · subst e
        rw [fB_6n (j := 1) (by decide)]
        have := hf.2.1
        show (((sT C 8 1 q).toNat : Nat) : Int).toNat % 2 = 0
        rw [Int.toNat_natCast]
        exact this
      · rw [fB_6 e]
        exact p2 l h1 (by omega))
    hp ⟨Nat.le_refl _, fun l h1 h2 => by omega⟩
theorem go_nw (hm : (sT X 8 1 o).toNat % 2 = 0) : sn X 6 ≤ sn (fGoOn z X o) 6 ∧ nwM X (fGoOn z X o) := by
  unfold fGoOn
  split
  · rw [fFi_def]
    split
    · refine ⟨by rw [fB_n6]; omega, fun l h1 h2 => ?_⟩
      rw [fB_n6] at h2
      have e : l = sn X 6 := by omega
      subst e
      rw [fB_6n (j := 1) (by decide)]
      show (((sT X 8 1 o).toNat : Nat) : Int).toNat % 2 = 0
      rw [Int.toNat_natCast]
      exact hm
    · exact ⟨Nat.le_of_eq fA_n.symm, .eq fA_n⟩
  · exact ⟨Nat.le_refl _, .eq rfl⟩
theorem ra_n6 (hI : iAll z k S) (ho : o < sn S 8) (hmd : (sT S 8 1 o).toNat % 2 = 0) (hst : sT S 8 7 o = (z 0 : Nat)) : sn (fRA z S o).1 6 = sn S 6 := by
  obtain ⟨p1, p2⟩ := hI.cp1 ho hmd
  have hem : sE S 26 (fOL S o) = [] := (hI.em o ho).1 hst
  by_cases hok : (fRA z S o).2.1 = true
  · obtain ⟨T, e, h, -⟩ := raG hem p1 p2 hok
    rw [e]
    exact h.1 6 (by decide)
  · obtain ⟨T, e, h⟩ := raG0 (z := z) hem p1 p2 (by cases hh : (fRA z S o).2.1 with
      | true => exact absurd hh hok
      | false => rfl)
    rw [e]
    exact fTB_sn.trans (h.1 6 (by decide))
theorem relT_n6 (hI : iAll z k S) (ho : o < sn S 8) (hmd : (sT S 8 1 o).toNat % 2 = 0) : sn (fRelT z S o).1 6 = sn S 6 := by
  unfold fRelT
  split
  · rename_i h
    exact ra_n6 hI ho hmd (of_decide_eq_true h)
  · rfl
theorem nwRl {v : Int} (hz : zInj z) (hRr : rR z S S) (hI : iAll z k S) (hMS : mShape S) (hB : mBox S) (hI2 : iAll z (k + 1) S2) (hR : iRn z S) (hk : k ≤ 1000) (h : pRl z S S2 v) : nwM S S2 := by
  rcases h with ⟨w, rfl⟩ | ⟨hc, hok, h⟩ | ⟨hc, hok, h⟩
  · exact .eq rfl
  · unfold cRl at hc
    rw [Bool.and_eq_true, Bool.and_eq_true] at hc
    obtain ⟨o, ho, ho8⟩ := idx (of_decide_eq_true hc.1)
    have eo : v.toNat = o := by omega
    rw [eo] at hc hok h
    have hmd : (sT S 8 1 o).toNat % 2 = 0 := of_decide_eq_true hc.2.1
    have hah := hc.2.2
    have t6 := (pairRelT hz hRr hI hR.1.1 hMS hB ho8 hah hmd).1.2.2.2.2.2.1
    have hR1 := hRr.frY hMS hB t6
    have u7 := (pairRelT hz hR1 hI hR.1.1 (hMS.fr t6) (hB.fr t6) ho8 hah hmd).1.2.2.2.2.2.2.1
    rw [← h] at u7
    exact .eq ((u7.1 6 (by decide)).trans (relT_n6 hI ho8 hmd))
  · unfold cRl at hc
    rw [Bool.and_eq_true, Bool.and_eq_true] at hc
    obtain ⟨o, ho, ho8⟩ := idx (of_decide_eq_true hc.1)
    have eo : v.toNat = o := by omega
    rw [eo] at hc hok h
    have hmd : (sT S 8 1 o).toNat % 2 = 0 := of_decide_eq_true hc.2.1
    have hah := hc.2.2
    have w6 := (pairRel hz hRr hI hR.1.1 hMS hB ho8 hah hmd hk hok).2.1.1
    have hR1 := hRr.frY hMS hB w6
    have v7 := (pairRel hz hR1 hI hR.1.1 (hMS.fr w6) (hB.fr w6) ho8 hah hmd hk hok).2.1.2.1
    unfold sRl at h
    rw [← h] at v7
    have gT := relTW hz hI hR ho8 hmd
    have nT6 := relT_n6 hI ho8 hmd
    obtain ⟨⟨t1, t2, t3, t4, t5, t6, t7, t8, t9, t10, t11, t12⟩, -, -, tst⟩ := pairRelT hz hRr hI hR.1.1 hMS hB ho8 hah hmd
    have hst := tst hok
    clear h
    generalize (fRelT z S o).1 = T at *
    generalize (mRelT S o).1 = U at *
    have ho' : o < sn T 8 := by rw [t11]; exact ho8
    obtain ⟨⟨g1, g2, g3, g4, g5, g6, g7, g8, g9, g10, g11, g12, g13⟩, -, -⟩ := pairRelP hz t1 t2 t3 t4 t5 ho' hst (by rw [t12]; exact hmd) hk
    have gG := relGW hz t2 gT.2 ho' hst (by rw [t12]; exact hmd) g2 g12
    have nQ : sn (fRelQ (fRelU T o) o) 6 = sn T 6 := fRel_sn
    have hmQ : (sT (fRelQ (fRelU T o) o) 8 1 o).toNat % 2 = 0 := by
      unfold fRelQ
      rw [sT_set, if_neg (by omega)]
      rw [show sT (fRelU T o) 8 1 o = sT T 8 1 o from fRel_sT (by omega) (by omega) (by omega), t12]
      exact hmd
    obtain ⟨n1, n2⟩ := go_nw (z := z) hmQ
    have hcst := g2.co.2.2.2.2.2
    unfold fRelZ at v7
    generalize fGoOn z (fRelQ (fRelU T o) o) o = G at *
    generalize mGoOn (mRelQ (mRelU U o) o) o = M at *
    obtain ⟨⟨b1, b2, b3, b4, b5, b6, b7, b8, b9, b10, b11, b12, b13, b14⟩, -⟩ := pairBegT hz g1 (g2.mono (Nat.le_succ _)) g3 g4 (by push_cast; omega)
    obtain ⟨m1, m2⟩ := b12.nw gG.2.2.2
    have gZ := jobsW hz b12 b13 g2 b2 gG.2
    intro l h1 h2
    rw [v7.1 6 (by decide)] at h2
    rw [v7.2.1 6 1 l (by decide)]
    by_cases e : l < sn G 6
    · rw [gZ.1.1.2 1 l e (by decide)]
      exact n2 l (by omega) e
    · exact m2 l (by omega) h2
end ZG20
