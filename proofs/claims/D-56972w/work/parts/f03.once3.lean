/-! THE ROOM: promises, releases, ends of jobs, deliveries keep it -/
set_option maxRecDepth 100000
section ZF3
variable {z : Nat → Nat} {k k2 k3 o l : Nat} {X Y S S2 T : hS}
/-- what an order takes is gone from the free pieces -/
theorem av_drop (hg : gW z X Y) (hI : iAll z k X) (hI2 : iAll z k2 Y) (h1 : ∀ q : Nat, q < sn X 8 → (fTl Y q = fTl X q ∨ fTl X q = []) ∧ (fDv Y q = fDv X q ∨ fDv X q = [])) (h2 : ∀ q : Nat, sn X 8 ≤ q → q < sn Y 8 → fTl Y q = [] ∧ fDv Y q = []) (h6 : l < sn X 6) :
    ∀ q : Nat, q < sn X 8 → pl (fTl Y q) l + pl (fDv Y q) l - (pl (fTl X q) l + pl (fDv X q) l) ≤ av X l - av Y l := by
  have h8 := hg.2.2.1.1
  have hl : l < sn Y 6 := Nat.lt_of_lt_of_le h6 hg.1.1
  obtain ⟨e1, -⟩ := av_eq hI h6
  obtain ⟨e2, -⟩ := av_eq hI2 hl
  have e3 := hg.1.2 2 l h6 (by decide)
  have nn : ∀ q : Nat, q < sn Y 8 → 0 ≤ pl (fTl Y q) l ∧ 0 ≤ pl (fDv Y q) l := fun q hq => ⟨pl_nn (fun e he => by have := fTl_at hI2 hq e he; omega), pl_nn (fun e he => by have := fDv_at hI2 hq e he; omega)⟩
  have dq : ∀ q : Nat, q < sn X 8 → 0 ≤ pl (fTl Y q) l + pl (fDv Y q) l - (pl (fTl X q) l + pl (fDv X q) l) := fun q hq => by
    obtain ⟨n1, n2⟩ := nn q (by omega)
    obtain ⟨a, b⟩ := h1 q hq
    have a' : pl (fTl X q) l ≤ pl (fTl Y q) l := by
      rcases a with a | a
      · rw [a]; exact Int.le_refl _
      · rw [a]; exact n1
    have b' : pl (fDv X q) l ≤ pl (fDv Y q) l := by
      rcases b with b | b
      · rw [b]; exact Int.le_refl _
      · rw [b]; exact n2
    omega
  have s1 : isum (sn Y 8) (fun q => pl (fTl Y q) l + pl (fDv Y q) l) = isum (sn X 8) (fun q => pl (fTl Y q) l + pl (fDv Y q) l) := by
    obtain ⟨d, hd⟩ := Nat.le.dest h8
    rw [← hd]
    have ext : ∀ d : Nat, sn X 8 + d ≤ sn Y 8 → isum (sn X 8 + d) (fun q => pl (fTl Y q) l + pl (fDv Y q) l) = isum (sn X 8) (fun q => pl (fTl Y q) l + pl (fDv Y q) l) := by
      intro d
      induction d with
      | zero => intro _; rfl
      | succ d ih =>
        intro hd
        rw [show sn X 8 + (d + 1) = (sn X 8 + d) + 1 from rfl, isum_succ, ih (by omega)]
        obtain ⟨a, b⟩ := h2 (sn X 8 + d) (by omega) (by omega)
        rw [a, b, pl_nil]; omega
    exact ext d (by omega)
  have s2 : isum (sn X 8) (fun q => pl (fTl Y q) l + pl (fDv Y q) l) = isum (sn X 8) (fun q => pl (fTl X q) l + pl (fDv X q) l) + isum (sn X 8) (fun q => pl (fTl Y q) l + pl (fDv Y q) l - (pl (fTl X q) l + pl (fDv X q) l)) := by
    rw [← isum_add]
    exact isum_cg (fun q _ => by omega)
  intro q hq
  have := isum_ge (n := sn X 8) dq hq
  omega
/-- lists of what was taken and delivered are the same -/
def lQ (X Y : hS) : Prop := sn Y 8 = sn X 8 ∧ ∀ i : Nat, sE Y 26 i = sE X 26 i ∧ sE Y 27 i = sE X 27 i
theorem lQ.refl : lQ X X := ⟨rfl, fun _ => ⟨rfl, rfl⟩⟩
theorem lQ.trans (h : lQ X Y) (g : lQ Y S) : lQ X S := ⟨g.1.trans h.1, fun i => ⟨(g.2 i).1.trans (h.2 i).1, (g.2 i).2.trans (h.2 i).2⟩⟩
theorem lQ.ff (h : ffr X Y) : lQ X Y := ⟨h.1 8 (by decide), fun i => ⟨h.2.2 26 i (by decide), h.2.2 27 i (by decide)⟩⟩
theorem lQ.toX (h : lQ X Y) (g : gW z X Y) (hI : iAll z k X) (hI2 : iAll z k2 Y) : gX 0 X Y :=
  lkS.quiet ⟨fun q hq _ => ⟨fTl_gW g hI hq (h.2 _).1, fDv_gW g hI hq (h.2 _).2⟩, fun q h1 h2 => by have := h.1; omega⟩ g hI hI2
theorem lQ_go : lQ X (fGoOn z X o) := by
  unfold fGoOn
  split
  · rw [fFi_def]
    split
    · exact ⟨fB_n8, fun i => ⟨(fB_c (c := 26) (by decide)).2.2 i, (fB_c (c := 27) (by decide)).2.2 i⟩⟩
    · exact ⟨rfl, fun i => ⟨(fA_c (c := 26) (by decide)).2.2 i, (fA_c (c := 27) (by decide)).2.2 i⟩⟩
  · exact ⟨rfl, fun i => ⟨((ceq.refl.set (by decide)).ssE (by decide) : ceq X _ 26).2.2 i, ((ceq.refl.set (by decide)).ssE (by decide) : ceq X _ 27).2.2 i⟩⟩
theorem shpC.lQ (h : shpC z X Y) (hp : iPq X) : lQ X Y :=
  h (fun B => _root_.Jvm.Pilot.CFoundrymarkLaw_law_r2382_07130c.lQ X B) (fun A B g _ w => w.trans ⟨g.2.2.2.2.2.1, fun i => ⟨(g.1 26 (by decide)).2.2 i, (g.1 27 (by decide)).2.2 i⟩⟩) (fun A o _ _ _ w => w.trans ⟨fB_n8, fun i => ⟨(fB_c (c := 26) (by decide)).2.2 i, (fB_c (c := 27) (by decide)).2.2 i⟩⟩) hp .refl
theorem xAd {e : Nat} (hz : zInj z) (hI : iAll z k S) (hI2 : iAll z k2 S2) (hR : iRn z S) (h : pAd z S S2 e) : gX 0 S S2 := by
  have g := (stAd hz hI hI2 hR h).1
  rcases h with ⟨⟨v, rfl⟩, -⟩ | ⟨h1, -, -⟩
  · exact qMt hI hI2 hR
  · exact (h1.lQ hR.2.2).toX g hI hI2
/-- a reserving, all of it -/
theorem raX (hz : zInj z) (hI : iAll z k S) (hI2 : iAll z k2 (fRA z S o).1) (hR : iRn z S) (ho : o < sn S 8) (hmd : (sT S 8 1 o).toNat % 2 = 0) (hst : sT S 8 7 o = (z 0 : Nat)) : gX 0 S (fRA z S o).1 := by
  have g := (raW hz hI hR ho hmd hst).1
  have hem : sE S 26 (fOL S o) = [] := (hI.em o ho).1 hst
  obtain ⟨q1, q2, -⟩ := rkH.list hz hI ho (Or.inl hst)
  have hQ := raQ hI (fun l hl => q2 l hl) hem
  have hG := (ranQ (S := S) (o := o) (hd := hldF S) (fun T hT l hl => hT.held hI.lo hI.tk hI.chlt (fun l hl => q2 l hl) hl) hem _ (Nat.le_refl _)).1
  have hTo : fTl S o = [] := by unfold fTl; rw [hem]; rfl
  by_cases hok : (fRAN S o (fComps S o).length).2.1 = true
  · have e : (fRA z S o).1 = sset (fRAN S o (fComps S o).length).1 8 7 o (z 1 : Nat) := by
      unfold fRA
      rw [if_pos hok]
    rw [e] at g hI2 ⊢
    generalize (fRAN S o (fComps S o).length).1 = T at *
    obtain ⟨a1, a2, a3, a4, a5, -, -⟩ := hG
    have hT8 : fOL (sset T 8 7 o (z 1 : Nat)) o = fOL S o := g.oL ho
    have eT : fTl (sset T 8 7 o (z 1 : Nat)) o = tlL T (fOL S o) := by
      unfold fTl tlL
      rw [hT8]
      exact List.map_congr_left (fun t _ => by rw [sT_set, if_neg (by omega), sT_set, if_neg (by omega)])
    refine lkS.toX (o := o) ⟨fun q hq hne => ⟨fTl_gW g hI hq (a3 26 _ (by decide) (fun w => q1 q hq hne w.2)), fDv_gW g hI hq (a3 27 _ (by decide) (by omega))⟩, fun q h1 h2 => ?_⟩ g hI hI2 (fun _ => ⟨Or.inr ⟨hTo, fun l ht => ?_⟩, Or.inl (fDv_gW g hI ho (a3 27 _ (by decide) (by omega))), Or.inr (fDv_gW g hI ho (a3 27 _ (by decide) (by omega)))⟩)
    · have h2 : q < sn T 8 := h2
      rw [a1 8 (by decide)] at h2
      omega
    · unfold t26 at ht
      rw [eT, Bool.and_eq_true, List.any_eq_true] at ht
      obtain ⟨hc, m, hm, hlm⟩ := ht
      obtain ⟨hlm, hpt⟩ := of_decide_eq_true hlm
      obtain ⟨e1, he1, w1⟩ := List.mem_map.mp (List.contains_iff_mem.mp hc)
      obtain ⟨e2, he2, w2⟩ := List.mem_map.mp hm
      obtain ⟨l1, b1, b2, b3, b4, -⟩ := hQ e1 he1
      obtain ⟨l2, c1, c2, c3, c4, c5⟩ := hQ e2 he2
      have el : l1 = l := by omega
      have em : l2 = m := by omega
      subst el
      subst em
      rw [pt_gW g hI b2, pt_gW g hI c2] at hpt
      obtain ⟨p1, -, -, d1, d2⟩ := ptL_at hI b2
      obtain ⟨p2, -, -, d3, d4⟩ := ptL_at hI c2
      have hle := c5 l1 hlm (by rw [d1, d3]; omega) b3
      have : av (sset T 8 7 o (z 1 : Nat)) l1 = av T l1 := by
        unfold av
        rw [sT_set, if_neg (by omega), sT_set, if_neg (by omega)]
      rw [this]
      exact hle
  · have e : (fRA z S o).1 = fTakeBack (fRAN S o (fComps S o).length).1 o := by
      unfold fRA
      rw [if_neg hok]
    rw [e] at g hI2 ⊢
    generalize (fRAN S o (fComps S o).length).1 = T at *
    obtain ⟨a1, a2, a3, a4, a5, -, -⟩ := hG
    have eTo : fOL T o = fOL S o := congrArg Int.toNat (a4 8 5 o (by decide) (by omega))
    refine lkS.quiet ⟨fun q hq _ => ⟨?_, fDv_gW g hI hq (by rw [fTB_sE, if_neg (by omega)]; exact a3 27 _ (by decide) (by omega))⟩, fun q h1 h2 => ?_⟩ g hI hI2
    · by_cases e : q = o
      · subst e
        rw [hTo]
        unfold fTl
        rw [g.oL ho, fTB_sE, if_pos ⟨rfl, eTo.symm⟩]
        rfl
      · exact fTl_gW g hI hq (by
          rw [fTB_sE, if_neg (by rw [eTo]; exact fun w => q1 q hq e w.2)]
          exact a3 26 _ (by decide) (fun w => q1 q hq e w.2))
    · rw [fTB_sn, a1 8 (by decide)] at h2
      omega
theorem xPr {v : Int} (hz : zInj z) (hRr : rR z S S) (hI : iAll z k S) (hMS : mShape S) (hB : mBox S) (hI2 : iAll z k2 S2) (hR : iRn z S) (h : pPr z S S2 v) : gX 0 S S2 := by
  rcases h with ⟨v, rfl⟩ | ⟨hc, rfl⟩
  · exact qMt hI hI2 hR
  · unfold cPr at hc
    rw [Bool.and_eq_true, Bool.and_eq_true] at hc
    obtain ⟨o, ho, ho8⟩ := idx (of_decide_eq_true hc.1)
    have eo : v.toNat = o := by omega
    rw [eo] at hc hI2 ⊢
    have hmd : (sT S 8 1 o).toNat % 2 = 0 := of_decide_eq_true hc.2.1
    have hst : sT S 8 7 o = (z 0 : Nat) := of_decide_eq_true hc.2.2
    have fm := (pairRA hz hRr hI hMS hB ho8 hst hmd).2.2.2.2.2.2.1.1
    have hR2 := hRr.frY hMS hB (fm.trans (mfr.mt (v := 0)))
    have hS2 := hMS.fr (fm.trans (mfr.mt (v := 0)))
    have hB2 := hB.fr (fm.trans (mfr.mt (v := 0)))
    have c7 := (pairRA (Y := mt (fRA z S o).1 0) hz hR2 hI hS2 hB2 ho8 hst hmd).2.2.2.2.2.2.1.2
    have hf := (ffr.mt (X := (fRA z S o).1) (v := 0)).trans c7
    have hIT := hI2.fr hf.symm
    exact (raX hz hI hIT hR ho8 hmd hst).trans ((lQ.ff hf).toX (ffr.sameW hf).gW hIT hI2)
end ZF3
