/-! THE ROOM: the lots that are walked before one is found, as a structure of flows, all of it -/
set_option maxRecDepth 100000
/-- the lots walked below r before x is found -/
def vB (X : hS) (x r : Nat) : Nat → Bool := fun l => inn (pch (fch X) x) 100 l r
def hB (X : hS) (x y : Nat) : Bool := inn (fch X) 100 x y
def eQ (X : hS) (x r y l : Nat) : Nat := if vB X x r y = true then (pch (fch X) x y).count l else 0
def pQ (X : hS) (x r y l : Nat) : Nat := if vB X x r y = true then (if hB X x l = true then (pch (fch X) x y).count l else pcL X y l) else 0
def qQ (X : hS) (x y : Nat) : Nat := if hB X x y = true then 1 else qL X y
section ZE17
variable {z : Nat → Nat} {k : Nat} {X : hS} {x r : Nat}
theorem iAll.n100 (hI : iAll z k X) : sn X 6 ≤ 100 := hI.fix.2.2.2.2.2.2.2.2.2.2.1
theorem vB_tIn {y : Nat} : vB X x r y = true ↔ tIn (pch (fch X) x) y r := inn_tIn
theorem vB_step (hI : iAll z k X) (hr : r < sn X 6) {y l : Nat} (hy : vB X x r y = true) (hl : l ∈ pch (fch X) x y) : vB X x r l = true :=
  vB_tIn.mpr (tIn_child (pch_lt hI.chl) hI.n100 hl (r + 1) r (by omega) hr (vB_tIn.mp hy))
theorem vB_lt (hI : iAll z k X) (hr : r < sn X 6) {y : Nat} (hy : vB X x r y = true) : y ≤ r :=
  tIn_le (pch_lt hI.chl) hI.n100 (r + 1) r y (by omega) hr (vB_tIn.mp hy)
theorem pcut_all {h : Nat → Bool} : ∀ L : List Nat, (∀ e ∈ L, h e = false ∧ e ≠ x) → pcut h x L = L
  | [], _ => rfl
  | e :: L, w => by
    have := w e List.mem_cons_self
    unfold pcut
    rw [if_neg this.2, if_neg (by rw [this.1]; decide), pcut_all L (fun d hd => w d (List.mem_cons_of_mem _ hd))]
theorem pch_out (hI : iAll z k X) {y : Nat} (hy : y < sn X 6) (h : hB X x y = false) : pch (fch X) x y = fch X y := by
  refine pcut_all _ (fun e he => ?_)
  have key : ∀ e ∈ fch X y, tIn (fch X) x e → False := fun e he ht => by
    have : hB X x y = true := inn_tIn.mpr ((tIn_step hI.chl hI.n100 hy).mpr (Or.inr ⟨e, he, ht⟩))
    rw [h] at this
    exact Bool.false_ne_true this
  refine ⟨?_, fun w => key e he (Or.inl w.symm)⟩
  cases hh : inn (fch X) 100 x e with
  | true => exact (key e he (inn_tIn.mp hh)).elim
  | false => rfl
/-- entries of a lot on a part, up to where x is found -/
theorem pch_cnt (hI : iAll z k X) (hL : iLt z X) (hC : iCk X) (hr : r < sn X 6) {y B : Nat} (hy : y < sn X 6) (hv : vB X x r y = true) (W : Nat → Bool) :
    pS (sn X 6) (ptL X) B (fun l => W l && vB X x r l) (eQ X x r y) ≤ (bK X (vB X x r) B - 1) + cL X (ptL X y) B := by
  have h0 : pS (sn X 6) (ptL X) B (fun l => W l && vB X x r l) (eQ X x r y) ≤ ((pch (fch X) x y).map (fun l => if ptL X l = B then 1 else 0)).sum := by
    have := ns_cnt (P := fun l => ptL X l = B) (n := sn X 6) (pch (fch X) x y) (fun l hl => hI.chlt y hy l (pch_sub hl))
    rw [← this]
    unfold pS
    refine ns_le (fun l _ => ?_)
    by_cases h : ptL X l = B
    · rw [if_pos h]
      split
      · unfold eQ
        rw [if_pos hv]
        exact Nat.le_refl _
      · exact Nat.zero_le _
    · rw [if_neg h, if_neg (fun w => h w.1)]
      exact Nat.le_refl _
  refine Nat.le_trans h0 ?_
  obtain ⟨c1, c2⟩ := ch_ts (y := y) hI hy
  by_cases hne : tlL X (sT X 6 3 y).toNat = []
  · have : pch (fch X) x y = [] := by
      have h1 : pch (fch X) x y <+: fch X y := pcut_pre _
      rw [c1, hne] at h1
      exact List.prefix_nil.mp h1
    rw [this]
    exact Nat.zero_le _
  · obtain ⟨p, o, cs, hp, e1, hev, ho, h13, hq, hol, hfl, k1, k2, k3, k4, k5⟩ := lot_cs hI hL hC hy hne
    have hpre : pch (fch X) x y <+: fch X y := pcut_pre _
    obtain ⟨P, hP, ePP⟩ : ∃ P : List (Int × Int), P <+: (cs.map Prod.snd).flatten ∧ pch (fch X) x y = P.map (fun e => e.1.toNat) := by
      refine ⟨((cs.map Prod.snd).flatten).take (pch (fch X) x y).length, List.take_prefix _ _, ?_⟩
      have h1 := List.prefix_iff_eq_take.mp hpre
      rw [List.map_take, hfl, ← c1]
      exact h1
    have hin : ∀ c ∈ cs, c.2 ≠ [] ∧ ∀ e ∈ c.2, ptL X e.1.toNat = (sT X 4 0 c.1.toNat).toNat := fun c hc => by
      obtain ⟨q1, q2, -⟩ := k2 c hc
      refine ⟨q1, fun e he => ?_⟩
      obtain ⟨l, l1, l2, l3, l4⟩ := q2 e he
      have : e.1.toNat = l := by omega
      rw [this]
      unfold ptL
      rw [l3]
    obtain ⟨nl, f, g1, g2, g3, g4, g5⟩ := oPre (pt := fun a => ptL X a.toNat) (g := fun j => (sT X 4 0 j.toNat).toNat) (B := B) cs P k5 hin hP
    have hs : ((pch (fch X) x y).map (fun l => if ptL X l = B then 1 else 0)).sum = nl.length + f := by
      rw [ePP, List.map_map, ← g4]
      rfl
    rw [hs]
    have hf : f ≤ cL X (ptL X y) B := by
      refine Nat.le_trans g3 ?_
      rw [e1]
      unfold cL cP
      rw [if_pos hev]
      exact (k1.map _).count_le B
    by_cases h0 : 0 < nl.length + f
    · obtain ⟨w, w1, w2, w3⟩ := g5 h0
      -- every entry of P is a lot that is walked
      have hPm : ∀ a ∈ P.map Prod.fst, a.toNat < sn X 6 ∧ vB X x r a.toNat = true ∧ 0 ≤ a := fun a ha => by
        obtain ⟨e, he, rfl⟩ := List.mem_map.mp ha
        have hm : e.1.toNat ∈ pch (fch X) x y := by rw [ePP]; exact List.mem_map.mpr ⟨e, he, rfl⟩
        have he2 := hP.subset he
        rw [hfl] at he2
        have := c2 e he2
        exact ⟨by omega, vB_step hI hr hv hm, this.1⟩
      have hnd : (nl.map Int.toNat).Nodup := by
        rw [List.nodup_iff_pairwise_ne, List.pairwise_map]
        refine List.Pairwise.imp_of_mem ?_ (List.nodup_iff_pairwise_ne.mp g1)
        intro a b ha hb hab e
        have h1 := (hPm a (g2 a ha).1).2.2
        have h2 := (hPm b (g2 b hb).1).2.2
        exact hab (by omega)
      have hlen := nd_len (P := fun l => ptL X l = B ∧ vB X x r l = true) (n := sn X 6) (w := w.toNat) hnd (fun a ha => by
        obtain ⟨b, hb, rfl⟩ := List.mem_map.mp ha
        have := hPm b (g2 b hb).1
        exact ⟨this.1, (g2 b hb).2, this.2.1⟩) (hPm w w1).1 ⟨w2, (hPm w w1).2.1⟩ (fun hw => by
        obtain ⟨b, hb, e⟩ := List.mem_map.mp hw
        have h1 := (hPm b (g2 b hb).1).2.2
        have h2 := (hPm w w1).2.2
        have : b = w := by omega
        exact w3 (this ▸ hb))
      rw [List.length_map] at hlen
      unfold bK
      omega
    · omega
theorem prOk (hI : iAll z k X) (hL : iLt z X) (hC : iCk X) (hr : r < sn X 6) :
    flOk (sn X 6) (ptK X (vB X x r)) (qQ X x) (eQ X x r) (pQ X x r) (cT X) (bKx X (vB X x r)) (capKx X (vB X x r)) := by
  obtain ⟨f1, f2, f3, f4⟩ := flT hI hL hC
  have ein : ∀ y l : Nat, 0 < eQ X x r y l → vB X x r y = true ∧ vB X x r l = true ∧ l ∈ pch (fch X) x y := fun y l h => by
    unfold eQ at h
    by_cases hy : vB X x r y = true
    · rw [if_pos hy] at h
      have hl := List.count_pos_iff.mp h
      exact ⟨hy, vB_step hI hr hy hl, hl⟩
    · rw [if_neg hy] at h
      omega
  refine ⟨fun y l hy hl h => ?_, fun y B W hy => ?_, fun l hl => ?_, fun B => ?_⟩
  · obtain ⟨h1, h2, h3⟩ := ein y l h
    have h4 : 0 < eL X y l := List.count_pos_iff.mpr (pch_sub h3)
    have := f1 y l hy hl h4
    unfold ptK
    rw [if_pos h1, if_pos h2]
    exact this
  · by_cases hv : vB X x r y = true
    · have et : ptK X (vB X x r) y = ptL X y := by unfold ptK; rw [if_pos hv]
      obtain ⟨p, hp, -, -, e3⟩ := ptL_at hI hy
      by_cases hBn : B < np X
      · by_cases hx : hB X x y = true
        · -- on the way to x
          have hm := pch_cnt hI hL hC hr (B := B) hy hv W
          have ec : cT X (ptL X y) B = cL X (ptL X y) B := by unfold cT; rw [if_pos (by omega)]
          have hle : pS (sn X 6) (ptK X (vB X x r)) B W (eQ X x r y) ≤ pS (sn X 6) (ptK X (vB X x r)) B W (pQ X x r y) := pS_le (fun l hl _ _ => by
            unfold eQ pQ
            rw [if_pos hv, if_pos hv]
            split
            · exact Nat.le_refl _
            · exact Nat.le_trans (List.Sublist.count_le l ((pcut_pre _).sublist)) (eL_pcL hI hy))
          rw [pS_K hBn] at hle
          rw [et, ec, pS_K hBn]
          have eb : bKx X (vB X x r) B = bK X (vB X x r) B := if_pos hBn
          have eq1 : qQ X x y = 1 := if_pos hx
          rw [eb, eq1]
          generalize pS (sn X 6) (ptL X) B (fun l => W l && vB X x r l) (eQ X x r y) = m at hm hle
          by_cases hmc : m ≤ cL X (ptL X y) B
          · exact ⟨m, hmc, by omega, by rw [Nat.mul_one]; exact hle⟩
          · exact ⟨cL X (ptL X y) B, Nat.le_refl _, hm, by rw [Nat.mul_one]; omega⟩
        · have hx' : hB X x y = false := by cases hh : hB X x y with
            | true => exact absurd hh hx
            | false => rfl
          have eo := pch_out hI hy hx'
          have ey : eQ X x r y = eL X y := by
            funext l
            unfold eQ
            rw [if_pos hv, eo]
            rfl
          have ep : pQ X x r y = pcL X y := by
            funext l
            unfold pQ
            rw [if_pos hv]
            split
            · rename_i hl
              have hnl : l ∉ fch X y := fun w => by
                have : hB X x y = true := inn_tIn.mpr ((tIn_step hI.chl hI.n100 hy).mpr (Or.inr ⟨l, w, inn_tIn.mp hl⟩))
                exact hx this
              rw [eo, List.count_eq_zero.mpr hnl, pcL_zero hI hy hnl]
            · rfl
          obtain ⟨f, g1, g2, g3⟩ := flX2 (Kf := vB X x r) hI hL hC B (fun l => W l && vB X x r l) hy (fun l hl => vB_step hI hr hv (by rw [eo]; exact hl))
          refine ⟨f, ?_, ?_, ?_⟩
          · rw [et]; unfold cT; rw [if_pos (by omega)]; exact g1
          · rw [ey, pS_K hBn]; unfold bKx; rw [if_pos hBn]; exact g2
          · rw [ep, pS_K hBn]
            have eq1 : qQ X x y = qL X y := if_neg hx
            rw [eq1]
            exact g3
      · refine ⟨0, Nat.zero_le _, ?_, by rw [Nat.zero_mul]; exact Nat.zero_le _⟩
        have e0 : pS (sn X 6) (ptK X (vB X x r)) B W (eQ X x r y) = 0 := by
          unfold pS
          refine (ns_cg (g := fun _ => 0) (fun l hl => ?_)).trans (ns_zero _)
          split
          · rename_i hw
            by_cases hp0 : 0 < eQ X x r y l
            · obtain ⟨h1, h2, h3⟩ := ein y l hp0
              have hb := hw.1
              unfold ptK at hb
              rw [if_pos h2] at hb
              obtain ⟨p2, hp2, -, -, e32⟩ := ptL_at hI hl
              omega
            · omega
          · rfl
        rw [e0]; exact Nat.zero_le _
    · refine ⟨0, Nat.zero_le _, ?_, by rw [Nat.zero_mul]; exact Nat.zero_le _⟩
      have e0 : pS (sn X 6) (ptK X (vB X x r)) B W (eQ X x r y) = 0 := by
        unfold pS
        refine (ns_cg (g := fun _ => 0) (fun l hl => ?_)).trans (ns_zero _)
        unfold eQ
        rw [if_neg hv]
        split <;> rfl
      rw [e0]; exact Nat.zero_le _
  · by_cases hx : hB X x l = true
    · have eq1 : qQ X x l = 1 := if_pos hx
      rw [eq1]
      have hpos : ∀ y : Nat, 0 < pQ X x r y l → vB X x r y = true ∧ l ∈ pch (fch X) x y := fun y h => by
        unfold pQ at h
        by_cases hv : vB X x r y = true
        · rw [if_pos hv, if_pos hx] at h
          exact ⟨hv, List.count_pos_iff.mp h⟩
        · rw [if_neg hv] at h
          omega
      refine ns_uniq (fun y hy => ?_) (fun y y2 hy hy2 h1 h2 => ?_)
      · unfold pQ
        split
        · by_cases hm : l ∈ pch (fch X) x y
          · exact Nat.le_of_eq (pcut_h _ l hm hx).1
          · rw [List.count_eq_zero.mpr hm]; omega
        · omega
      · obtain ⟨a1, a2⟩ := hpos y h1
        obtain ⟨b1, b2⟩ := hpos y2 h2
        exact pch_uniq hI.chl hI.n100 (r + 1) r y y2 l (by omega) hr (vB_tIn.mp a1) (vB_tIn.mp b1) a2 b2 (inn_tIn.mp hx)
    · have eq1 : qQ X x l = qL X l := if_neg hx
      rw [eq1]
      refine Nat.le_trans (ns_le (fun y _ => ?_)) (f3 l hl)
      unfold pQ
      rw [if_neg hx]
      split
      · exact Nat.le_refl _
      · exact Nat.zero_le _
  · refine Nat.le_trans (pS_le (fun l hl _ _ => ?_)) (capK_le hI hL B)
    unfold qQ
    split
    · have := qL_pos hI hl
      omega
    · exact Nat.le_refl _
def nQ (X : hS) (x r y : Nat) : Nat := if vB X x r y = true then tN (pch (fch X) x) 100 y else 1
theorem nQ_rec (hI : iAll z k X) (hr : r < sn X 6) {y : Nat} (hy : y < sn X 6) : nQ X x r y = 1 + ns (sn X 6) (fun l => eQ X x r y l * nQ X x r l) := by
  by_cases hv : vB X x r y = true
  · have e : nQ X x r y = tN (pch (fch X) x) 100 y := if_pos hv
    have h1 : tN (pch (fch X) x) 100 y = 1 + ((pch (fch X) x y).map (tN (pch (fch X) x) 99)).sum := rfl
    have h2 : (pch (fch X) x y).map (tN (pch (fch X) x) 99) = (pch (fch X) x y).map (nQ X x r) := List.map_congr_left (fun l hl => by
      have := hI.chl y hy l (pch_sub hl)
      have h100 := hI.n100
      have e2 : nQ X x r l = tN (pch (fch X) x) 100 l := if_pos (vB_step hI hr hv hl)
      rw [e2]
      exact tN_fuel (M := sn X 6) (pch_lt hI.chl) 99 100 l (by omega) (by omega) (by omega))
    rw [e, h1, h2, ns_mapsum (n := sn X 6) _ (fun l hl => hI.chlt y hy l (pch_sub hl))]
    congr 1
    refine ns_cg (fun l _ => ?_)
    unfold eQ
    rw [if_pos hv]
  · have e : nQ X x r y = 1 := if_neg hv
    have e0 : ns (sn X 6) (fun l => eQ X x r y l * nQ X x r l) = 0 := (ns_cg (g := fun _ => 0) (fun l _ => by
      unfold eQ
      rw [if_neg hv, Nat.zero_mul])).trans (ns_zero _)
    rw [e, e0]
/-- a walk's nodes below the table: only lots walked before count -/
theorem walk_tab (hI : iAll z k X) (hL : iLt z X) (hC : iCk X) (hr : r < sn X 6) (hrx : r ≠ x) (hxr : hB X x r = true) (h62 : ns (ptL X r) (ownP (cT X) (bKx X (vB X x r)) (mkL X)) ≤ 62) :
    iw (fch X) 100 x r ≤ 1 + jt 0 (ns (ptL X r) (cT X (ptL X r))) 0 (ns (ptL X r) (ownP (cT X) (bKx X (vB X x r)) (mkL X))) := by
  obtain ⟨p, hp, -, -, e3⟩ := ptL_at hI hr
  have h100 := hI.n100
  have hvr : vB X x r r = true := vB_tIn.mpr (Or.inl rfl)
  have et : ptK X (vB X x r) r = ptL X r := if_pos hvr
  have en : nQ X x r r = tN (pch (fch X) x) 100 r := if_pos hvr
  have h0 : iw (fch X) 100 x r ≤ nQ X x r r := by
    rw [en]
    unfold iw
    rw [if_neg (fun w => hrx (beq_iff_eq.mp w))]
    exact walkP hI.chl h100 100 r (by omega) hr hrx
  have hb : ∀ y : Nat, y < sn X 6 → 1 ≤ bKx X (vB X x r) (ptK X (vB X x r) y) := fun y hy => bK_pos hI hy
  have h := flow (prOk (x := x) hI hL hC hr) sk_ok hb (fun y hy => nQ_rec hI hr hy) (ptL X r) (fun l => if l = r then 1 else 0) 0 1 (fun V => by
    rw [Nat.zero_add]
    refine pS_le (fun l hl _ _ => ?_)
    have := qL_pos hI hl
    show (if l = r then 1 else 0) ≤ qQ X x l
    unfold qQ
    split <;> split <;> omega) (by
    rw [Nat.zero_add]
    have e := ns_one (j := r) (v := 1) hr
    refine Nat.le_trans (ns_le (g := fun l => if l = r then 1 else 0) (fun l _ => ?_)) (Nat.le_of_eq e)
    split
    · exact Nat.le_refl _
    · exact Nat.zero_le _)
  rw [Nat.mul_zero, Nat.zero_add] at h
  have h1 : nQ X x r r ≤ 1 + ho (cT X) (bKx X (vB X x r)) (capKx X (vB X x r)) (ptL X r) 1 := by
    refine Nat.le_trans ?_ h
    have g := ns_ge (f := fun y => if ptK X (vB X x r) y = ptL X r ∧ (fun _ => true) y = true then (fun y => (if y = r then 1 else 0) * nQ X x r y) y else 0) hr
    rw [if_pos ⟨et, rfl⟩] at g
    have e1 : (fun y => (if y = r then 1 else 0) * nQ X x r y) r = nQ X x r r := by
      show (if r = r then 1 else 0) * nQ X x r r = _
      rw [if_pos rfl, Nat.one_mul]
    rw [e1] at g
    exact g
  rw [ho_cg (cap' := capP (bKx X (vB X x r)) (mkL X)) (fun B hB => capK_eq (by omega))] at h1
  have h2 := (skel_tab (c := cT X) (b := bKx X (vB X x r)) (mk := mkL X) (fun A => (skC hI A).1) (fun A hA => (skC hI A).2 hA) (ptL X r) h62).1 0 0 (by decide) (by decide)
  have g1 : gR 0 = 1 := by decide
  rw [g1] at h2
  omega
end ZE17
