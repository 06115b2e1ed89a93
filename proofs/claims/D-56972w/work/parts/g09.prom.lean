/-! THE ACCOUNT: what promised orders' pieces are walked for, by the structure -/
set_option maxRecDepth 100000
/-- promised orders of part p; how many; their entries on y -/
def prp (z : Nat → Nat) (X : hS) (p o : Nat) : Bool := decide (sT X 8 7 o = (z 1 : Nat) ∧ sT X 8 1 o = (fPc X p : Nat))
def prN (z : Nat → Nat) (X : hS) (p : Nat) : Nat := ns (sn X 8) (fun o => if prp z X p o = true then 1 else 0)
def prM (z : Nat → Nat) (X : hS) (p y : Nat) : Nat := ns (sn X 8) (fun o => if prp z X p o = true then (ofs (fTl X o)).count y else 0)
section ZG9
variable {z : Nat → Nat} {k l o p B : Nat} {X : hS}
theorem ns_parts {pt f : Nat → Nat} {n m : Nat} (h : ∀ y : Nat, y < n → f y ≠ 0 → pt y < m) : ns n f = ns m (fun B => ns n (fun y => if pt y = B then f y else 0)) := by
  rw [ns_swap]
  refine ns_cg (fun y hy => ?_)
  by_cases h0 : f y = 0
  · rw [h0]
    refine ((ns_cg (g := fun _ => 0) (fun B _ => ?_)).trans (ns_zero _)).symm
    split <;> rfl
  · have e := ns_one (n := m) (j := pt y) (v := f y) (h y hy h0)
    refine e.symm.trans (ns_cg (fun B _ => ?_))
    by_cases w : pt y = B
    · rw [if_pos w, if_pos w.symm]
    · rw [if_neg w, if_neg (fun q => w q.symm)]
/-- an order's part, made: its components -/
theorem ord_part (hI : iAll z k X) (hp : p < np X) (ho : o < sn X 8) (e1 : sT X 8 1 o = (fPc X p : Nat)) (hM : iMd X) (hC : iCk X) (hne : sE X 26 (fOL X o) ≠ []) :
    fPc X p % 2 = 0 ∧ ∃ cs : List (Int × List (Int × Int)), (cs.map Prod.snd).flatten = fTl X o ∧ cOkL X o (sE X 24 (fPc X p / 2)) cs := by
  have hev : fPc X p % 2 = 0 := by
    have := hM o ho hne
    rw [e1, Int.toNat_natCast] at this
    exact this
  obtain ⟨cs, c1, c2⟩ := hC o ho hne
  rw [(comps_at (o := o) hI.pt hp hev e1 rfl).1] at c2
  exact ⟨hev, cs, c1, c2⟩
/-- entries lead to components -/
theorem ent_comp (hI : iAll z k X) (hp : p < np X) (ho : o < sn X 8) (e1 : sT X 8 1 o = (fPc X p : Nat)) (hM : iMd X) (hC : iCk X) {e : Int × Int} (he : e ∈ fTl X o) : ptL X e.1.toNat < p ∧ 0 < cT X p (ptL X e.1.toNat) := by
  have hne : sE X 26 (fOL X o) ≠ [] := fun w => by
    unfold fTl at he
    rw [w] at he
    exact absurd he List.not_mem_nil
  obtain ⟨hev, cs, c1, k1, k2, -⟩ := ord_part hI hp ho e1 hM hC hne
  rw [← c1] at he
  obtain ⟨L, hL, heL⟩ := List.mem_flatten.mp he
  obtain ⟨c, hc, rfl⟩ := List.mem_map.mp hL
  obtain ⟨l, l1, l2, l3, l4⟩ := (k2 c hc).2.1 e heL
  have el : e.1.toNat = l := by omega
  rw [el]
  have hcm : c.1 ∈ sE X 24 (fPc X p / 2) := k1.subset (List.mem_map_of_mem hc)
  obtain ⟨r1, r2⟩ := cmp_part hI hp hev hcm
  have ept : ptL X l = (sT X 4 0 c.1.toNat).toNat := by unfold ptL; rw [l3]
  rw [ept]
  refine ⟨by omega, ?_⟩
  unfold cT cL cP
  rw [if_pos hp, if_pos hev]
  exact List.count_pos_iff.mpr (List.mem_map.mpr ⟨c.1, hcm, rfl⟩)
/-- how many entries an order has on a part -/
theorem ent_cnt (hI : iAll z k X) (hp : p < np X) (ho : o < sn X 8) (e1 : sT X 8 1 o = (fPc X p : Nat)) (hM : iMd X) (hC : iCk X) (B : Nat) :
    ((fTl X o).map (fun e => if ptL X e.1.toNat = B then 1 else 0)).sum ≤ cT X p B + (bL X B - 1) := by
  by_cases hne : sE X 26 (fOL X o) = []
  · have : fTl X o = [] := by unfold fTl; rw [hne]; rfl
    rw [this]; exact Nat.zero_le _
  obtain ⟨hev, cs, c1, k1, k2, k3, k4, k5⟩ := ord_part hI hp ho e1 hM hC hne
  have hin : ∀ c ∈ cs, c.2 ≠ [] ∧ ∀ e ∈ c.2, ptL X e.1.toNat = (sT X 4 0 c.1.toNat).toNat := fun c hc => by
    obtain ⟨q1, q2, -⟩ := k2 c hc
    refine ⟨q1, fun e he => ?_⟩
    obtain ⟨l, l1, l2, l3, l4⟩ := q2 e he
    have : e.1.toNat = l := by omega
    rw [this]
    unfold ptL
    rw [l3]
  obtain ⟨nl, f, g1, g2, g3, g4⟩ := oWhole (pt := fun a => ptL X a.toNat) (g := fun j => (sT X 4 0 j.toNat).toNat) (B := B) cs k5 hin
  rw [c1] at g2 g4
  have g4 : ((fTl X o).map (fun e => if ptL X e.1.toNat = B then 1 else 0)).sum = nl.length + f := g4
  rw [g4]
  have hf : f ≤ cT X p B := by
    refine Nat.le_trans g3 ?_
    unfold cT cL cP
    rw [if_pos hp, if_pos hev]
    exact (k1.map _).count_le B
  have hnn : ∀ a ∈ (fTl X o).map Prod.fst, 0 ≤ a ∧ a.toNat < sn X 6 := fun a ha => by
    obtain ⟨e, he, rfl⟩ := List.mem_map.mp ha
    have := fTl_at hI ho e he
    exact ⟨this.1, by omega⟩
  by_cases h0 : nl = []
  · rw [h0, List.length_nil]; omega
  · obtain ⟨a0, ha0⟩ := List.exists_mem_of_ne_nil nl h0
    obtain ⟨u1, u2, b0, u3, u4, u5⟩ := g2 a0 ha0
    obtain ⟨m, m1, m2, m3⟩ := exmax (P := fun l => ptL X l = B) (sn X 6) ⟨b0.toNat, (hnn b0 u3).2, u4⟩
    have hnd : (nl.map Int.toNat).Nodup := by
      rw [List.nodup_iff_pairwise_ne, List.pairwise_map]
      refine List.Pairwise.imp_of_mem ?_ (List.nodup_iff_pairwise_ne.mp g1)
      intro a b ha hb hab e
      have h1 := (hnn a (g2 a ha).1).1
      have h2 := (hnn b (g2 b hb).1).1
      exact hab (by omega)
    have hlen := nd_len (P := fun l => ptL X l = B) (n := sn X 6) (w := m) hnd (fun a ha => by
      obtain ⟨b, hb, rfl⟩ := List.mem_map.mp ha
      exact ⟨(hnn b (g2 b hb).1).2, (g2 b hb).2.1⟩) m1 m2 (fun hw => by
      obtain ⟨b, hb, e⟩ := List.mem_map.mp hw
      obtain ⟨v1, v2, c, v3, v4, v5⟩ := g2 b hb
      have := m3 c.toNat (hnn c v3).2 v4
      have := (hnn b v1).1
      omega)
    rw [List.length_map] at hlen
    have hb : ns (sn X 6) (fun l => if ptL X l = B then 1 else 0) = bL X B := rfl
    omega
/-- an entry is a piece that is reserved -/
theorem prM_q (hI : iAll z k X) {y : Nat} (hy : y < sn X 6) : prM z X p y ≤ qL X y := by
  obtain ⟨r1, r2, r3⟩ := hI.res y hy
  have h1 : ((prM z X p y : Nat) : Int) ≤ isum (sn X 8) (fun o => if fPr z X o = true then pl (fTl X o) y else 0) := by
    unfold prM
    have key : ∀ n : Nat, n ≤ sn X 8 → ((ns n (fun o => if prp z X p o = true then (ofs (fTl X o)).count y else 0) : Nat) : Int) ≤ isum n (fun o => if fPr z X o = true then pl (fTl X o) y else 0) := by
      intro n
      induction n with
      | zero => intro _; exact Int.le_refl _
      | succ n ih =>
        intro hn
        rw [isum_succ]
        show ((ns n _ + (if prp z X p n = true then (ofs (fTl X n)).count y else 0) : Nat) : Int) ≤ _
        have hi := ih (by omega)
        have hc : ∀ L : List (Int × Int), (∀ e ∈ L, 0 ≤ e.1 ∧ 1 ≤ e.2) → (((ofs L).count y : Nat) : Int) ≤ pl L y := by
          intro L
          induction L with
          | nil => intro _; exact Int.le_refl _
          | cons e L ihL =>
            intro hL
            have h1 := ihL (fun d hd => hL d (List.mem_cons_of_mem _ hd))
            have h2 := hL e List.mem_cons_self
            rw [pl_cons]
            show (((e.1.toNat :: ofs L).count y : Nat) : Int) ≤ _
            rw [List.count_cons]
            by_cases w : e.1 = (y : Int)
            · rw [if_pos w, if_pos (beq_iff_eq.mpr (by omega))]
              push_cast
              omega
            · rw [if_neg w, if_neg (fun q => w (by have := beq_iff_eq.mp q; omega))]
              omega
        have hL := hc (fTl X n) (fun e he => by
          have := fTl_at hI (by omega) e he
          exact ⟨this.1, this.2.2⟩)
        by_cases hp : prp z X p n = true
        · have hf : fPr z X n = true := by
            unfold fPr
            exact decide_eq_true (of_decide_eq_true hp).1
          rw [if_pos hp, if_pos hf]
          push_cast
          omega
        · rw [if_neg hp]
          have : 0 ≤ (if fPr z X n = true then pl (fTl X n) y else 0) := by
            split
            · exact Int.le_trans (Int.natCast_nonneg _) hL
            · exact Int.le_refl _
          push_cast
          omega
    exact key (sn X 8) (Nat.le_refl _)
  have h3 : sT X 6 4 y ≤ sT X 6 2 y := by
    have h0 : 0 ≤ isum (sn X 8) (fun o => (if fPr z X o = true then 0 else pl (fTl X o) y) + pl (fDv X o) y) := isum_nn (fun o ho => by
      have a1 := pl_nn (l := y) (L := fTl X o) (fun e he => by have := fTl_at hI ho e he; omega)
      have a2 := pl_nn (l := y) (L := fDv X o) (fun e he => by have := fDv_at hI ho e he; omega)
      split <;> omega)
    omega
  have h4 := (hI.lo y hy).2.2.1
  unfold qL
  omega
end ZG9
