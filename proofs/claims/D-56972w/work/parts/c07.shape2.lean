/-! THE ROOM: a state's lots with their components; nodes -/
set_option maxRecDepth 100000
section ZSI
variable {z : Nat → Nat} {k : Nat} {X : hS}
theorem flat_sub {α : Type} : ∀ {L M : List (List α)}, L.Sublist M → L.flatten.Sublist M.flatten
  | _, _, .slnil => List.Sublist.refl _
  | _, _, .cons a h => by
    rw [List.flatten_cons]
    exact (flat_sub h).trans (List.sublist_append_right _ _)
  | _, _, .cons_cons a h => by
    rw [List.flatten_cons, List.flatten_cons]
    exact List.Sublist.append (List.Sublist.refl _) (flat_sub h)
theorem cnt_sub {L M : List Int} {g : Int → Nat} {B : Nat} (h : M.Sublist L) (hM : ∀ x ∈ M, g x = B) : M.length ≤ (L.map g).count B := by
  have h1 : (M.map g).count B ≤ (L.map g).count B := (h.map g).count_le B
  have h2 : ∀ M : List Int, (∀ x ∈ M, g x = B) → (M.map g).count B = M.length := by
    intro M
    induction M with
    | nil => intro _; rfl
    | cons a M ih =>
      intro w
      rw [List.map_cons, w a List.mem_cons_self, List.count_cons_self, ih (fun x hx => w x (List.mem_cons_of_mem _ hx)), List.length_cons]
  rw [h2 M hM] at h1
  exact h1
theorem ns_isum {f : Nat → Int} : ∀ {n : Nat}, (∀ i : Nat, i < n → 0 ≤ f i) → ((ns n (fun i => (f i).toNat) : Nat) : Int) = isum n f
  | 0, _ => rfl
  | n + 1, h => by
    rw [isum_succ, ← ns_isum (n := n) (fun i hi => h i (by omega))]
    have := h n (by omega)
    show ((ns n (fun i => (f i).toNat) + (f n).toNat : Nat) : Int) = _
    omega
theorem nl_len : ∀ cs : List (Int × List (Int × Int)), (cs.map (fun c => c.2.length - 1)).sum = (nlL cs).length
  | [] => rfl
  | c :: cs => by
    have e : nlL (c :: cs) = (c.2.dropLast).map Prod.fst ++ nlL cs := by
      unfold nlL
      rw [List.map_cons, List.flatten_cons]
    rw [e, List.length_append, List.length_map, List.length_dropLast, List.map_cons, List.sum_cons, nl_len cs]
theorem nl_mem {cs : List (Int × List (Int × Int))} {x : Int} (h : x ∈ nlL cs) : ∃ c ∈ cs, ∃ e ∈ c.2, e.1 = x := by
  unfold nlL at h
  obtain ⟨L, hL, hx⟩ := List.mem_flatten.mp h
  obtain ⟨c, hc, rfl⟩ := List.mem_map.mp hL
  obtain ⟨e, he, rfl⟩ := List.mem_map.mp hx
  exact ⟨c, hc, e, (List.dropLast_sublist _).subset he, rfl⟩
/-- the lots of a state are a structure of flows -/
theorem flX (hI : iAll z k X) (hL : iLt z X) (hC : iCk X) : flOk (sn X 6) (ptL X) (qL X) (eL X) (pcL X) (cL X) (bL X) (capP (bL X) (mkL X)) := by
  have hch := fun y hy => ch_ts (y := y) hI hy
  refine ⟨fun y x hy hx he => ?_, fun y B W hy => ?_, fun x hx => ?_, fun B => ?_⟩
  · -- entries lead to components
    obtain ⟨c1, c2⟩ := hch y hy
    unfold eL at he
    have hm := List.count_pos_iff.mp he
    rw [c1] at hm
    obtain ⟨en, hen, hex⟩ := List.mem_map.mp hm
    obtain ⟨p, o, cs, hp, e1, hev, ho, h13, hq, hol, hfl, k1, k2, k3, k4⟩ := lot_cs hI hL hC hy (fun w => by rw [w] at hen; exact absurd hen List.not_mem_nil)
    rw [← hfl] at hen
    obtain ⟨L, hLm, heL⟩ := List.mem_flatten.mp hen
    obtain ⟨c, hc, rfl⟩ := List.mem_map.mp hLm
    obtain ⟨q1, q2, q3⟩ := k2 c hc
    obtain ⟨l, l1, l2, l3, l4⟩ := q2 en heL
    have hl : l = x := by omega
    subst hl
    have hcm : c.1 ∈ sE X 24 (fPc X p / 2) := k1.subset (List.mem_map_of_mem hc)
    obtain ⟨r1, r2⟩ := cmp_part hI hp hev hcm
    have ept : ptL X l = (sT X 4 0 c.1.toNat).toNat := by unfold ptL; rw [l3]
    rw [e1, ept]
    refine ⟨by omega, ?_⟩
    unfold cL cP
    rw [if_pos hev]
    exact List.count_pos_iff.mpr (List.mem_map.mpr ⟨c.1, hcm, rfl⟩)
  · -- how entries are cut
    obtain ⟨c1, c2⟩ := hch y hy
    have s1 : pS (sn X 6) (ptL X) B W (eL X y) = ((tlL X (sT X 6 3 y).toNat).map (fun e => if ptL X e.1.toNat = B ∧ W e.1.toNat = true then 1 else 0)).sum := by
      have := ns_cnt (P := fun x => ptL X x = B ∧ W x = true) (n := sn X 6) (fch X y) (hI.chlt y hy)
      rw [c1, List.map_map] at this
      unfold pS eL
      rw [c1]
      exact this
    have s2 : pS (sn X 6) (ptL X) B W (pcL X y) = ((tlL X (sT X 6 3 y).toNat).map (fun e => if ptL X e.1.toNat = B ∧ W e.1.toNat = true then e.2.toNat else 0)).sum :=
      ns_pcs (P := fun x => ptL X x = B ∧ W x = true) (n := sn X 6) _ (fun e he => by
        have := c2 e he
        exact ⟨this.1, this.2.1, by omega⟩)
    rw [s1, s2]
    by_cases hne : tlL X (sT X 6 3 y).toNat = []
    · rw [hne]
      exact ⟨0, Nat.zero_le _, Nat.zero_le _, by rw [Nat.zero_mul]; exact Nat.zero_le _⟩
    · obtain ⟨p, o, cs, hp, e1, hev, ho, h13, hq, hol, hfl, k1, k2, k3, k4, -⟩ := lot_cs hI hL hC hy hne
      have hqn : (qL X y : Int) = sT X 6 2 y := by
        have := (hI.lo y hy).2.2.1
        unfold qL; omega
      obtain ⟨f, f1, f2, f3⟩ := cs_cnt (P := fun a : Int => ptL X a.toNat = B ∧ W a.toNat = true) (Q := qL X y) cs (fun c hc => by
        obtain ⟨q1, q2, q3⟩ := k2 c hc
        refine ⟨q1, by omega, fun e he => ?_⟩
        obtain ⟨l, -, -, -, l4⟩ := q2 e he
        omega)
      rw [hfl] at f2 f3
      -- the components that matter have part B
      have hB : ∀ c ∈ cs.filter (fun c => c.2.any (fun e => decide (ptL X e.1.toNat = B ∧ W e.1.toNat = true))), (sT X 4 0 c.1.toNat).toNat = B ∧ c ∈ cs := fun c hc => by
        obtain ⟨h1, h2⟩ := List.mem_filter.mp hc
        obtain ⟨e, he, hd⟩ := List.any_eq_true.mp h2
        have hd := (of_decide_eq_true hd).1
        obtain ⟨l, l1, l2, l3, l4⟩ := (k2 c h1).2.1 e he
        have : e.1.toNat = l := by omega
        rw [this] at hd
        unfold ptL at hd
        rw [l3] at hd
        exact ⟨hd, h1⟩
      have g1 : (cs.filter (fun c => c.2.any (fun e => decide (ptL X e.1.toNat = B ∧ W e.1.toNat = true)))).length ≤ cL X (ptL X y) B := by
        rw [e1]
        unfold cL cP
        rw [if_pos hev]
        have hsub : ((cs.filter (fun c => c.2.any (fun e => decide (ptL X e.1.toNat = B ∧ W e.1.toNat = true)))).map Prod.fst).Sublist (sE X 24 (fPc X p / 2)) := (List.filter_sublist.map Prod.fst).trans k1
        have := cnt_sub (g := fun j => (sT X 4 0 j.toNat).toNat) (B := B) hsub (fun x hx => by
          obtain ⟨c, hc, rfl⟩ := List.mem_map.mp hx
          exact (hB c hc).1)
        rw [List.length_map] at this
        exact this
      have g2 : ((cs.filter (fun c => c.2.any (fun e => decide (ptL X e.1.toNat = B ∧ W e.1.toNat = true)))).map (fun c => c.2.length - 1)).sum ≤ bL X B - 1 := by
        rw [nl_len]
        cases hF : cs.filter (fun c => c.2.any (fun e => decide (ptL X e.1.toNat = B ∧ W e.1.toNat = true))) with
        | nil => exact Nat.zero_le _
        | cons c0 rest =>
          have hc0 : c0 ∈ cs.filter (fun c => c.2.any (fun e => decide (ptL X e.1.toNat = B ∧ W e.1.toNat = true))) := by rw [hF]; exact List.mem_cons_self
          obtain ⟨b1, b2⟩ := hB c0 hc0
          obtain ⟨w, w1, w2, w3, -⟩ := k4 c0 b2
          rw [← hF]
          have hsubl : (nlL (cs.filter (fun c => c.2.any (fun e => decide (ptL X e.1.toNat = B ∧ W e.1.toNat = true))))).Sublist (nlL cs) := by
            unfold nlL
            exact flat_sub (List.filter_sublist.map _)
          have hel : ∀ x ∈ nlL (cs.filter (fun c => c.2.any (fun e => decide (ptL X e.1.toNat = B ∧ W e.1.toNat = true)))), ∃ l : Nat, l < sn X 6 ∧ x = (l : Int) ∧ ptL X l = B := fun x hx => by
            obtain ⟨c, hc, e, he, rfl⟩ := nl_mem hx
            obtain ⟨d1, d2⟩ := hB c hc
            obtain ⟨l, l1, l2, l3, l4⟩ := (k2 c d2).2.1 e he
            exact ⟨l, l1, l2, by unfold ptL; rw [l3]; exact d1⟩
          have hnd := k3.sublist hsubl
          have hnd2 : ((nlL (cs.filter (fun c => c.2.any (fun e => decide (ptL X e.1.toNat = B ∧ W e.1.toNat = true))))).map Int.toNat).Nodup := by
            rw [List.nodup_iff_pairwise_ne, List.pairwise_map]
            refine List.Pairwise.imp_of_mem ?_ (List.nodup_iff_pairwise_ne.mp hnd)
            intro a b ha hb hab e
            obtain ⟨l, -, h2, -⟩ := hel a ha
            obtain ⟨m, -, h4, -⟩ := hel b hb
            exact hab (by omega)
          have hlen := nd_len (P := fun x => ptL X x = B) (n := sn X 6) (w := w) hnd2 (fun x hx => by
            obtain ⟨a, ha, rfl⟩ := List.mem_map.mp hx
            obtain ⟨l, h1, h2, h3⟩ := hel a ha
            have : a.toNat = l := by omega
            rw [this]
            exact ⟨h1, h3⟩) w1 (by show ptL X w = B; unfold ptL; rw [w2]; exact b1) (fun hw => by
            obtain ⟨a, ha, haw⟩ := List.mem_map.mp hw
            obtain ⟨l, h1, h2, h3⟩ := hel a ha
            have : a = (w : Int) := by omega
            exact w3 (hsubl.subset (this ▸ ha)))
          rw [List.length_map] at hlen
          unfold bL
          omega
      exact ⟨f, Nat.le_trans f1 g1, by omega, f3⟩
  · -- no more pieces than there are
    have hres := hI.res x hx
    obtain ⟨r1, r2, r3⟩ := hres
    have hav := hI.Av x hx
    have tnn : ∀ o : Nat, o < sn X 8 → (∀ q ∈ fTl X o, 0 ≤ q.2) ∧ ∀ q ∈ fDv X o, 0 ≤ q.2 := fun o ho => by
      have hO := hI.or o ho
      refine ⟨fun q hq => ?_, fun q hq => ?_⟩
      · obtain ⟨t, ht, rfl⟩ := List.mem_map.mp hq
        have h1 := hI.tk.1 (fOL X o) (by have := hO.2.2.2.2.2.1; unfold fOL; omega) t ht
        have h2 := hI.tk.2.2 t.toNat (by omega)
        show 0 ≤ sT X 7 1 t.toNat
        omega
      · obtain ⟨t, ht, rfl⟩ := List.mem_map.mp hq
        have h1 := hI.tk.2.1 (fDelL X o) (by have := hO.2.2.2.2.2.2.1; unfold fDelL; omega) t ht
        have h2 := hI.tk.2.2 t.toNat (by omega)
        show 0 ≤ sT X 7 1 t.toNat
        omega
    have h1 : ns (sn X 6) (fun y => pcL X y x) ≤ ns (sn X 6) (fun y => ns (sn X 8) (fun o => if sT X 8 13 o = (y : Nat) then ((if fPr z X o = true then 0 else pl (fTl X o) x) : Int).toNat else 0)) := by
      refine ns_le (fun y hy => ?_)
      rcases hL y hy with ⟨-, h2⟩ | ⟨-, -, o, ho, h3, h4, h5, h6, h7⟩
      · unfold pcL tlL
        rw [h2]
        exact Nat.zero_le _
      · have g := ns_ge (f := fun o => if sT X 8 13 o = (y : Nat) then ((if fPr z X o = true then 0 else pl (fTl X o) x) : Int).toNat else 0) ho
        rw [if_pos h3, h7, if_neg (by decide)] at g
        have e : pcL X y x = (pl (fTl X o) x).toNat := by
          unfold pcL fTl tlL fOL
          rw [h4]
        rw [e]
        exact g
    rw [ns_swap] at h1
    have h2 : ns (sn X 8) (fun o => ns (sn X 6) (fun y => if sT X 8 13 o = (y : Nat) then ((if fPr z X o = true then 0 else pl (fTl X o) x) : Int).toNat else 0)) ≤ ns (sn X 8) (fun o => ((if fPr z X o = true then 0 else pl (fTl X o) x) + pl (fDv X o) x : Int).toNat) := by
      refine ns_le (fun o ho => ?_)
      obtain ⟨t1, t2⟩ := tnn o ho
      have n1 := pl_nn (l := x) t1
      have n2 := pl_nn (l := x) t2
      by_cases hin : ∃ y : Nat, y < sn X 6 ∧ sT X 8 13 o = (y : Nat)
      · obtain ⟨y, hy, ey⟩ := hin
        have e : ns (sn X 6) (fun y' => if sT X 8 13 o = (y' : Nat) then ((if fPr z X o = true then 0 else pl (fTl X o) x) : Int).toNat else 0) = ns (sn X 6) (fun y' => if y' = y then ((if fPr z X o = true then 0 else pl (fTl X o) x) : Int).toNat else 0) := ns_cg (fun y' _ => by
          by_cases w : y' = y
          · rw [if_pos w, if_pos (by rw [ey, w])]
          · rw [if_neg w, if_neg (by omega)])
        rw [e, ns_one hy]
        split <;> omega
      · have e : ns (sn X 6) (fun y' => if sT X 8 13 o = (y' : Nat) then ((if fPr z X o = true then 0 else pl (fTl X o) x) : Int).toNat else 0) = 0 := (ns_cg (g := fun _ => 0) (fun y' hy' => if_neg (fun w => hin ⟨y', hy', w⟩))).trans (ns_zero _)
        rw [e]; exact Nat.zero_le _
    have h3 := ns_isum (f := fun o => (if fPr z X o = true then 0 else pl (fTl X o) x) + pl (fDv X o) x) (n := sn X 8) (fun o ho => by
      obtain ⟨t1, t2⟩ := tnn o ho
      have n1 := pl_nn (l := x) t1
      have n2 := pl_nn (l := x) t2
      show 0 ≤ (if fPr z X o = true then 0 else pl (fTl X o) x) + pl (fDv X o) x
      split <;> omega)
    unfold qL
    omega
  · -- what a part holds
    have h1 : pS (sn X 6) (ptL X) B (fun _ => true) (qL X) ≤ pS (sn X 6) (ptL X) B (fun _ => true) (fun _ => (if mkL X B = true then 100 else 500) * 1) := pS_le (fun y hy hB _ => by
      obtain ⟨p, hp, e1, e2, e3⟩ := ptL_at hI hy
      have hpB : p = B := by omega
      subst hpB
      have h500 := (hI.lo y hy).2.2.1
      unfold qL mkL
      rcases hL y hy with ⟨g1, -⟩ | ⟨g1, g2, -⟩
      · rw [e1, Int.toNat_natCast] at g1
        rw [if_neg (by rw [decide_eq_false (by omega)]; decide)]; omega
      · rw [e1, Int.toNat_natCast] at g1
        rw [if_pos (decide_eq_true g1)]; omega)
    rw [pS_mul] at h1
    have h2 : pS (sn X 6) (ptL X) B (fun _ => true) (fun _ => 1) = bL X B := by
      unfold pS bL
      exact ns_cg (fun y _ => by
        by_cases e : ptL X y = B
        · rw [if_pos ⟨e, rfl⟩, if_pos e]
        · rw [if_neg (fun w => e w.1), if_neg e])
    rw [h2] at h1
    exact h1
theorem bL_pos {y : Nat} (hy : y < sn X 6) : 1 ≤ bL X (ptL X y) := by
  have g := ns_ge (f := fun l => if ptL X l = ptL X y then 1 else 0) hy
  have e : (if ptL X y = ptL X y then 1 else 0) = 1 := if_pos rfl
  exact Nat.le_trans (Nat.le_of_eq e.symm) g
/-- a tree's nodes: any fuel that is enough -/
theorem tN_fuel {ch : Nat → List Nat} {M : Nat} (hlt : ∀ i : Nat, i < M → ∀ y ∈ ch i, y < i) : ∀ n m i : Nat, i < n → i < m → i < M → tN ch n i = tN ch m i := by
  intro n
  induction n with
  | zero => intro m i h; omega
  | succ n ih =>
    intro m i h1 h2 h3
    cases m with
    | zero => omega
    | succ m =>
      unfold tN
      rw [List.map_congr_left (fun y hy => ih m y (by have := hlt i h3 y hy; omega) (by have := hlt i h3 y hy; omega) (by have := hlt i h3 y hy; omega))]
theorem iAll.chl (hI : iAll z k X) : ∀ i : Nat, i < sn X 6 → ∀ y ∈ fch X i, y < i := by
  intro i hi y hy
  unfold fch at hy
  obtain ⟨t, ht, rfl⟩ := List.mem_map.mp hy
  have h1 := (hI.lo i hi).2.2.2.2.2 t ht
  have h2 := (hI.lo i hi).2.2.2.1
  have h3 := hI.tk.2.2 t.toNat (by have := hI.tk.1 (sT X 6 3 i).toNat (by omega) t ht; omega)
  omega
/-- the nodes of a lot's tree -/
def nT (X : hS) (l : Nat) : Nat := tN (fch X) 100 l
theorem ns_mapsum {n : Nat} {g : Nat → Nat} : ∀ M : List Nat, (∀ x ∈ M, x < n) → (M.map g).sum = ns n (fun x => M.count x * g x)
  | [], _ => by
    refine ((ns_cg (g := fun _ => 0) (fun x _ => ?_)).trans (ns_zero n)).symm
    rw [List.count_nil, Nat.zero_mul]
  | a :: M, h => by
    have ih := ns_mapsum (g := g) M (fun x hx => h x (List.mem_cons_of_mem _ hx))
    have e : ns n (fun x => (a :: M).count x * g x) = ns n (fun x => M.count x * g x) + ns n (fun x => if x = a then g a else 0) := by
      rw [← ns_add]
      refine ns_cg (fun x _ => ?_)
      by_cases hx : x = a
      · subst hx
        rw [if_pos rfl, List.count_cons_self, Nat.add_mul, Nat.one_mul]
      · rw [if_neg hx, List.count_cons_of_ne (fun w => hx w.symm)]
        exact (Nat.add_zero _).symm
    rw [e, ns_one (h a List.mem_cons_self), List.map_cons, List.sum_cons, ih]
    omega
theorem nT_rec (hI : iAll z k X) {y : Nat} (hy : y < sn X 6) : nT X y = 1 + ns (sn X 6) (fun x => eL X y x * nT X x) := by
  have h100 : sn X 6 ≤ 100 := hI.fix.2.2.2.2.2.2.2.2.2.2.1
  have h1 : nT X y = 1 + ((fch X y).map (tN (fch X) 99)).sum := rfl
  have h2 : (fch X y).map (tN (fch X) 99) = (fch X y).map (nT X) := List.map_congr_left (fun x hx => by
    have := hI.chl y hy x hx
    exact tN_fuel (M := sn X 6) hI.chl 99 100 x (by omega) (by omega) (by omega))
  rw [h1, h2, ns_mapsum _ (hI.chlt y hy)]
  rfl
end ZSI
