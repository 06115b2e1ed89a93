/-! THE ROOM: the lots of a closed set as a structure of flows -/
set_option maxRecDepth 100000
/-- a part's lots in a set -/
def bK (X : hS) (Kf : Nat → Bool) (B : Nat) : Nat := ns (sn X 6) (fun l => if ptL X l = B ∧ Kf l = true then 1 else 0)
section ZE11
variable {z : Nat → Nat} {k : Nat} {X : hS} {Kf : Nat → Bool}
theorem flX2 (hI : iAll z k X) (hL : iLt z X) (hC : iCk X) {y : Nat} (B : Nat) (W : Nat → Bool) (hy : y < sn X 6) (hK : ∀ l ∈ fch X y, Kf l = true) :
    ∃ f : Nat, f ≤ cL X (ptL X y) B ∧ pS (sn X 6) (ptL X) B W (eL X y) ≤ (bK X Kf B - 1) + f ∧ f * qL X y ≤ pS (sn X 6) (ptL X) B W (pcL X y) := by
  obtain ⟨c1, c2⟩ := ch_ts (y := y) hI hy
  have s1 : pS (sn X 6) (ptL X) B W (eL X y) = ((tlL X (sT X 6 3 y).toNat).map (fun e => if ptL X e.1.toNat = B ∧ W e.1.toNat = true then 1 else 0)).sum := by
    have := ns_cnt (P := fun x => ptL X x = B ∧ W x = true) (n := sn X 6) (fch X y) (hI.chlt y hy)
    rw [c1, List.map_map] at this
    unfold pS eL
    rw [c1]
    exact this
  have s2 : pS (sn X 6) (ptL X) B W (pcL X y) = ((tlL X (sT X 6 3 y).toNat).map (fun e => if ptL X e.1.toNat = B ∧ W e.1.toNat = true then e.2.toNat else 0)).sum :=
    ns_pcs (P := fun x => ptL X x = B ∧ W x = true) (n := sn X 6) _ (fun e he => by
      have := c2 e he
      exact ⟨this.1, this.2.1, by omega⟩)
  rw [s1, s2]
  by_cases hne : tlL X (sT X 6 3 y).toNat = []
  · rw [hne]
    exact ⟨0, Nat.zero_le _, Nat.zero_le _, by rw [Nat.zero_mul]; exact Nat.zero_le _⟩
  · obtain ⟨p, o, cs, hp, e1, hev, ho, h13, hq, hol, hfl, k1, k2, k3, k4, -⟩ := lot_cs hI hL hC hy hne
    have hkk : ∀ l : Nat, (∃ c ∈ cs, ∃ e ∈ c.2, e.1 = (l : Int)) → Kf l = true := fun l ⟨c, hc, e, he, el⟩ => by
      refine hK l ?_
      rw [c1, ← hfl]
      exact List.mem_map.mpr ⟨e, List.mem_flatten.mpr ⟨c.2, List.mem_map_of_mem hc, he⟩, by rw [el]; rfl⟩
    have hqn : (qL X y : Int) = sT X 6 2 y := by
      have := (hI.lo y hy).2.2.1
      unfold qL; omega
    obtain ⟨f, f1, f2, f3⟩ := cs_cnt (P := fun a : Int => ptL X a.toNat = B ∧ W a.toNat = true) (Q := qL X y) cs (fun c hc => by
      obtain ⟨q1, q2, q3⟩ := k2 c hc
      refine ⟨q1, by omega, fun e he => ?_⟩
      obtain ⟨l, -, -, -, l4⟩ := q2 e he
      omega)
    rw [hfl] at f2 f3
    -- the components that matter have part B
    have hB : ∀ c ∈ cs.filter (fun c => c.2.any (fun e => decide (ptL X e.1.toNat = B ∧ W e.1.toNat = true))), (sT X 4 0 c.1.toNat).toNat = B ∧ c ∈ cs := fun c hc => by
      obtain ⟨h1, h2⟩ := List.mem_filter.mp hc
      obtain ⟨e, he, hd⟩ := List.any_eq_true.mp h2
      have hd := (of_decide_eq_true hd).1
      obtain ⟨l, l1, l2, l3, l4⟩ := (k2 c h1).2.1 e he
      have : e.1.toNat = l := by omega
      rw [this] at hd
      unfold ptL at hd
      rw [l3] at hd
      exact ⟨hd, h1⟩
    have g1 : (cs.filter (fun c => c.2.any (fun e => decide (ptL X e.1.toNat = B ∧ W e.1.toNat = true)))).length ≤ cL X (ptL X y) B := by
      rw [e1]
      unfold cL cP
      rw [if_pos hev]
      have hsub : ((cs.filter (fun c => c.2.any (fun e => decide (ptL X e.1.toNat = B ∧ W e.1.toNat = true)))).map Prod.fst).Sublist (sE X 24 (fPc X p / 2)) := (List.filter_sublist.map Prod.fst).trans k1
      have := cnt_sub (g := fun j => (sT X 4 0 j.toNat).toNat) (B := B) hsub (fun x hx => by
        obtain ⟨c, hc, rfl⟩ := List.mem_map.mp hx
        exact (hB c hc).1)
      rw [List.length_map] at this
      exact this
    have g2 : ((cs.filter (fun c => c.2.any (fun e => decide (ptL X e.1.toNat = B ∧ W e.1.toNat = true)))).map (fun c => c.2.length - 1)).sum ≤ bK X Kf B - 1 := by
      rw [nl_len]
      cases hF : cs.filter (fun c => c.2.any (fun e => decide (ptL X e.1.toNat = B ∧ W e.1.toNat = true))) with
      | nil => exact Nat.zero_le _
      | cons c0 rest =>
        have hc0 : c0 ∈ cs.filter (fun c => c.2.any (fun e => decide (ptL X e.1.toNat = B ∧ W e.1.toNat = true))) := by rw [hF]; exact List.mem_cons_self
        obtain ⟨b1, b2⟩ := hB c0 hc0
        obtain ⟨w, w1, w2, w3, d, d1, e0, d2, d3⟩ := k4 c0 b2
        rw [← hF]
        have hsubl : (nlL (cs.filter (fun c => c.2.any (fun e => decide (ptL X e.1.toNat = B ∧ W e.1.toNat = true))))).Sublist (nlL cs) := by
          unfold nlL
          exact flat_sub (List.filter_sublist.map _)
        have hel : ∀ x ∈ nlL (cs.filter (fun c => c.2.any (fun e => decide (ptL X e.1.toNat = B ∧ W e.1.toNat = true)))), ∃ l : Nat, l < sn X 6 ∧ x = (l : Int) ∧ ptL X l = B ∧ Kf l = true := fun x hx => by
          obtain ⟨c, hc, e, he, rfl⟩ := nl_mem hx
          obtain ⟨d1, d2⟩ := hB c hc
          obtain ⟨l, l1, l2, l3, l4⟩ := (k2 c d2).2.1 e he
          exact ⟨l, l1, l2, by unfold ptL; rw [l3]; exact d1, hkk l ⟨c, d2, e, he, l2⟩⟩
        have hnd := k3.sublist hsubl
        have hnd2 : ((nlL (cs.filter (fun c => c.2.any (fun e => decide (ptL X e.1.toNat = B ∧ W e.1.toNat = true))))).map Int.toNat).Nodup := by
          rw [List.nodup_iff_pairwise_ne, List.pairwise_map]
          refine List.Pairwise.imp_of_mem ?_ (List.nodup_iff_pairwise_ne.mp hnd)
          intro a b ha hb hab e
          obtain ⟨l, -, h2, -, -⟩ := hel a ha
          obtain ⟨m, -, h4, -, -⟩ := hel b hb
          exact hab (by omega)
        have hlen := nd_len (P := fun x => ptL X x = B ∧ Kf x = true) (n := sn X 6) (w := w) hnd2 (fun x hx => by
          obtain ⟨a, ha, rfl⟩ := List.mem_map.mp hx
          obtain ⟨l, h1, h2, h3, h5⟩ := hel a ha
          have : a.toNat = l := by omega
          rw [this]
          exact ⟨h1, h3, h5⟩) w1 ⟨by show ptL X w = B; unfold ptL; rw [w2]; exact b1, hkk w ⟨d, d1, e0, d2, d3⟩⟩ (fun hw => by
          obtain ⟨a, ha, haw⟩ := List.mem_map.mp hw
          obtain ⟨l, h1, h2, h3, h5⟩ := hel a ha
          have : a = (w : Int) := by omega
          exact w3 (hsubl.subset (this ▸ ha)))
        rw [List.length_map] at hlen
        unfold bK
        omega
    exact ⟨f, Nat.le_trans f1 g1, by omega, f3⟩
end ZE11
