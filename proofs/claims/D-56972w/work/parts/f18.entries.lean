/-! THE ROOM: a lot's entries on a part: one a component, and one for each lot gone beyond -/
set_option maxRecDepth 100000
section ZF18
theorem oWhole {pt g : Int → Nat} {B : Nat} : ∀ (cs : List (Int × List (Int × Int))), oOk cs → (∀ c ∈ cs, c.2 ≠ [] ∧ ∀ e ∈ c.2, pt e.1 = g c.1) →
    ∃ (nl : List Int) (f : Nat), nl.Nodup ∧ (∀ a ∈ nl, a ∈ (cs.map Prod.snd).flatten.map Prod.fst ∧ pt a = B ∧ ∃ b ∈ (cs.map Prod.snd).flatten.map Prod.fst, pt b = B ∧ a < b) ∧ f ≤ ((cs.map Prod.fst).map g).count B ∧ ((cs.map Prod.snd).flatten.map (fun e => if pt e.1 = B then 1 else 0)).sum = nl.length + f
  | [], _, _ => ⟨[], 0, List.nodup_nil, fun a ha => absurd ha List.not_mem_nil, Nat.zero_le _, rfl⟩
  | c :: cs, ⟨o1, o2⟩, hc => by
    obtain ⟨hne, hcp⟩ := hc c List.mem_cons_self
    have hpw := o1 c List.mem_cons_self
    rw [List.pairwise_cons] at o2
    obtain ⟨nl, f, g1, g2, g3, g4⟩ := oWhole (B := B) cs ⟨fun d hd => o1 d (List.mem_cons_of_mem _ hd), o2.2⟩ (fun d hd => hc d (List.mem_cons_of_mem _ hd))
    have hs := sumB (B := B) c.2 hcp
    rw [List.map_cons, List.flatten_cons]
    have up : ∀ a ∈ (cs.map Prod.snd).flatten.map Prod.fst, a ∈ (c.2 ++ (cs.map Prod.snd).flatten).map Prod.fst := fun a ha => by
      rw [List.map_append]
      exact List.mem_append.mpr (Or.inr ha)
    have hcnt : ((((c :: cs).map Prod.fst).map g).count B) = ((cs.map Prod.fst).map g).count B + (if g c.1 = B then 1 else 0) := by
      rw [List.map_cons, List.map_cons, List.count_cons]
      by_cases h : g c.1 = B
      · rw [if_pos h, if_pos (beq_iff_eq.mpr h)]
      · rw [if_neg h, if_neg (fun w => h (beq_iff_eq.mp w))]
    by_cases hB : g c.1 = B
    · rw [if_pos hB] at hs hcnt
      have hd : (c.2.map Prod.fst).Nodup := hpw.imp (fun h => by omega)
      have hlast := List.getLast_mem hne
      refine ⟨(c.2.dropLast).map Prod.fst ++ nl, f + 1, ?_, fun a ha => ?_, by omega, ?_⟩
      · rw [List.nodup_append]
        refine ⟨hd.sublist ((List.dropLast_sublist _).map _), g1, fun a ha b hb e => ?_⟩
        obtain ⟨en, hen, h1⟩ := List.mem_map.mp (g2 b hb).1
        obtain ⟨L, hL, heL⟩ := List.mem_flatten.mp hen
        obtain ⟨d, hd2, rfl⟩ := List.mem_map.mp hL
        exact o2.1 d hd2 a ha (List.mem_map.mpr ⟨en, heL, by rw [h1, e]⟩)
      · rcases List.mem_append.mp ha with h | h
        · obtain ⟨e, he, rfl⟩ := List.mem_map.mp h
          have hem := (List.dropLast_sublist c.2).subset he
          refine ⟨by rw [List.map_append]; exact List.mem_append.mpr (Or.inl (List.mem_map_of_mem hem)), by rw [hcp e hem]; exact hB, (c.2.getLast hne).1, by rw [List.map_append]; exact List.mem_append.mpr (Or.inl (List.mem_map_of_mem hlast)), by rw [hcp _ hlast]; exact hB, ?_⟩
          have hp := hpw
          rw [← List.dropLast_concat_getLast hne, List.map_append, List.map_cons, List.map_nil, List.pairwise_append] at hp
          exact hp.2.2 _ h _ (List.mem_singleton.mpr rfl)
        · obtain ⟨h1, h2, b, h3, h4⟩ := g2 a h
          exact ⟨up a h1, h2, b, up b h3, h4⟩
      · rw [List.map_append, List.sum_append, hs, g4, List.length_append, List.length_map, List.length_dropLast]
        have : 0 < c.2.length := List.length_pos_iff.mpr hne
        omega
    · rw [if_neg hB] at hs hcnt
      refine ⟨nl, f, g1, fun a ha => ?_, by omega, ?_⟩
      · obtain ⟨h1, h2, b, h3, h4⟩ := g2 a ha
        exact ⟨up a h1, h2, b, up b h3, h4⟩
      · rw [List.map_append, List.sum_append, hs, g4]; omega
variable {z : Nat → Nat} {k : Nat} {X : hS}
/-- lots of part B that order o has gone beyond -/
def trB (X : hS) (o B : Nat) : Nat := ns (sn X 6) (fun l => if ptL X l = B ∧ t26 X o l = true then 1 else 0)
/-- a made lot's entries on a part -/
theorem ent_tr (hI : iAll z k X) (hL : iLt z X) (hC : iCk X) {y : Nat} (hy : y < sn X 6) (B : Nat) :
    pS (sn X 6) (ptL X) B (fun _ => true) (eL X y) = 0 ∨ ∃ o : Nat, o < sn X 8 ∧ sT X 8 13 o = (y : Nat) ∧ pS (sn X 6) (ptL X) B (fun _ => true) (eL X y) ≤ cL X (ptL X y) B + trB X o B := by
  obtain ⟨c1, c2⟩ := ch_ts (y := y) hI hy
  have s1 : pS (sn X 6) (ptL X) B (fun _ => true) (eL X y) = ((tlL X (sT X 6 3 y).toNat).map (fun e => if ptL X e.1.toNat = B then 1 else 0)).sum := by
    have := ns_cnt (P := fun x => ptL X x = B ∧ (fun _ => true) x = true) (n := sn X 6) (fch X y) (hI.chlt y hy)
    unfold pS eL
    refine this.trans ?_
    rw [c1, List.map_map]
    congr 1
    refine List.map_congr_left (fun e _ => ?_)
    show (if ptL X e.1.toNat = B ∧ true = true then 1 else 0) = _
    by_cases h : ptL X e.1.toNat = B
    · rw [if_pos ⟨h, rfl⟩, if_pos h]
    · rw [if_neg (fun w => h w.1), if_neg h]
  by_cases hne : tlL X (sT X 6 3 y).toNat = []
  · left
    rw [s1, hne]; rfl
  · right
    obtain ⟨p, o, cs, hp, e1, hev, ho, h13, hq, hol, hfl, k1, k2, k3, k4, k5⟩ := lot_cs hI hL hC hy hne
    refine ⟨o, ho, h13, ?_⟩
    have hin : ∀ c ∈ cs, c.2 ≠ [] ∧ ∀ e ∈ c.2, ptL X e.1.toNat = (sT X 4 0 c.1.toNat).toNat := fun c hc => by
      obtain ⟨q1, q2, -⟩ := k2 c hc
      refine ⟨q1, fun e he => ?_⟩
      obtain ⟨l, l1, l2, l3, l4⟩ := q2 e he
      have : e.1.toNat = l := by omega
      rw [this]
      unfold ptL
      rw [l3]
    obtain ⟨nl, f, g1, g2, g3, g4⟩ := oWhole (pt := fun a => ptL X a.toNat) (g := fun j => (sT X 4 0 j.toNat).toNat) (B := B) cs k5 hin
    rw [hfl] at g2 g4
    rw [s1]
    have hf : f ≤ cL X (ptL X y) B := by
      refine Nat.le_trans g3 ?_
      rw [e1]
      unfold cL cP
      rw [if_pos hev]
      exact (k1.map _).count_le B
    have hTl : fTl X o = tlL X (sT X 6 3 y).toNat := by
      unfold fTl tlL
      rw [hol]
    have hnn : ∀ a ∈ (tlL X (sT X 6 3 y).toNat).map Prod.fst, 0 ≤ a ∧ a.toNat < sn X 6 ∧ a.toNat ∈ ofs (fTl X o) := fun a ha => by
      obtain ⟨e, he, rfl⟩ := List.mem_map.mp ha
      have := c2 e he
      refine ⟨this.1, by omega, ?_⟩
      rw [hTl]
      exact List.mem_map.mpr ⟨e, he, rfl⟩
    have hnd : (nl.map Int.toNat).Nodup := by
      rw [List.nodup_iff_pairwise_ne, List.pairwise_map]
      refine List.Pairwise.imp_of_mem ?_ (List.nodup_iff_pairwise_ne.mp g1)
      intro a b ha hb hab e
      have h1 := (hnn a (g2 a ha).1).1
      have h2 := (hnn b (g2 b hb).1).1
      exact hab (by omega)
    have hm := ns_mem (n := sn X 6) (P := fun l => ptL X l = B ∧ t26 X o l = true) (f := fun _ => 1) hnd (fun a ha => by
      obtain ⟨a', ha', rfl⟩ := List.mem_map.mp ha
      obtain ⟨h1, h2, b, h3, h4, h5⟩ := g2 a' ha'
      obtain ⟨p1, p2, p3⟩ := hnn a' h1
      obtain ⟨r1, r2, r3⟩ := hnn b h3
      refine ⟨p2, h2, ?_⟩
      unfold t26
      rw [Bool.and_eq_true, List.any_eq_true]
      exact ⟨List.contains_iff_mem.mpr p3, b.toNat, r3, decide_eq_true ⟨by omega, by rw [h4]; exact h2.symm⟩⟩)
    have hlen : ∀ M : List Nat, (M.map (fun _ => 1)).sum = M.length := by
      intro M
      induction M with
      | nil => rfl
      | cons m M ih => rw [List.map_cons, List.sum_cons, ih, List.length_cons]; omega
    rw [hlen, List.length_map] at hm
    have g4 : ((tlL X (sT X 6 3 y).toNat).map (fun e => if ptL X e.1.toNat = B then 1 else 0)).sum = nl.length + f := g4
    unfold trB
    omega
end ZF18
