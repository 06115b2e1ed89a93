/-! THE ROOM: the lots that are walked before one is found, as a structure of flows -/
set_option maxRecDepth 100000
section ZE16
theorem sumB {pt : Int → Nat} {b B : Nat} : ∀ L : List (Int × Int), (∀ e ∈ L, pt e.1 = b) → (L.map (fun e => if pt e.1 = B then 1 else 0)).sum = if b = B then L.length else 0
  | [], _ => by split <;> rfl
  | a :: L, h => by
    rw [List.map_cons, List.sum_cons, sumB L (fun e he => h e (List.mem_cons_of_mem _ he)), h a List.mem_cons_self, List.length_cons]
    split <;> omega
/-- the first entries of a list that is cut by components -/
theorem oPre {pt g : Int → Nat} {B : Nat} : ∀ (cs : List (Int × List (Int × Int))) (P : List (Int × Int)), oOk cs → (∀ c ∈ cs, c.2 ≠ [] ∧ ∀ e ∈ c.2, pt e.1 = g c.1) → P <+: (cs.map Prod.snd).flatten →
    ∃ (nl : List Int) (f : Nat), nl.Nodup ∧ (∀ a ∈ nl, a ∈ P.map Prod.fst ∧ pt a = B) ∧ f ≤ ((cs.map Prod.fst).map g).count B ∧ (P.map (fun e => if pt e.1 = B then 1 else 0)).sum = nl.length + f ∧ (0 < nl.length + f → ∃ w ∈ P.map Prod.fst, pt w = B ∧ w ∉ nl)
  | [], P, _, _, hP => by
    have : P = [] := List.prefix_nil.mp hP
    subst this
    exact ⟨[], 0, List.nodup_nil, fun a ha => absurd ha List.not_mem_nil, Nat.zero_le _, rfl, fun h => absurd h (Nat.lt_irrefl 0)⟩
  | c :: cs, P, ⟨o1, o2⟩, hc, hP => by
    rw [List.map_cons, List.flatten_cons] at hP
    obtain ⟨hne, hcp⟩ := hc c List.mem_cons_self
    have hpw := o1 c List.mem_cons_self
    have hcnt : ((((c :: cs).map Prod.fst).map g).count B) = ((cs.map Prod.fst).map g).count B + (if g c.1 = B then 1 else 0) := by
      rw [List.map_cons, List.map_cons, List.count_cons]
      by_cases h : g c.1 = B
      · rw [if_pos h, if_pos (beq_iff_eq.mpr h)]
      · rw [if_neg h, if_neg (fun w => h (beq_iff_eq.mp w))]
    have last : ∀ L : List (Int × Int), L ≠ [] → (L.map Prod.fst).Pairwise (· < ·) → ((L.dropLast).map Prod.fst).Nodup ∧ (∀ h : L ≠ [], (L.getLast h).1 ∉ (L.dropLast).map Prod.fst) ∧ L.length = ((L.dropLast).map Prod.fst).length + 1 := fun L hL hp => by
      have hd : (L.map Prod.fst).Nodup := hp.imp (fun h => by omega)
      refine ⟨hd.sublist ((List.dropLast_sublist L).map _), fun h w => ?_, ?_⟩
      · rw [← List.dropLast_concat_getLast h, List.map_append, List.map_cons, List.map_nil, List.pairwise_append] at hp
        have := hp.2.2 _ w _ (List.mem_singleton.mpr rfl)
        omega
      · rw [List.length_map, List.length_dropLast]
        have : 0 < L.length := List.length_pos_iff.mpr hL
        omega
    by_cases hlen : P.length ≤ c.2.length
    · have h1 : P <+: c.2 := List.prefix_of_prefix_length_le hP (List.prefix_append _ _) hlen
      have hall : ∀ e ∈ P, pt e.1 = g c.1 := fun e he => hcp e (h1.subset he)
      have hs := sumB (B := B) P hall
      by_cases hB : g c.1 = B
      · rw [if_pos hB] at hs hcnt
        by_cases hP0 : P = []
        · subst hP0
          exact ⟨[], 0, List.nodup_nil, fun a ha => absurd ha List.not_mem_nil, Nat.zero_le _, rfl, fun h => absurd h (Nat.lt_irrefl 0)⟩
        · obtain ⟨l1, l2, l3⟩ := last P hP0 (hpw.sublist (h1.sublist.map _))
          refine ⟨(P.dropLast).map Prod.fst, 1, l1, fun a ha => ?_, by omega, by rw [hs]; exact l3, fun _ => ⟨(P.getLast hP0).1, List.mem_map_of_mem (List.getLast_mem hP0), by rw [hall _ (List.getLast_mem hP0)]; exact hB, l2 hP0⟩⟩
          obtain ⟨e, he, rfl⟩ := List.mem_map.mp ha
          have := (List.dropLast_sublist P).subset he
          exact ⟨List.mem_map_of_mem this, by rw [hall e this]; exact hB⟩
      · rw [if_neg hB] at hs
        exact ⟨[], 0, List.nodup_nil, fun a ha => absurd ha List.not_mem_nil, Nat.zero_le _, hs, fun h => absurd h (Nat.lt_irrefl 0)⟩
    · have h1 : c.2 <+: P := List.prefix_of_prefix_length_le (List.prefix_append _ _) hP (by omega)
      obtain ⟨P2, rfl⟩ := h1
      have hP2 : P2 <+: (cs.map Prod.snd).flatten := (List.prefix_append_right_inj _).mp hP
      rw [List.pairwise_cons] at o2
      obtain ⟨nl, f, g1, g2, g3, g4, g5⟩ := oPre (B := B) cs P2 ⟨fun d hd => o1 d (List.mem_cons_of_mem _ hd), o2.2⟩ (fun d hd => hc d (List.mem_cons_of_mem _ hd)) hP2
      have hs := sumB (B := B) c.2 hcp
      have hin : ∀ a ∈ P2.map Prod.fst, a ∉ (c.2.dropLast).map Prod.fst := fun a ha w => by
        obtain ⟨e, he, rfl⟩ := List.mem_map.mp ha
        obtain ⟨L, hL, heL⟩ := List.mem_flatten.mp (hP2.subset he)
        obtain ⟨d, hd, rfl⟩ := List.mem_map.mp hL
        exact o2.1 d hd _ w (List.mem_map_of_mem heL)
      by_cases hB : g c.1 = B
      · rw [if_pos hB] at hs hcnt
        obtain ⟨l1, l2, l3⟩ := last c.2 hne hpw
        refine ⟨(c.2.dropLast).map Prod.fst ++ nl, f + 1, ?_, fun a ha => ?_, by omega, ?_, fun _ => ?_⟩
        · rw [List.nodup_append]
          exact ⟨l1, g1, fun a ha b hb e => hin b (g2 b hb).1 (e ▸ ha)⟩
        · rw [List.map_append]
          rcases List.mem_append.mp ha with h | h
          · obtain ⟨e, he, rfl⟩ := List.mem_map.mp h
            have := (List.dropLast_sublist c.2).subset he
            exact ⟨List.mem_append.mpr (Or.inl (List.mem_map_of_mem this)), by rw [hcp e this]; exact hB⟩
          · exact ⟨List.mem_append.mpr (Or.inr (g2 a h).1), (g2 a h).2⟩
        · rw [List.map_append, List.sum_append, hs, g4, List.length_append]
          omega
        · by_cases h0 : 0 < nl.length + f
          · obtain ⟨w, w1, w2, w3⟩ := g5 h0
            refine ⟨w, by rw [List.map_append]; exact List.mem_append.mpr (Or.inr w1), w2, fun h => ?_⟩
            rcases List.mem_append.mp h with h | h
            · exact hin w w1 h
            · exact w3 h
          · have hn0 : nl = [] := List.length_eq_zero_iff.mp (by omega)
            subst hn0
            rw [List.append_nil]
            exact ⟨(c.2.getLast hne).1, by rw [List.map_append]; exact List.mem_append.mpr (Or.inl (List.mem_map_of_mem (List.getLast_mem hne))), by rw [hcp _ (List.getLast_mem hne)]; exact hB, l2 hne⟩
      · rw [if_neg hB] at hs hcnt
        refine ⟨nl, f, g1, fun a ha => ⟨by rw [List.map_append]; exact List.mem_append.mpr (Or.inr (g2 a ha).1), (g2 a ha).2⟩, by omega, ?_, fun h => ?_⟩
        · rw [List.map_append, List.sum_append, hs, g4]; omega
        · obtain ⟨w, w1, w2, w3⟩ := g5 h
          exact ⟨w, by rw [List.map_append]; exact List.mem_append.mpr (Or.inr w1), w2, w3⟩
theorem ns_uniq {f : Nat → Nat} : ∀ {n : Nat}, (∀ i : Nat, i < n → f i ≤ 1) → (∀ i j : Nat, i < n → j < n → 0 < f i → 0 < f j → i = j) → ns n f ≤ 1
  | 0, _, _ => Nat.zero_le _
  | n + 1, h1, h2 => by
    have ih := ns_uniq (n := n) (fun i hi => h1 i (by omega)) (fun i j hi hj => h2 i j (by omega) (by omega))
    have hn := h1 n (by omega)
    show ns n f + f n ≤ 1
    by_cases h : 0 < f n
    · have : ns n f = ns n (fun _ => 0) := ns_cg (fun i hi => by
        by_cases h0 : 0 < f i
        · have := h2 i n (by omega) (by omega) h0 h
          omega
        · omega)
      rw [this, ns_zero]; omega
    · omega
variable {z : Nat → Nat} {k : Nat} {X : hS} {x r : Nat}
/-- an entry has a piece at least -/
theorem eL_pcL (hI : iAll z k X) {y l : Nat} (hy : y < sn X 6) : eL X y l ≤ pcL X y l := by
  obtain ⟨c1, c2⟩ := ch_ts (y := y) hI hy
  unfold eL pcL
  rw [c1]
  generalize tlL X (sT X 6 3 y).toNat = L at c2
  have key : ∀ L : List (Int × Int), (∀ e ∈ L, 0 ≤ e.1 ∧ e.1 < (sn X 6 : Nat) ∧ 1 ≤ e.2) → (((L.map (fun e => e.1.toNat)).count l : Nat) : Int) ≤ pl L l := by
    intro L
    induction L with
    | nil => intro _; rw [pl_nil]; exact Int.le_refl _
    | cons a L ih =>
      intro h
      have ha := h a List.mem_cons_self
      have := ih (fun e he => h e (List.mem_cons_of_mem _ he))
      rw [pl_cons, List.map_cons, List.count_cons]
      by_cases e : a.1 = (l : Int)
      · rw [if_pos e, if_pos (beq_iff_eq.mpr (by omega))]; omega
      · rw [if_neg e, if_neg (fun w => e (by have := beq_iff_eq.mp w; omega))]; omega
  have := key L c2
  omega
theorem pcL_zero (hI : iAll z k X) {y l : Nat} (hy : y < sn X 6) (h : l ∉ fch X y) : pcL X y l = 0 := by
  obtain ⟨c1, c2⟩ := ch_ts (y := y) hI hy
  unfold pcL
  rw [c1] at h
  generalize tlL X (sT X 6 3 y).toNat = L at c2 h
  have key : ∀ L : List (Int × Int), (∀ e ∈ L, 0 ≤ e.1) → l ∉ L.map (fun e => e.1.toNat) → pl L l = 0 := by
    intro L
    induction L with
    | nil => intro _ _; exact pl_nil
    | cons a L ih =>
      intro h h2
      rw [List.map_cons, List.mem_cons, not_or] at h2
      have ha := h a List.mem_cons_self
      rw [pl_cons, if_neg (fun w => h2.1 (by omega)), ih (fun e he => h e (List.mem_cons_of_mem _ he)) h2.2]
      rfl
  rw [key L (fun e he => (c2 e he).1) h]
  rfl
theorem capK_le {Kf : Nat → Bool} (hI : iAll z k X) (hL : iLt z X) (B : Nat) : pS (sn X 6) (ptK X Kf) B (fun _ => true) (qL X) ≤ capKx X Kf B := by
  unfold capKx
  by_cases hB : B < np X
  · rw [if_pos hB, pS_K hB]
    have h1 : pS (sn X 6) (ptL X) B (fun x => true && Kf x) (qL X) ≤ pS (sn X 6) (ptL X) B (fun x => true && Kf x) (fun _ => (if mkL X B = true then 100 else 500) * 1) := pS_le (fun y hy hB _ => by
      obtain ⟨p, hp, e1, e2, e3⟩ := ptL_at hI hy
      have hpB : p = B := by omega
      subst hpB
      have h500 := (hI.lo y hy).2.2.1
      unfold qL mkL
      rcases hL y hy with ⟨g1, -⟩ | ⟨g1, g2, -⟩
      · rw [e1, Int.toNat_natCast] at g1
        rw [if_neg (by rw [decide_eq_false (by omega)]; decide)]; omega
      · rw [e1, Int.toNat_natCast] at g1
        rw [if_pos (decide_eq_true g1)]; omega)
    rw [pS_mul] at h1
    have h2 : pS (sn X 6) (ptL X) B (fun x => true && Kf x) (fun _ => 1) = bK X Kf B := by
      unfold pS bK
      exact ns_cg (fun y _ => by
        show (if ptL X y = B ∧ (true && Kf y) = true then 1 else 0) = _
        rw [Bool.true_and])
    rw [h2] at h1
    exact h1
  · rw [if_neg hB]
    unfold pS
    refine ns_le (fun y _ => ?_)
    split
    · exact Nat.le_refl _
    · exact Nat.zero_le _
end ZE16
