/-! THE USER'S HEAP: a new queue -/
set_option maxRecDepth 100000
section ZQA
variable {g : zG} {w0 : hG} {σ : zS} {gh gh' : Nat → Nat → Nat} {S S' : hS} {J : zw_W} {c i a k kd d pc idx idx2 k0 : Nat} {lv : zp_L} {st : List Value} {Q : Option Value ⊕ String → zS → Prop}
theorem hRep.allocQ (H : hRep g w0 σ gh S J) {m : Nat} :
    hRep g w0 (zw_up (zw_up σ.1 (σ.2.1 + 1) (wArr 11 (fun _ => none))) σ.2.1 (.inr (18, [.ref (σ.2.1 + 1), iv 0, .null, iv 0])), σ.2.1 + 2, m) (ghw gh S 45 σ.2.1) (snw S 45 []) J := by
  obtain ⟨h1, h2, h3, h4, h5, h6, own, ar, fa, h7, h8, h9, hA, hB, hC⟩ := H
  have hg : ∀ c' i' : Nat, i' < sn S c' → ghw gh S 45 σ.2.1 c' i' = gh c' i' := by
    intro c' i' hi'
    unfold ghw
    rw [if_neg]
    rintro ⟨rfl, e⟩
    omega
  have hT : ∀ c' k' i' : Nat, i' < sn S c' → sT (snw S 45 []) c' k' i' = sT S c' k' i' := by
    intro c' k' i' hi'
    rw [sT_w, if_neg]
    rintro ⟨rfl, e⟩
    omega
  have hE : ∀ c' i' : Nat, i' < sn S c' → sE (snw S 45 []) c' i' = sE S c' i' := by
    intro c' i' hi'
    rw [sE_w, if_neg]
    rintro ⟨rfl, e⟩
    omega
  have hM : ∀ c' i' : Nat, i' < sn S c' → sM (snw S 45 []) c' i' = sM S c' i' := by
    intro c' i' hi'
    rw [sM_w, if_neg]
    rintro ⟨rfl, e⟩
    omega
  have hN : ∀ c' i' : Nat, i' < sn (snw S 45 []) c' → i' < sn S c' ∨ (c' = 45 ∧ i' = sn S 45) := by
    intro c' i' hi'
    rw [sn_w] at hi'
    by_cases e : c' = 45
    · rw [if_pos e] at hi'
      by_cases e2 : i' = sn S 45
      · exact Or.inr ⟨e, e2⟩
      · exact Or.inl (by rw [e]; omega)
    · rw [if_neg e] at hi'
      exact Or.inl hi'
  have hno : own σ.2.1 = none := by
    cases ho : own σ.2.1 with
    | none => rfl
    | some l =>
      obtain ⟨t, c', i'⟩ := l
      have := (h7 _ _ _ _ ho).2.1
      omega
  have hno1 : own (σ.2.1 + 1) = none := by
    cases ho : own (σ.2.1 + 1) with
    | none => rfl
    | some l =>
      obtain ⟨t, c', i'⟩ := l
      have := (h7 _ _ _ _ ho).2.1
      omega
  obtain ⟨own', ho1⟩ : ∃ own' : Nat → Option (Nat × Nat × Nat), ∀ b : Nat, own' b = if b = σ.2.1 then some (0, 45, sn S 45) else if b = σ.2.1 + 1 then some (1, 45, sn S 45) else own b := ⟨_, fun _ => rfl⟩
  obtain ⟨ar', ha1⟩ : ∃ ar' : Nat → Nat → Nat × Nat, ∀ c' i' : Nat, ar' c' i' = if c' = 45 ∧ i' = sn S 45 then (σ.2.1 + 1, 11) else ar c' i' := ⟨_, fun _ _ => rfl⟩
  obtain ⟨fa', hf1⟩ : ∃ fa' : Nat → Nat → Nat → Option Nat, ∀ c' i' : Nat, fa' c' i' = if c' = 45 ∧ i' = sn S 45 then (fun _ => none) else fa c' i' := ⟨_, fun _ _ => rfl⟩
  have hown : ∀ b : Nat, own b ≠ none → own' b = own b := by
    intro b hb
    rw [ho1, if_neg, if_neg]
    · rintro rfl
      exact hb hno1
    · rintro rfl
      exact hb hno
  have har : ∀ c' i' : Nat, i' < sn S c' → ar' c' i' = ar c' i' := by
    intro c' i' hi'
    rw [ha1, if_neg]
    rintro ⟨rfl, e⟩
    omega
  have har0 : ar' 45 (sn S 45) = (σ.2.1 + 1, 11) := by rw [ha1, if_pos ⟨rfl, rfl⟩]
  have hfa : ∀ c' i' : Nat, i' < sn S c' → fa' c' i' = fa c' i' := by
    intro c' i' hi'
    rw [hf1, if_neg]
    rintro ⟨rfl, e⟩
    omega
  have hfa0 : fa' 45 (sn S 45) = fun _ => none := by rw [hf1, if_pos ⟨rfl, rfl⟩]
  refine ⟨h1, fun q hq => ?_, Nat.le_trans h3 (Nat.le_add_right _ 2), fun q hq => (zw_up_ne _ _ (by omega)).trans ((zw_up_ne _ _ (by omega)).trans (h4 q hq)), ?_, ?_, own', ar', fa', ?_, ?_, ?_, ?_, ?_, ?_⟩
  · have hq2 : σ.2.1 + 2 ≤ q := hq
    exact (zw_up_ne _ _ (by omega)).trans ((zw_up_ne _ _ (by omega)).trans (h2 q (by omega)))
  · intro c' i' k' kd' hc' hi' hk'
    rcases hN c' i' hi' with hlt | ⟨rfl, rfl⟩
    · rw [hT _ _ _ hlt]
      exact alv_w (h5 c' i' k' kd' hc' hlt hk')
    · rw [sT_w, if_pos ⟨rfl, rfl⟩, hk']
      show alv _ kd' (adef kd')
      unfold adef
      by_cases e : kd' ≤ 1
      · rw [if_pos e]
        exact fun _ => ⟨fun e => by omega, fun n e => by omega⟩
      · rw [if_neg e]
        exact fun h0 => absurd h0 (by decide)
  · intro c' i' hc' hi' y hy
    rcases hN c' i' hi' with hlt | ⟨rfl, rfl⟩
    · rw [hE _ _ hlt] at hy
      exact alv_w (h6 c' i' hc' hlt y hy)
    · rw [sE_w, if_pos ⟨rfl, rfl⟩] at hy
      cases hy
  · intro b t c' i' hb
    by_cases e : b = σ.2.1
    · rw [ho1, if_pos e] at hb
      have hb2 := Option.some.inj hb
      obtain ⟨rfl, rfl, rfl⟩ : t = 0 ∧ c' = 45 ∧ i' = sn S 45 := ⟨(congrArg (·.1) hb2).symm, (congrArg (·.2.1) hb2).symm, (congrArg (·.2.2) hb2).symm⟩
      subst e
      refine ⟨Or.inl h3, Nat.lt_add_of_pos_right (by omega), ?_, (by show zw_up _ _ _ _ ≠ _; rw [zw_up_same]; exact fun e => (by cases e)), fun _ => ⟨by rw [sn_w, if_pos rfl]; omega, by unfold ghw; rw [if_pos ⟨rfl, rfl⟩]⟩, fun e => by omega, fun e => by omega, by omega⟩
      show zw_up _ _ _ _ = _
      rw [zw_up_same]
      unfold hcell
      simp only
      have eE : sE (snw S 45 []) 45 (sn S 45) = [] := by rw [sE_w, if_pos ⟨rfl, rfl⟩]
      have eM : sM (snw S 45 []) 45 (sn S 45) = 0 := by rw [sM_w, if_pos ⟨rfl, rfl⟩]
      rw [har0, eE, eM]
      rfl
    · rw [ho1, if_neg e] at hb
      by_cases e9 : b = σ.2.1 + 1
      · rw [if_pos e9] at hb
        have hb2 := Option.some.inj hb
        obtain ⟨rfl, rfl, rfl⟩ : t = 1 ∧ c' = 45 ∧ i' = sn S 45 := ⟨(congrArg (·.1) hb2).symm, (congrArg (·.2.1) hb2).symm, (congrArg (·.2.2) hb2).symm⟩
        subst e9
        refine ⟨Or.inl (by omega), Nat.lt_succ_self _, ?_, ?_, fun e => by omega, fun _ => ⟨by rw [sn_w, if_pos rfl]; omega, by rw [har0], by omega, by omega⟩, fun e => by omega, by omega⟩
        · show zw_up _ _ _ _ = _
          rw [zw_up_ne _ _ (by omega), zw_up_same]
          unfold hcell
          simp only
          rw [har0, hfa0]
        · show zw_up _ _ _ _ ≠ _
          rw [zw_up_ne _ _ (by omega), zw_up_same]
          exact fun e => by cases e
      rw [if_neg e9] at hb
      obtain ⟨p1, p2, p3, p4, p5, p6, p7, p8⟩ := h7 b t c' i' hb
      refine ⟨p1, Nat.lt_of_lt_of_le p2 (Nat.le_add_right _ 2), ?_, by show zw_up _ _ _ _ ≠ _; rw [zw_up_ne _ _ e, zw_up_ne _ _ e9]; exact p4, fun ht => ⟨Nat.lt_of_lt_of_le (p5 ht).1 sn_w_le, by rw [hg _ _ (p5 ht).1]; exact (p5 ht).2⟩, fun ht => ⟨Nat.lt_of_lt_of_le (p6 ht).1 sn_w_le, by rw [har _ _ (p6 ht).1]; exact (p6 ht).2.1, (p6 ht).2.2⟩, p7, p8⟩
      show zw_up _ _ _ _ = _
      rw [zw_up_ne _ _ e, zw_up_ne _ _ e9, p3]
      match t, p5, p6, p8 with
      | 0, p5, _, _ =>
        have hlt := (p5 rfl).1
        unfold hcell
        simp only
        rw [har _ _ hlt, hE _ _ hlt, hM _ _ hlt]
        congr 1
        by_cases c20 : c' < 20
        · rw [if_pos c20, if_pos c20]
          exact (ocell_ext hg (fun k kd hk => h5 c' i' k kd c20 hlt hk) (fun k => hT c' k i' hlt)).symm
        · rw [if_neg c20, if_neg c20]
          by_cases c46 : c' < 46
          · by_cases c45 : c' < 45
            · rw [if_pos c45, if_pos c45]
            · rw [if_neg c45, if_neg c45, if_pos (by omega), if_pos (by omega)]
          · rw [if_neg (by omega), if_neg (by omega), if_neg (by omega), if_neg (by omega)]
            exact (rcell_ext hg (fun x hx => h6 c' i' (by omega) hlt x hx) (hE c' i' hlt)).symm
      | 1, _, p6, _ =>
        have hlt := (p6 rfl).1
        unfold hcell
        simp only
        rw [har _ _ hlt, hfa _ _ hlt]
      | 2, _, _, _ => rfl
      | _ + 3, _, _, p8 => omega
  · intro c' i' hi'
    rcases hN c' i' hi' with hlt | ⟨rfl, rfl⟩
    · rw [hg _ _ hlt]
      have q := h8 c' i' hlt
      rw [hown _ (by rw [q]; exact fun e => by cases e), q]
    · unfold ghw
      rw [if_pos ⟨rfl, rfl⟩, ho1, if_pos rfl]
  · intro b e hb
    have q := h9 b e hb
    rw [hown _ (by rw [q]; exact fun e => by cases e), q]
  · intro c' i' hc1 hc2 hi'
    rcases hN c' i' hi' with hlt | ⟨rfl, rfl⟩
    · obtain ⟨r1, r2, r3, r4, r5⟩ := hA c' i' hc1 hc2 hlt
      rw [har _ _ hlt, hfa _ _ hlt, hE _ _ hlt]
      refine ⟨?_, r2, r3, fun h0 => ?_, r5⟩
      · rcases r1 with r1 | r1
        · exact Or.inl (by rw [hown _ (by rw [r1]; exact fun e => by cases e)]; exact r1)
        · exact Or.inr r1
      · have := r4 h0
        rw [hown _ (by rw [this]; exact fun e => by cases e)]
        exact this
    · rw [har0, hfa0, sE_w, if_pos ⟨rfl, rfl⟩]
      have hq : own' (σ.2.1 + 1) = some (1, 45, sn S 45) := by rw [ho1, if_neg (by omega), if_pos rfl]
      exact ⟨Or.inl hq, Nat.zero_le _, by omega, fun _ => hq, fun e => by have e2 : (11 : Nat) = 0 := e; omega⟩
  · intro c' i' hc1 hc2 hi'
    rcases hN c' i' hi' with hlt | ⟨rfl, rfl⟩
    · obtain ⟨r1, r2⟩ := hB c' i' hc1 hc2 hlt
      rw [hfa _ _ hlt, hE _ _ hlt]
      exact ⟨fun j y hy => elrep_ext hg (h6 c' i' hc1 hlt y (List.mem_of_getElem? hy)) (r1 j y hy), r2⟩
    · omega
  · intro i' hi'
    rcases hN 45 i' hi' with hlt | ⟨_, rfl⟩
    · obtain ⟨r1, r2, r3⟩ := hC i' hlt
      rw [har _ _ hlt, hfa _ _ hlt, hE _ _ hlt]
      have hlist : hqA (ghw gh S 45 σ.2.1) (snw S 45 []) i' = hqA gh S i' := by
        unfold hqA
        rw [hE _ _ hlt]
        refine List.map_congr_left fun y hy => ?_
        exact hg 8 _ ((h6 45 i' (by omega) hlt y hy (r2 y hy)).2 8 rfl)
      refine ⟨r1, r2, ?_⟩
      rw [hlist]
      refine wPQ_congr (fun y hy => ?_) r3
      obtain ⟨z, hz, rfl⟩ := List.mem_map.mp hy
      have hz1 := (h6 45 i' (by omega) hlt z hz (r2 z hz)).2 8 rfl
      have q := h8 8 z.toNat hz1
      unfold qkey
      rw [hown _ (by rw [q]; exact fun e => by cases e), q]
      simp only
      rw [hT _ _ _ hz1, hT _ _ _ hz1]
    · have eE : sE (snw S 45 []) 45 (sn S 45) = [] := by rw [sE_w, if_pos ⟨rfl, rfl⟩]
      unfold hqA
      rw [har0, hfa0, eE]
      exact ⟨Nat.succ_pos 10, fun x hx => (by cases hx), ⟨fun y => ⟨fun q => (by cases q), fun ⟨i, q, _⟩ => absurd q (Nat.not_lt_zero i)⟩, fun i hi => absurd hi (Nat.not_lt_zero i), fun i j hi hj => absurd hi (Nat.not_lt_zero i), List.nodup_nil, rfl⟩, fun i h0 hi => absurd hi (Nat.not_lt_zero i), fun i _ => rfl⟩
/-- 'new PriorityQueue()' -/
theorem hW_newQ (H : hRep g w0 σ gh S J) (hx : r_i k pc = some (.new idx, 3)) (hx1 : r_i k (pc + 3) = some (.dup, 1)) (hx2 : r_i k (pc + 3 + 1) = some (.invokespecial idx2, 3)) (ht : zthrow (r_c k) (r_o k) pc idx = none) (hl : zl_at (r_o k) idx = some "java/util/PriorityQueue")
    (hno : zxs_at (r_o k) idx2 = none) (hI : zcI_at (r_o k) idx2 = some (42, 0)) (h6 : ∀ b : Nat, zc6 (.ref b :: st) = true) (hd : 3 < d)
    (hr : ∀ (σ' : zS) (b : Nat), hRep g w0 σ' (ghw gh S 45 b) (snw S 45 []) J → hat (ghw gh S 45 b) (snw S 45 []) 45 (sn S 45) b → kc σ σ' 2 15 → zW g d k (pc + 3 + 1 + 3) lv (.ref b :: st) σ' Q) : zW g d k pc lv st σ Q := by
  refine wW_new hx ht hl (show zn_at "java/util/PriorityQueue" = some (18, 4, [.null, iv 0, .null, iv 0]) from rfl) ?_
  refine zW_p 1 (pc' := pc + 3 + 1) (lv' := lv) (st' := .ref σ.2.1 :: .ref σ.2.1 :: st) ?_ ?_
  · unfold zpt
    rw [hx1]
    rfl
  have hfr : wfr (zw_up σ.1 σ.2.1 (.inr (18, [.null, iv 0, .null, iv 0])), σ.2.1 + 1, σ.2.2 + 4) := fun q hq => by
    have hq2 : σ.2.1 + 1 ≤ q := hq
    exact (zw_up_ne _ _ (by omega)).trans (H.2.1 q (by omega))
  have hc := c_qInit (g := g) (σ := (zw_up σ.1 σ.2.1 (.inr (18, [.null, iv 0, .null, iv 0])), σ.2.1 + 1, σ.2.2 + 4)) (a := σ.2.1) (zw_up_same _ _ _) hfr H.2.2.1
  dsimp only at hc
  refine wI hx2 hno hI rfl rfl rfl rfl (h6 _) rfl hc hd ?_
  rw [zw_up_comm _ (show σ.2.1 ≠ σ.2.1 + 1 by omega), zw_up_up]
  exact hr _ _ (H.allocQ (m := σ.2.2 + 4 + 11)) hat.new ⟨Nat.le_add_right _ 2, Nat.le_refl _, by show σ.2.2 ≤ σ.2.2 + 4 + 11; omega, by show σ.2.2 + 4 + 11 ≤ _; omega⟩
end ZQA
