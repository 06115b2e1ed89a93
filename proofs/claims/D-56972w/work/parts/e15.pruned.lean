/-! THE ROOM: the part of a tree that is walked before a lot is found (plain) -/
set_option maxRecDepth 100000
/-- entries up to the first that leads to x; not x itself -/
def pcut (h : Nat → Bool) (x : Nat) : List Nat → List Nat
  | [] => []
  | e :: L => if e = x then [] else if h e = true then [e] else e :: pcut h x L
def pch (ch : Nat → List Nat) (x y : Nat) : List Nat := pcut (inn ch 100 x) x (ch y)
section ZE15
variable {ch : Nat → List Nat} {N x y i l : Nat} {h : Nat → Bool}
theorem inn_tIn : inn ch 100 x y = true ↔ tIn ch x y := by
  unfold inn tIn
  rw [Bool.or_eq_true, beq_iff_eq]
  exact ⟨fun w => w.elim (fun w => Or.inl w.symm) Or.inr, fun w => w.elim (fun w => Or.inl w.symm) Or.inr⟩
theorem pcut_pre : ∀ L : List Nat, pcut h x L <+: L
  | [] => List.prefix_refl _
  | e :: L => by
    unfold pcut
    split
    · exact List.nil_prefix
    · split
      · exact ⟨L, rfl⟩
      · obtain ⟨t, ht⟩ := pcut_pre L
        exact ⟨t, by rw [List.cons_append, ht]⟩
theorem pcut_ne : ∀ (L : List Nat) (e : Nat), e ∈ pcut h x L → e ≠ x
  | [], e, he => absurd he List.not_mem_nil
  | a :: L, e, he => by
    unfold pcut at he
    split at he
    · exact absurd he List.not_mem_nil
    · rename_i ha
      split at he
      · rw [List.mem_singleton] at he
        rw [he]; exact ha
      · rcases List.mem_cons.mp he with rfl | he
        · exact ha
        · exact pcut_ne L e he
theorem pcut_h : ∀ (L : List Nat) (e : Nat), e ∈ pcut h x L → h e = true → (pcut h x L).count e = 1 ∧ ∀ d ∈ pcut h x L, h d = true → d = e
  | [], e, he, _ => absurd he List.not_mem_nil
  | a :: L, e, he, hh => by
    unfold pcut at he ⊢
    split at he
    · exact absurd he List.not_mem_nil
    · rename_i ha
      rw [if_neg ha]
      split at he
      · rename_i h2
        rw [if_pos h2]
        rw [List.mem_singleton] at he
        subst he
        exact ⟨List.count_singleton_self, fun d hd _ => List.mem_singleton.mp hd⟩
      · rename_i h2
        rw [if_neg h2]
        have hea : e ≠ a := fun w => h2 (w ▸ hh)
        rcases List.mem_cons.mp he with w | he
        · exact absurd w hea
        · obtain ⟨g1, g2⟩ := pcut_h L e he hh
          refine ⟨by rw [List.count_cons_of_ne (fun w => hea w.symm)]; exact g1, fun d hd hd2 => ?_⟩
          rcases List.mem_cons.mp hd with rfl | hd
          · exact absurd hd2 h2
          · exact g2 d hd hd2
theorem pch_sub (hl : l ∈ pch ch x y) : l ∈ ch y := (pcut_pre _).subset hl
theorem pch_lt (hlt : ∀ i : Nat, i < N → ∀ y ∈ ch i, y < i) : ∀ i : Nat, i < N → ∀ y ∈ pch ch x i, y < i := fun i hi y hy => hlt i hi y (pch_sub hy)
theorem inn_fuel (hlt : ∀ i : Nat, i < N → ∀ y ∈ ch i, y < i) (hN : N ≤ 100) {n e : Nat} (he : e < n) (heN : e < N) : inn ch n x e = inn ch 100 x e := by
  unfold inn
  rw [tHas_fuel hlt n 100 x e heN he (by omega)]
/-- what is walked to find x lies in the pruned tree -/
theorem walkP (hlt : ∀ i : Nat, i < N → ∀ y ∈ ch i, y < i) (hN : N ≤ 100) : ∀ n y : Nat, y < n → y < N → y ≠ x → tWalk ch n x y ≤ tN (pch ch x) n y := by
  intro n
  induction n with
  | zero => intro y hy; omega
  | succ n ih =>
    intro y hy hyN hyx
    have key : ∀ L : List Nat, (∀ e ∈ L, e < y) → lW ch n x L ≤ ((pcut (inn ch 100 x) x L).map (tN (pch ch x) n)).sum := by
      intro L
      induction L with
      | nil => intro _; exact Nat.zero_le _
      | cons e L ihL =>
        intro hL
        have he := hL e List.mem_cons_self
        have iL := ihL (fun d hd => hL d (List.mem_cons_of_mem _ hd))
        rw [lW_cons, inn_fuel hlt hN (show e < n by omega) (by omega)]
        unfold pcut
        by_cases hx : e = x
        · have h1 : inn ch 100 x e = true := inn_tIn.mpr (Or.inl hx.symm)
          rw [if_pos hx, if_pos h1]
          unfold iw
          rw [if_pos (beq_iff_eq.mpr hx)]
          exact Nat.zero_le _
        · rw [if_neg hx]
          have hw : iw ch n x e ≤ tN (pch ch x) n e := by
            unfold iw
            rw [if_neg (fun w => hx (beq_iff_eq.mp w))]
            exact ih e (by omega) (by omega) hx
          by_cases hh : inn ch 100 x e = true
          · rw [if_pos hh, if_pos hh, List.map_cons, List.map_nil, List.sum_cons, List.sum_nil]
            omega
          · rw [if_neg hh, if_neg hh, List.map_cons, List.sum_cons]
            omega
    rw [tWalk_succ]
    show 1 + lW ch n x (ch y) ≤ 1 + ((pcut (inn ch 100 x) x (ch y)).map (tN (pch ch x) n)).sum
    have := key (ch y) (hlt y hyN)
    omega
theorem tIn_trans (hlt : ∀ i : Nat, i < N → ∀ y ∈ ch i, y < i) (hN : N ≤ 100) {z : Nat} (hz : z < N) : ∀ n y : Nat, y < n → y < N → tIn ch x y → tIn ch y z → tIn ch x z := by
  intro n
  induction n with
  | zero => intro y hy; omega
  | succ n ih =>
    intro y hy hyN h1 h2
    rcases (tIn_step hlt hN hyN).mp h1 with e | ⟨w, hw, h3⟩
    · rw [e]; exact h2
    · have := hlt y hyN w hw
      exact ih w (by omega) (by omega) h3 (tIn_child hlt hN hw (z + 1) z (by omega) hz h2)
theorem tIn_pch (hlt : ∀ i : Nat, i < N → ∀ y ∈ ch i, y < i) (hN : N ≤ 100) : ∀ n i : Nat, i < n → i < N → tIn (pch ch x) y i → tIn ch y i := by
  intro n
  induction n with
  | zero => intro i h; omega
  | succ n ih =>
    intro i hi hiN h
    rcases (tIn_step (pch_lt hlt) hN hiN).mp h with e | ⟨w, hw, h3⟩
    · exact Or.inl e
    · have := pch_lt hlt i hiN w hw
      exact (tIn_step hlt hN hiN).mpr (Or.inr ⟨w, pch_sub hw, ih w (by omega) (by omega) h3⟩)
/-- the way to x is one: an entry that leads to x is met once -/
theorem pch_uniq (hlt : ∀ i : Nat, i < N → ∀ y ∈ ch i, y < i) (hN : N ≤ 100) : ∀ n z y y2 l : Nat, z < n → z < N → tIn (pch ch x) y z → tIn (pch ch x) y2 z → l ∈ pch ch x y → l ∈ pch ch x y2 → tIn ch x l → y = y2 := by
  intro n
  induction n with
  | zero => intro z y y2 l h; omega
  | succ n ih =>
    intro z y y2 l hz hzN h1 h2 l1 l2 hl
    have hlP := pch_lt (x := x) hlt
    have side : ∀ y2 e : Nat, l ∈ pch ch x z → e ∈ pch ch x z → tIn (pch ch x) y2 e → l ∈ pch ch x y2 → False := fun y2 e hlz he hy2 hl2 => by
      have hez := hlP z hzN e he
      have hy2e := tIn_le hlP hN (e + 1) e y2 (by omega) (by omega) hy2
      have hly := hlP y2 (by omega) l hl2
      have hxy2 : tIn ch x y2 := (tIn_step hlt hN (by omega)).mpr (Or.inr ⟨l, pch_sub hl2, hl⟩)
      have hxe : tIn ch x e := tIn_trans hlt hN (by omega) (y2 + 1) y2 (by omega) (by omega) hxy2 (tIn_pch hlt hN (e + 1) e (by omega) (by omega) hy2)
      have := (pcut_h (h := inn ch 100 x) (x := x) (ch z) l hlz (inn_tIn.mpr hl)).2 e he (inn_tIn.mpr hxe)
      omega
    rcases (tIn_step hlP hN hzN).mp h1 with e1 | ⟨w, hw, h3⟩
    · rcases (tIn_step hlP hN hzN).mp h2 with e2 | ⟨w2, hw2, h4⟩
      · rw [e1, e2]
      · rw [e1] at l1
        exact (side y2 w2 l1 hw2 h4 l2).elim
    · rcases (tIn_step hlP hN hzN).mp h2 with e2 | ⟨w2, hw2, h4⟩
      · rw [e2] at l2
        exact (side y w l2 hw h3 l1).elim
      · have b1 := hlP z hzN w hw
        have b2 := hlP z hzN w2 hw2
        have c1 := tIn_le hlP hN (w + 1) w y (by omega) (by omega) h3
        have c2 := tIn_le hlP hN (w2 + 1) w2 y2 (by omega) (by omega) h4
        have x1 : tIn ch x y := (tIn_step hlt hN (by omega)).mpr (Or.inr ⟨l, pch_sub l1, hl⟩)
        have x2 : tIn ch x y2 := (tIn_step hlt hN (by omega)).mpr (Or.inr ⟨l, pch_sub l2, hl⟩)
        have x3 : tIn ch x w := tIn_trans hlt hN (by omega) (y + 1) y (by omega) (by omega) x1 (tIn_pch hlt hN (w + 1) w (by omega) (by omega) h3)
        have x4 : tIn ch x w2 := tIn_trans hlt hN (by omega) (y2 + 1) y2 (by omega) (by omega) x2 (tIn_pch hlt hN (w2 + 1) w2 (by omega) (by omega) h4)
        have e := (pcut_h (h := inn ch 100 x) (x := x) (ch z) w hw (inn_tIn.mpr x3)).2 w2 hw2 (inn_tIn.mpr x4)
        subst e
        exact ih w2 y y2 l (by omega) (by omega) h3 h4 l1 l2 hl
theorem iw_lt (hlt : ∀ i : Nat, i < N → ∀ y ∈ ch i, y < i) (hN : N ≤ 100) : ∀ n e : Nat, e < n → e < N → inn ch 100 y e = true → iw ch n y e < tN ch n e := by
  intro n
  induction n with
  | zero => intro e h; omega
  | succ n ih =>
    intro e he heN h
    have key : ∀ L : List Nat, (∀ d ∈ L, d < e) → L.any (inn ch 100 y) = true → lW ch n y L < (L.map (tN ch n)).sum := by
      intro L
      induction L with
      | nil => intro _ h; exact absurd h Bool.false_ne_true
      | cons d L ihL =>
        intro hL h
        have hd := hL d List.mem_cons_self
        rw [lW_cons, inn_fuel hlt hN (show d < n by omega) (by omega), List.map_cons, List.sum_cons]
        by_cases hh : inn ch 100 y d = true
        · rw [if_pos hh]
          have := ih d (by omega) (by omega) hh
          omega
        · rw [if_neg hh]
          rw [List.any_cons, Bool.or_eq_true] at h
          have g1 := ihL (fun c hc => hL c (List.mem_cons_of_mem _ hc)) (h.resolve_left hh)
          have g2 : iw ch n y d ≤ tN ch n d := by
            unfold iw
            split
            · exact Nat.zero_le _
            · exact walk_le n y d
          omega
    unfold iw
    split
    · show 0 < 1 + _
      omega
    · rename_i hne
      rw [tWalk_succ]
      show 1 + lW ch n y (ch e) < 1 + ((ch e).map (tN ch n)).sum
      have h2 : (ch e).any (inn ch 100 y) = true := by
        unfold inn at h
        rw [Bool.or_eq_true] at h
        have h3 := h.resolve_left hne
        have h4 : tHas ch (n + 1) y e = true := by rw [tHas_fuel hlt (n + 1) 100 y e heN he (by omega)]; exact h3
        rw [tHas_succ, List.any_eq_true] at h4
        obtain ⟨d, hd, hd2⟩ := h4
        have := hlt e heN d hd
        rw [inn_fuel hlt hN (show d < n by omega) (by omega)] at hd2
        exact List.any_eq_true.mpr ⟨d, hd, hd2⟩
      have := key (ch e) (hlt e heN) h2
      omega
/-- what is walked before x is found sooner than x -/
theorem time_lt (hlt : ∀ i : Nat, i < N → ∀ y ∈ ch i, y < i) (hN : N ≤ 100) : ∀ n z : Nat, z < n → z < N → z ≠ x → tIn (pch ch x) y z → tIn ch x z → iw ch n y z < iw ch n x z := by
  intro n
  induction n with
  | zero => intro z h; omega
  | succ n ih =>
    intro z hz hzN hzx h hxz
    have hlP := pch_lt (x := x) hlt
    have key : ∀ L : List Nat, (∀ d ∈ L, d < z) → (∃ e ∈ pcut (inn ch 100 x) x L, tIn (pch ch x) y e) → lW ch n y L < lW ch n x L := by
      intro L
      induction L with
      | nil => rintro _ ⟨e, he, -⟩; exact absurd he List.not_mem_nil
      | cons d L ihL =>
        rintro hL ⟨e, he, hye⟩
        have hd := hL d List.mem_cons_self
        unfold pcut at he
        rw [lW_cons, lW_cons, inn_fuel hlt hN (show d < n by omega) (by omega), inn_fuel hlt hN (show d < n by omega) (by omega)]
        split at he
        · exact absurd he List.not_mem_nil
        · rename_i hdx
          split at he
          · rename_i hh
            rw [List.mem_singleton] at he
            subst he
            have hy : inn ch 100 y e = true := inn_tIn.mpr (tIn_pch hlt hN (e + 1) e (by omega) (by omega) hye)
            rw [if_pos hh, if_pos hy]
            have := ih e (by omega) (by omega) hdx hye (inn_tIn.mp hh)
            omega
          · rename_i hh
            have hh' : inn ch n x d = false := by
              rw [inn_fuel hlt hN (show d < n by omega) (by omega)]
              cases hq : inn ch 100 x d with
              | true => exact absurd hq hh
              | false => rfl
            rw [if_neg hh, iw_out hh']
            by_cases hy : inn ch 100 y d = true
            · rw [if_pos hy]
              have := iw_lt hlt hN n d (by omega) (by omega) hy
              omega
            · rw [if_neg hy]
              rcases List.mem_cons.mp he with w | he
              · subst w
                exact absurd (inn_tIn.mpr (tIn_pch hlt hN (e + 1) e (by omega) (by omega) hye)) hy
              · have g1 := ihL (fun c hc => hL c (List.mem_cons_of_mem _ hc)) ⟨e, he, hye⟩
                have g2 : iw ch n y d ≤ tN ch n d := by
                  unfold iw
                  split
                  · exact Nat.zero_le _
                  · exact walk_le n y d
                omega
    rw [iw_in, iw_in, if_neg (fun w => hzx (beq_iff_eq.mp w))]
    by_cases e : z = y
    · rw [if_pos (beq_iff_eq.mpr e)]; omega
    · rw [if_neg (fun w => e (beq_iff_eq.mp w))]
      rcases (tIn_step hlP hN hzN).mp h with w | ⟨d, hd, h3⟩
      · exact absurd w.symm e
      · have := key (ch z) (hlt z hzN) ⟨d, hd, h3⟩
        omega
/-- x itself isn't walked before it's found -/
theorem pch_not (hlt : ∀ i : Nat, i < N → ∀ y ∈ ch i, y < i) (hN : N ≤ 100) : ∀ n z : Nat, z < n → z < N → z ≠ x → ¬ tIn (pch ch x) x z := by
  intro n
  induction n with
  | zero => intro z h; omega
  | succ n ih =>
    intro z hz hzN hzx h
    rcases (tIn_step (pch_lt hlt) hN hzN).mp h with w | ⟨d, hd, h3⟩
    · exact hzx w.symm
    · have := pch_lt hlt z hzN d hd
      exact ih d (by omega) (by omega) (pcut_ne _ d hd) h3
end ZE15
