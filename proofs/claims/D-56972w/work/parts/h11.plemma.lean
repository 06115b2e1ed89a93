/-! THE ROOM: THE P-LEMMA: a search in a lot, coupled with the lots that aren't found -/
set_option maxRecDepth 100000
section ZH11
theorem ns_rev {f : Nat → Nat} {b : Nat} : ∀ s : Nat, s ≤ b → ns s (fun i => f (b - 1 - i)) + ns (b - s) f = ns b f := by
  intro s
  induction s with
  | zero => intro _; show 0 + ns (b - 0) f = _; rw [Nat.zero_add, Nat.sub_zero]
  | succ s ih =>
    intro h
    have ih := ih (by omega)
    have e : b - s = (b - (s + 1)) + 1 := by omega
    rw [e] at ih
    have e2 : ns (b - (s + 1) + 1) f = ns (b - (s + 1)) f + f (b - (s + 1)) := rfl
    rw [e2] at ih
    show ns s (fun i => f (b - 1 - i)) + f (b - 1 - s) + ns (b - (s + 1)) f = _
    rw [show b - 1 - s = b - (s + 1) by omega]
    omega
theorem ns_top {f : Nat → Nat} {b s : Nat} (h : s ≤ b) : ns s (fun i => f (b - 1 - i)) ≤ ns b f := by
  have := ns_rev (f := f) s h
  omega
theorem sum_parts {pt : Nat → Nat} {f : Nat → Nat} {A : Nat} : ∀ R : List Nat, (∀ z ∈ R, pt z < A) → (R.map f).sum = ns A (fun Q => ((R.filter (fun d => decide (pt d = Q))).map f).sum)
  | [], _ => ((ns_cg (g := fun _ => 0) (fun _ _ => rfl)).trans (ns_zero _)).symm
  | z :: R, h => by
    have ih := sum_parts (f := f) R (fun w hw => h w (List.mem_cons_of_mem _ hw))
    have hone := ns_one (n := A) (j := pt z) (v := f z) (h z List.mem_cons_self)
    rw [List.map_cons, List.sum_cons, ih, ← hone, ← ns_add]
    refine ns_cg (fun Q _ => ?_)
    by_cases hQ : pt z = Q
    · have f2 : (z :: R).filter (fun d => decide (pt d = Q)) = z :: R.filter (fun d => decide (pt d = Q)) := List.filter_cons_of_pos (decide_eq_true hQ)
      rw [if_pos hQ.symm, f2, List.map_cons, List.sum_cons]
    · have f2 : (z :: R).filter (fun d => decide (pt d = Q)) = R.filter (fun d => decide (pt d = Q)) := List.filter_cons_of_neg (by rw [decide_eq_false hQ]; decide)
      rw [if_neg (fun e => hQ e.symm), f2, Nat.zero_add]
theorem len_ns {N : Nat} {P : Nat → Prop} [DecidablePred P] {L : List Nat} (hnd : L.Nodup) (hL : ∀ y ∈ L, y < N ∧ P y) : L.length ≤ ns N (fun l => if P l then 1 else 0) := by
  have h := ns_mem (f := fun _ => 1) hnd hL
  have e : ∀ M : List Nat, (M.map (fun _ => 1)).sum = M.length := by
    intro M
    induction M with
    | nil => rfl
    | cons m M ih => rw [List.map_cons, List.sum_cons, ih, List.length_cons]; omega
  rw [e] at h
  exact h
theorem range_len {P : Nat → Bool} : ∀ N : Nat, ((List.range N).filter P).length = ns N (fun l => if P l = true then 1 else 0)
  | 0 => rfl
  | N + 1 => by
    rw [List.range_succ, List.filter_append, List.length_append, range_len N]
    show _ = ns N _ + _
    cases h : P N with
    | true =>
      rw [List.filter_cons_of_pos h]
      show _ + 1 = ns N _ + (if P N = true then 1 else 0)
      rw [if_pos h]
    | false =>
      rw [List.filter_cons_of_neg (by rw [h]; decide)]
      show _ + 0 = ns N _ + (if P N = true then 1 else 0)
      rw [if_neg (by rw [h]; decide)]
variable {z : Nat → Nat} {k : Nat} {X : hS}
/-- lots of the parts below A -/
theorem lots_below {A : Nat} : ns (sn X 6) (fun l => if ptL X l < A then 1 else 0) = ns A (bL X) := by
  unfold bL
  rw [← ns_swap]
  refine ns_cg (fun l _ => ?_)
  by_cases h : ptL X l < A
  · rw [if_pos h]
    exact (ns_one (n := A) (j := ptL X l) (v := 1) h).symm.trans (ns_cg (fun B _ => if_cg2 B))
  · rw [if_neg h]
    exact ((ns_cg (g := fun _ => 0) (fun B hB => if_neg (fun e => h (by omega)))).trans (ns_zero _)).symm
where
  if_cg2 {a : Nat} (B : Nat) : (if B = a then 1 else 0) = if a = B then 1 else 0 := by
    by_cases h : B = a
    · rw [if_pos h, if_pos h.symm]
    · rw [if_neg h, if_neg (fun e => h e.symm)]
theorem kB_bs {A : Nat} : ns A (bL X) + A ≤ kB X A := own_bs A
theorem nT_list (hI : iAll z k X) {y : Nat} (hy : y < sn X 6) : nT X y = 1 + ((fch X y).map (nT X)).sum := by
  have h100 := hI.n100
  have hch := hI.chl y hy
  show tN (fch X) (99 + 1) y = _
  show 1 + ((fch X y).map (tN (fch X) 99)).sum = _
  congr 2
  exact List.map_congr_left (fun w hw => tN_fuel (M := sn X 6) hI.chl 99 100 w (by have := hch w hw; omega) (by have := hch w hw; omega) (by have := hch w hw; omega))
/-- the walks of lots in y's tree -/
theorem iw_list (hI : iAll z k X) {y x : Nat} (hy : y < sn X 6) (hne : x ≠ y) : iw (fch X) 100 x y = 1 + lW (fch X) 100 x (fch X y) := by
  have h100 := hI.n100
  have hch := hI.chl y hy
  have hb : (y == x) = false := by
    cases hh : y == x with
    | true => exact absurd (beq_iff_eq.mp hh).symm hne
    | false => rfl
  show (if (y == x) = true then 0 else 1 + lW (fch X) 99 x (fch X y)) = _
  rw [hb, if_neg (by decide), lW_fuel hI.chl (n := 99) (m := 100) (fch X y) (fun w hw => by have := hch w hw; omega)]
/-- what is outside y's tree isn't found in it -/
theorem out_list (hI : iAll z k X) {y : Nat} (hy : y < sn X 6) : ∀ U : List Nat, (∀ x ∈ U, hB X x y = false) → (U.map (fun x => lW (fch X) 100 x (fch X y))).sum = U.length * ((fch X y).map (nT X)).sum
  | [], _ => (Nat.zero_mul _).symm
  | x :: U, h => by
    have ih := out_list hI hy U (fun w hw => h w (List.mem_cons_of_mem _ hw))
    have hx := h x List.mem_cons_self
    have h1 : (fch X y).any (inn (fch X) 100 x) = false := by
      cases hh : (fch X y).any (inn (fch X) 100 x) with
      | false => rfl
      | true =>
        obtain ⟨w, hw, hi⟩ := List.any_eq_true.mp hh
        have : hB X x y = true := inn_tIn.mpr ((tIn_step hI.chl hI.n100 hy).mpr (Or.inr ⟨w, hw, inn_tIn.mp hi⟩))
        rw [hx] at this
        exact absurd this Bool.false_ne_true
    rw [List.map_cons, List.sum_cons, ih, lW_out _ h1, List.length_cons, Nat.succ_mul, Nat.add_comm]
    rfl
/-- lots not found while z was searched, behind those of D: few -/
theorem out_cnt (hI : iAll z k X) {A w : Nat} {D U : List Nat} (hw : w < sn X 6) (hwA : ptL X w < A) (hU : U.Nodup) (hl : lftU (fch X) 100 D U) (hD : D.Nodup) (hwD : w ∉ D) (hPD : ∀ d ∈ D, d < sn X 6 ∧ ptL X d < A) (hPU : ∀ x ∈ U, x < sn X 6 ∧ ptL X x < A) :
    (out (fch X) 100 U w).length + cntD (ptL X) D w + 1 ≤ (uoL X w).length + (ns A (bL X) - ns (ptL X w) (bL X)) ∧ cntD (ptL X) D w + 1 ≤ bL X (ptL X w) := by
  have hself : ∀ d : Nat, d < sn X 6 → inn (fch X) 100 d d = true := fun d hd => inn_tIn.mpr ((tIn_step hI.chl hI.n100 hd).mpr (Or.inl rfl))
  have n1 : (out (fch X) 100 U w).Nodup := hU.filter _
  have n2 : (D.filter (fun d => decide (ptL X d = ptL X w))).Nodup := hD.filter _
  have m2 : ∀ d ∈ D.filter (fun d => decide (ptL X d = ptL X w)), d ∈ D ∧ ptL X d = ptL X w := fun d hd => ⟨(List.mem_filter.mp hd).1, of_decide_eq_true (List.mem_filter.mp hd).2⟩
  have n3 : (w :: D.filter (fun d => decide (ptL X d = ptL X w))).Nodup := List.nodup_cons.mpr ⟨fun h => hwD (m2 w h).1, n2⟩
  have n4 : (out (fch X) 100 U w ++ w :: D.filter (fun d => decide (ptL X d = ptL X w))).Nodup := by
    rw [List.nodup_append]
    refine ⟨n1, n3, fun a ha b hb e => ?_⟩
    subst e
    rcases List.mem_cons.mp hb with e | hb
    · subst e
      have := out_inn a ha
      rw [hself a hw] at this
      exact absurd this (by decide)
    · have h1 := hl a (List.mem_filter.mp ha).1 a (m2 a hb).1
      rw [hself a (hPD a (m2 a hb).1).1] at h1
      exact absurd h1 (by decide)
  have c1 := len_ns (N := sn X 6) (P := fun x => (ptL X x < ptL X w ∧ hB X x w = false) ∨ (ptL X w ≤ ptL X x ∧ ptL X x < A)) n4 (fun x hx => by
    rcases List.mem_append.mp hx with h | h
    · have h1 := hPU x (List.mem_filter.mp h).1
      have h2 := out_inn x h
      refine ⟨h1.1, ?_⟩
      by_cases hc : ptL X x < ptL X w
      · exact Or.inl ⟨hc, h2⟩
      · exact Or.inr ⟨by omega, h1.2⟩
    · rcases List.mem_cons.mp h with e | h
      · subst e
        exact ⟨hw, Or.inr ⟨Nat.le_refl _, hwA⟩⟩
      · obtain ⟨g1, g2⟩ := m2 x h
        exact ⟨(hPD x g1).1, Or.inr ⟨by omega, (hPD x g1).2⟩⟩)
  have c2 := len_ns (N := sn X 6) (P := fun x => ptL X x = ptL X w) n3 (fun x hx => by
    rcases List.mem_cons.mp hx with e | h
    · subst e; exact ⟨hw, rfl⟩
    · obtain ⟨g1, g2⟩ := m2 x h
      exact ⟨(hPD x g1).1, g2⟩)
  have e1 : (uoL X w).length = ns (sn X 6) (fun x => if ptL X x < ptL X w ∧ hB X x w = false then 1 else 0) := by
    unfold uoL allL
    rw [range_len]
    refine ns_cg (fun x _ => ?_)
    by_cases h : ptL X x < ptL X w ∧ hB X x w = false
    · rw [if_pos h, if_pos (by rw [decide_eq_true h.1, h.2]; rfl)]
    · rw [if_neg h, if_neg (fun e => h (by
        rw [Bool.and_eq_true] at e
        refine ⟨of_decide_eq_true e.1, ?_⟩
        have := e.2
        cases hh : hB X x w with
        | true => rw [hh] at this; exact absurd this (by decide)
        | false => rfl))]
  have e2 : ns (sn X 6) (fun x => if (ptL X x < ptL X w ∧ hB X x w = false) ∨ (ptL X w ≤ ptL X x ∧ ptL X x < A) then 1 else 0) + ns (ptL X w) (bL X) = (uoL X w).length + ns A (bL X) := by
    rw [e1, ← lots_below (A := A), ← lots_below (A := ptL X w), ← ns_add, ← ns_add]
    refine ns_cg (fun x _ => ?_)
    by_cases h1 : ptL X x < ptL X w
    · by_cases h2 : hB X x w = false
      · rw [if_pos (Or.inl ⟨h1, h2⟩), if_pos h1, if_pos ⟨h1, h2⟩, if_pos (by omega)]
      · rw [if_neg (fun c => by rcases c with c | c; exact h2 c.2; omega), if_pos h1, if_neg (fun c => h2 c.2), if_pos (by omega)]
    · by_cases h3 : ptL X x < A
      · rw [if_pos (Or.inr ⟨by omega, h3⟩), if_neg h1, if_neg (fun c => h1 c.1), if_pos h3]
      · rw [if_neg (fun c => by rcases c with c | c; exact h1 c.1; exact h3 c.2), if_neg h1, if_neg (fun c => h1 c.1), if_neg h3]
  rw [List.length_append, List.length_cons] at c1
  rw [List.length_cons] at c2
  have e3 : (D.filter (fun d => decide (ptL X d = ptL X w))).length = cntD (ptL X) D w := rfl
  rw [e3] at c1 c2
  have c2 : cntD (ptL X) D w + 1 ≤ bL X (ptL X w) := c2
  exact ⟨by omega, c2⟩
end ZH11
