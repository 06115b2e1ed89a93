/-! THE ROOM: a delivered lot, searched for lots that weren't found in those delivered before it -/
set_option maxRecDepth 100000
/-- what the lots of part Q that stand in r's list bring, l lots of r's part and those above it being outside -/
def tPt (X : hS) (l r Q : Nat) : Nat :=
  if 0 < cT X (ptL X r) Q ∧ 0 < bL X Q then ns (sB X (fch X r) Q) (fun i => pP (cN X Q) (l + btw (bL X) (ptL X r) Q + bL X Q - 1 - i) (kB X Q)) + pRep (cT X (ptL X r) Q) (cN X Q) (bL X Q - 1) (l + btw (bL X) (ptL X r) Q) (kB X Q) else 0
section ZH13
variable {z : Nat → Nat} {k : Nat} {X : hS}
/-- as out_cnt, with some more lots of higher parts that aren't looked for -/
theorem out_cnt2 (hI : iAll z k X) {A w : Nat} {D U M : List Nat} (hw : w < sn X 6) (hwA : ptL X w < A) (hU : U.Nodup) (hl : lftU (fch X) 100 D U) (hD : D.Nodup) (hwD : w ∉ D) (hPD : ∀ d ∈ D, d < sn X 6 ∧ ptL X d < A) (hPU : ∀ x ∈ U, x < sn X 6 ∧ ptL X x < A) (hM : M.Nodup) (hMM : ∀ m ∈ M, m < sn X 6 ∧ ptL X w < ptL X m ∧ ptL X m < A ∧ m ∉ U) :
    (out (fch X) 100 U w).length + cntD (ptL X) D w + 1 + M.length ≤ (uoL X w).length + (ns A (bL X) - ns (ptL X w) (bL X)) ∧ cntD (ptL X) D w + 1 ≤ bL X (ptL X w) := by
  have hself : ∀ d : Nat, d < sn X 6 → inn (fch X) 100 d d = true := fun d hd => inn_tIn.mpr ((tIn_step hI.chl hI.n100 hd).mpr (Or.inl rfl))
  have n1 : (out (fch X) 100 U w).Nodup := hU.filter _
  have n2 : (D.filter (fun d => decide (ptL X d = ptL X w))).Nodup := hD.filter _
  have m2 : ∀ d ∈ D.filter (fun d => decide (ptL X d = ptL X w)), d ∈ D ∧ ptL X d = ptL X w := fun d hd => ⟨(List.mem_filter.mp hd).1, of_decide_eq_true (List.mem_filter.mp hd).2⟩
  have n3 : (w :: D.filter (fun d => decide (ptL X d = ptL X w))).Nodup := List.nodup_cons.mpr ⟨fun h => hwD (m2 w h).1, n2⟩
  have n3b : (M ++ w :: D.filter (fun d => decide (ptL X d = ptL X w))).Nodup := by
    rw [List.nodup_append]
    refine ⟨hM, n3, fun a ha b hb e => ?_⟩
    subst e
    have h1 := (hMM a ha).2.1
    rcases List.mem_cons.mp hb with e | hb
    · rw [e] at h1; omega
    · have := (m2 a hb).2
      omega
  have n4 : (out (fch X) 100 U w ++ (M ++ w :: D.filter (fun d => decide (ptL X d = ptL X w)))).Nodup := by
    rw [List.nodup_append]
    refine ⟨n1, n3b, fun a ha b hb e => ?_⟩
    subst e
    rcases List.mem_append.mp hb with hb | hb
    · exact (hMM a hb).2.2.2 (List.mem_filter.mp ha).1
    · rcases List.mem_cons.mp hb with e | hb
      · subst e
        have := out_inn a ha
        rw [hself a hw] at this
        exact absurd this (by decide)
      · have h1 := hl a (List.mem_filter.mp ha).1 a (m2 a hb).1
        rw [hself a (hPD a (m2 a hb).1).1] at h1
        exact absurd h1 (by decide)
  have c1 := len_ns (N := sn X 6) (P := fun x => (ptL X x < ptL X w ∧ hB X x w = false) ∨ (ptL X w ≤ ptL X x ∧ ptL X x < A)) n4 (fun x hx => by
    rcases List.mem_append.mp hx with h | h
    · have h1 := hPU x (List.mem_filter.mp h).1
      have h2 := out_inn x h
      refine ⟨h1.1, ?_⟩
      by_cases hc : ptL X x < ptL X w
      · exact Or.inl ⟨hc, h2⟩
      · exact Or.inr ⟨by omega, h1.2⟩
    · rcases List.mem_append.mp h with h | h
      · obtain ⟨g1, g2, g3, -⟩ := hMM x h
        exact ⟨g1, Or.inr ⟨by omega, g3⟩⟩
      · rcases List.mem_cons.mp h with e | h
        · subst e
          exact ⟨hw, Or.inr ⟨Nat.le_refl _, hwA⟩⟩
        · obtain ⟨g1, g2⟩ := m2 x h
          exact ⟨(hPD x g1).1, Or.inr ⟨by omega, (hPD x g1).2⟩⟩)
  have c2 := (out_cnt hI hw hwA hU hl hD hwD hPD hPU).2
  have e1 : (uoL X w).length = ns (sn X 6) (fun x => if ptL X x < ptL X w ∧ hB X x w = false then 1 else 0) := by
    unfold uoL allL
    rw [range_len]
    refine ns_cg (fun x _ => ?_)
    by_cases h : ptL X x < ptL X w ∧ hB X x w = false
    · rw [if_pos h, if_pos (by rw [decide_eq_true h.1, h.2]; rfl)]
    · rw [if_neg h, if_neg (fun e => h (by
        rw [Bool.and_eq_true] at e
        refine ⟨of_decide_eq_true e.1, ?_⟩
        have := e.2
        cases hh : hB X x w with
        | true => rw [hh] at this; exact absurd this (by decide)
        | false => rfl))]
  have e2 : ns (sn X 6) (fun x => if (ptL X x < ptL X w ∧ hB X x w = false) ∨ (ptL X w ≤ ptL X x ∧ ptL X x < A) then 1 else 0) + ns (ptL X w) (bL X) = (uoL X w).length + ns A (bL X) := by
    rw [e1, ← lots_below (A := A), ← lots_below (A := ptL X w), ← ns_add, ← ns_add]
    refine ns_cg (fun x _ => ?_)
    by_cases h1 : ptL X x < ptL X w
    · by_cases h2 : hB X x w = false
      · rw [if_pos (Or.inl ⟨h1, h2⟩), if_pos h1, if_pos ⟨h1, h2⟩, if_pos (by omega)]
      · rw [if_neg (fun c => by rcases c with c | c; exact h2 c.2; omega), if_pos h1, if_neg (fun c => h2 c.2), if_pos (by omega)]
    · by_cases h3 : ptL X x < A
      · rw [if_pos (Or.inr ⟨by omega, h3⟩), if_neg h1, if_neg (fun c => h1 c.1), if_pos h3]
      · rw [if_neg (fun c => by rcases c with c | c; exact h1 c.1; exact h3 c.2), if_neg h1, if_neg (fun c => h1 c.1), if_neg h3]
  rw [List.length_append, List.length_append, List.length_cons] at c1
  have e3 : (D.filter (fun d => decide (ptL X d = ptL X w))).length = cntD (ptL X) D w := rfl
  rw [e3] at c1
  exact ⟨by omega, c2⟩
/-- all of U looked for in r, those of M (r among them) of r's part being not looked for -/
theorem top_lots (hI : iAll z k X) (hL : iLt z X) (hC : iCk X) {r l : Nat} {U M : List Nat} (hr : r < sn X 6) (h62 : kB X (ptL X r) ≤ 62) (h84 : l + kB X (ptL X r) ≤ 84) (hU : U.Nodup) (hU6 : ∀ x ∈ U, x < sn X 6) (hM : M.Nodup) (hMM : ∀ m ∈ M, m < sn X 6 ∧ ptL X m = ptL X r ∧ m ∉ U) (hrM : r ∈ M) (hl : sn X 6 ≤ ns (ptL X r) (bL X) + l + M.length) :
    (U.map (fun x => iw (fch X) 100 x r)).sum ≤ U.length + ns (ptL X r) (tPt X l r) := by
  have h100 := hI.n100
  have hch := hI.chl r hr
  obtain ⟨p, hp, -, -, e3⟩ := ptL_at hI hr
  have hall : ns (np X) (bL X) = sn X 6 := by
    rw [← lots_below (A := np X)]
    have : ∀ n : Nat, n ≤ sn X 6 → ns n (fun l => if ptL X l < np X then 1 else 0) = n := by
      intro n
      induction n with
      | zero => intro _; rfl
      | succ n ih =>
        intro hn
        obtain ⟨q, hq, -, -, e⟩ := ptL_at hI (l := n) (by omega)
        show ns n _ + (if ptL X n < np X then 1 else 0) = n + 1
        rw [ih (by omega), if_pos (by omega)]
    exact this _ (Nat.le_refl _)
  have e1 : (U.map (fun x => iw (fch X) 100 x r)).sum = U.length + (U.map (fun x => lW (fch X) 100 x (fch X r))).sum := by
    have hne : ∀ x ∈ U, x ≠ r := fun x hx e => (hMM r hrM).2.2 (by rw [← e]; exact hx)
    clear hU hU6 hMM hl
    induction U with
    | nil => rfl
    | cons x U ihU =>
      have ihU := ihU (fun w hw => hne w (List.mem_cons_of_mem _ hw))
      rw [List.map_cons, List.sum_cons, ihU, List.map_cons, List.sum_cons, List.length_cons, iw_list hI hr (hne x List.mem_cons_self)]
      omega
  have main := list_lots (ch := fch X) (n := 100) (pt := ptL X) (l := 0) (Bd := fun w i => pP (cN X (ptL X w)) (l + btw (bL X) (ptL X r) (ptL X w) + bL X (ptL X w) - 1 - i) (kB X (ptL X w)) + rrP X (ptL X r) l r w) (C := fun w => (fch X r).count w) (PD := fun d => d < sn X 6 ∧ ptL X d < ptL X r) (PU := fun x => x ∈ U)
    (fch X r).length (fch X r) [] U (Nat.le_refl _) hU (fun x _ d hd => absurd hd List.not_mem_nil) (fun w _ => List.not_mem_nil) (fun w _ => rfl) (fun d hd => absurd hd List.not_mem_nil) (fun x hx => hx) (fun w hw => by
      have hw6 := hI.chlt r hr w hw
      exact ⟨hw6, ((flT hI hL hC).1 r w hr hw6 (List.count_pos_iff.mpr hw)).1⟩) (fun w hw D U' hU' hl' hwD hD hPD hPU => by
      have hw6 := hI.chlt r hr w hw
      have hwr := hch w hw
      obtain ⟨hlt, hc0⟩ := (flT hI hL hC).1 r w hr hw6 (List.count_pos_iff.mpr hw)
      obtain ⟨o1, o2⟩ := btw_own (X := X) (B := ptL X r) (Q := ptL X w) hlt
      obtain ⟨n1, n2⟩ := out_cnt2 hI (A := np X) (M := M) hw6 (by omega) hU' hl' hD hwD (fun d hd => ⟨(hPD d hd).1, by have := (hPD d hd).2; omega⟩) (fun x hx => by
        obtain ⟨q, hq, -, -, e⟩ := ptL_at hI (hU6 x (hPU x hx))
        exact ⟨hU6 x (hPU x hx), by omega⟩) hM (fun m hm => by
        obtain ⟨g1, g2, g3⟩ := hMM m hm
        exact ⟨g1, by omega, by omega, fun h => g3 (hPU m h)⟩)
      have hc1 := List.count_pos_iff.mpr hw
      rw [hall] at n1
      have u1 := ns_up (f := bL X) (m := ptL X w) (n := ptL X r) (by omega)
      have hIH := p_lemma hI hL hC (w + 1) w (l + btw (bL X) (ptL X r) (ptL X w) + bL X (ptL X w) - 1 - cntD (ptL X) D w) ((got (fch X) 100 U' w).filter (fun x => !(w == x))) (by omega) hw6 (by omega) (by omega) ((hU'.filter _).filter _) (fun x hx => by
        obtain ⟨g1, g2⟩ := List.mem_filter.mp hx
        exact ⟨got_inn x g1, fun e => by rw [e, beq_self_eq_true] at g2; exact absurd g2 (by decide)⟩)
      have hgot : ((got (fch X) 100 U' w).map (fun x => iw (fch X) 100 x w)).sum = (((got (fch X) 100 U' w).filter (fun x => !(w == x))).map (fun x => iw (fch X) 100 x w)).sum := sum_filter _ (fun x _ hf => by
        unfold iw
        have : (w == x) = true := by
          cases hh : w == x with
          | true => rfl
          | false => rw [hh] at hf; exact absurd hf (by decide)
        rw [if_pos this])
      have hrr := rr_ok hI hL hC (l := l) (l' := l + btw (bL X) (ptL X r) (ptL X w) + bL X (ptL X w) - 1 - cntD (ptL X) D w) hr hw h62 h84 (by omega)
      rw [hgot]
      generalize hl' : l + btw (bL X) (ptL X r) (ptL X w) + bL X (ptL X w) - 1 - cntD (ptL X) D w = l' at *
      have hle : 0 + (out (fch X) 100 U' w).length ≤ l' + (uoL X w).length := by omega
      have hm := Nat.mul_le_mul_right ((fch X r).count w * nT X w) hle
      have eN : tN (fch X) 100 w = nT X w := rfl
      have e5 : (l' + (uoL X w).length) * ((fch X r).count w * nT X w) = (l' + (uoL X w).length) * nT X w + ((fch X r).count w - 1) * ((l' + (uoL X w).length) * nT X w) := by
        obtain ⟨c', hc'⟩ : ∃ c' : Nat, (fch X r).count w = c' + 1 := ⟨(fch X r).count w - 1, by omega⟩
        rw [hc', Nat.add_sub_cancel, Nat.add_mul c' 1, Nat.one_mul, Nat.mul_add, Nat.mul_left_comm]
        omega
      rw [eN]
      omega) List.nodup_nil
  have hdl : ∀ w ∈ dds (fch X r).length (fch X r), ptL X w < ptL X r := fun w hw => by
    have hw := dds_mem _ _ hw
    exact ((flT hI hL hC).1 r w hr (hI.chlt r hr w hw) (List.count_pos_iff.mpr hw)).1
  have s1 := sumD_le (pt := ptL X) (Bd := fun w i => pP (cN X (ptL X w)) (l + btw (bL X) (ptL X r) (ptL X w) + bL X (ptL X w) - 1 - i) (kB X (ptL X w)) + rrP X (ptL X r) l r w) (Pq := fun Q i => pP (cN X Q) (l + btw (bL X) (ptL X r) Q + bL X Q - 1 - i) (kB X Q)) (rr := rrP X (ptL X r) l r) (A := ptL X r) (dds (fch X r).length (fch X r)) [] hdl (fun w _ i => Nat.le_refl _)
  rw [sum_parts (f := rrP X (ptL X r) l r) _ hdl, ← ns_add] at s1
  have s2 := ns_le (n := ptL X r) (g := tPt X l r) (fun Q hQ => show ns ((dds (fch X r).length (fch X r)).filter (fun d => decide (ptL X d = Q))).length (fun i => pP (cN X Q) (l + btw (bL X) (ptL X r) Q + bL X Q - 1 - (0 + i)) (kB X Q)) + (((dds (fch X r).length (fch X r)).filter (fun d => decide (ptL X d = Q))).map (rrP X (ptL X r) l r)).sum ≤ tPt X l r Q by
    rcases part_rr hI hL hC (l := l) (Q := Q) hr h62 h84 with h | ⟨hp, hlt, h⟩
    · rw [h]; exact Nat.zero_le _
    · unfold tPt
      rw [if_pos hp, (ents_dds (Q := Q) hI hr).2]
      refine Nat.add_le_add (Nat.le_of_eq (ns_cg (fun i _ => by rw [Nat.zero_add]))) h)
  rw [Nat.zero_mul, Nat.zero_add] at main
  rw [e1]
  have s4 := Nat.le_trans main (Nat.le_trans s1 s2)
  omega
end ZH13
