/-! THE ROOM: delivered lists, lot by lot; a delivered lot by the P-lemma alone -/
set_option maxRecDepth 100000
/-- the lots of a part and of those above it -/
def lAb (X : hS) (p : Nat) : Nat := sn X 6 - ns p (bL X)
/-- a delivered list: its lots are searched one behind the other; e of them were searched before -/
def fwL (X : hS) : Nat → List Nat → Nat
  | _, [] => 0
  | e, r :: R => sn X 6 + ns (ptL X r) (tPt X (lAb X (ptL X r) - (e + 1)) r) + fwL X (e + 1) R
section ZH14
variable {z : Nat → Nat} {k : Nat} {X : hS}
theorem all_lots (hI : iAll z k X) : ns (np X) (bL X) = sn X 6 := by
  rw [← lots_below (A := np X)]
  have : ∀ n : Nat, n ≤ sn X 6 → ns n (fun l => if ptL X l < np X then 1 else 0) = n := by
    intro n
    induction n with
    | zero => intro _; rfl
    | succ n ih =>
      intro hn
      obtain ⟨q, hq, -, -, e⟩ := ptL_at hI (l := n) (by omega)
      show ns n _ + (if ptL X n < np X then 1 else 0) = n + 1
      rw [ih (by omega), if_pos (by omega)]
  exact this _ (Nat.le_refl _)
theorem lAb_k (hI : iAll z k X) {p : Nat} (hp : p < np X) : lAb X p + kB X p ≤ kB X (np X) ∧ lAb X p + ns p (bL X) = sn X 6 := by
  have h1 := own_gap (c := cT X) (b := bL X) (mk := mkL X) (m := p) (n := np X) (by omega)
  have h2 := all_lots hI
  have h3 := ns_up (f := bL X) (m := p) (n := np X) (by omega)
  have e1 : kB X p = ns p (ownP (cT X) (bL X) (mkL X)) := rfl
  have e2 : kB X (np X) = ns (np X) (ownP (cT X) (bL X) (mkL X)) := rfl
  unfold lAb
  omega
/-- a part with lots costs calls -/
theorem kB_lt {p : Nat} (hp : p < np X) (hb : 0 < bL X p) : kB X p + 2 ≤ kB X (np X) := by
  have h1 := ns_up (f := ownP (cT X) (bL X) (mkL X)) (m := p + 1) (n := np X) (by omega)
  have h2 := own_b (c := cT X) (b := bL X) (mk := mkL X) (Q := p)
  have e1 : ns (p + 1) (ownP (cT X) (bL X) (mkL X)) = kB X p + ownP (cT X) (bL X) (mkL X) p := rfl
  have e2 : kB X (np X) = ns (np X) (ownP (cT X) (bL X) (mkL X)) := rfl
  omega
theorem lW_split {ch : Nat → List Nat} {n r : Nat} {R : List Nat} : ∀ U : List Nat, (U.map (fun x => lW ch n x (r :: R))).sum = (U.map (fun x => iw ch n x r)).sum + ((out ch n U r).map (fun x => lW ch n x R)).sum
  | [] => rfl
  | x :: U => by
    have ih := lW_split (ch := ch) (n := n) (r := r) (R := R) U
    rw [List.map_cons, List.sum_cons, List.map_cons, List.sum_cons, ih, lW_cons]
    by_cases h : inn ch n x r = true
    · have e2 : out ch n (x :: U) r = out ch n U r := by unfold out; exact List.filter_cons_of_neg (by rw [h]; decide)
      rw [e2, if_pos h]
      omega
    · have h' : inn ch n x r = false := by cases hh : inn ch n x r with
        | true => exact absurd hh h
        | false => rfl
      have e2 : out ch n (x :: U) r = x :: out ch n U r := by unfold out; exact List.filter_cons_of_pos (by rw [h']; rfl)
      rw [e2, if_neg h, List.map_cons, List.sum_cons]
      omega
/-- a delivered list, searched for all of U -/
theorem list_tops (hI : iAll z k X) (hL : iLt z X) (hC : iCk X) (h64 : kB X (np X) ≤ 64) {p : Nat} (hp : p < np X) : ∀ (R E U : List Nat), (E ++ R).Nodup → (∀ r ∈ E ++ R, r < sn X 6 ∧ ptL X r = p) → U.Nodup → (∀ x ∈ U, x < sn X 6) → lftU (fch X) 100 E U →
    (U.map (fun x => lW (fch X) 100 x R)).sum ≤ fwL X E.length R
  | [], E, U, _, _, _, _, _ => by
    have : ∀ U : List Nat, (U.map (fun x => lW (fch X) 100 x [])).sum = 0 := by
      intro U
      induction U with
      | nil => rfl
      | cons x U ih => rw [List.map_cons, List.sum_cons, ih]; rfl
    rw [this]
    exact Nat.zero_le _
  | r :: R, E, U, hnd, hR, hU, hU6, hl => by
    have hself : ∀ d : Nat, d < sn X 6 → inn (fch X) 100 d d = true := fun d hd => inn_tIn.mpr ((tIn_step hI.chl hI.n100 hd).mpr (Or.inl rfl))
    obtain ⟨hr6, hrp⟩ := hR r (List.mem_append.mpr (Or.inr List.mem_cons_self))
    have e1 : E ++ r :: R = (E ++ [r]) ++ R := by rw [List.append_assoc]; rfl
    rw [e1] at hnd hR
    have hMn : (E ++ [r]).Nodup := hnd.sublist (List.sublist_append_left _ _)
    rw [lW_split]
    have ih := list_tops hI hL hC h64 hp R (E ++ [r]) (out (fch X) 100 U r) hnd hR (hU.filter _) (fun x hx => hU6 x (List.mem_filter.mp hx).1) (fun x hx d hd => by
      rcases List.mem_append.mp hd with h | h
      · exact hl x (List.mem_filter.mp hx).1 d h
      · rw [List.mem_singleton] at h
        rw [h]; exact out_inn x hx)
    rw [List.length_append] at ih
    have ih : ((out (fch X) 100 U r).map (fun x => lW (fch X) 100 x R)).sum ≤ fwL X (E.length + 1) R := ih
    obtain ⟨k1, k2⟩ := lAb_k hI hp
    have hb := bL_pos (X := X) hr6
    rw [hrp] at hb
    have k3 := kB_lt (X := X) hp hb
    -- the lots of M are of part p
    have hMl : (E ++ [r]).length ≤ lAb X p := by
      have := len_ns (N := sn X 6) (P := fun x => ptL X x = p) hMn (fun x hx => hR x (List.mem_append.mpr (Or.inl hx)))
      have h2 : ns (sn X 6) (fun l => if ptL X l = p then 1 else 0) = bL X p := rfl
      have h3 := ns_up (f := bL X) (m := p + 1) (n := np X) (by omega)
      have e : ns (p + 1) (bL X) = ns p (bL X) + bL X p := rfl
      have h4 := all_lots hI
      omega
    rw [List.length_append] at hMl
    have hMl : E.length + 1 ≤ lAb X p := hMl
    have hfil : (U.map (fun x => iw (fch X) 100 x r)).sum = ((U.filter (fun x => !(x == r))).map (fun x => iw (fch X) 100 x r)).sum := sum_filter U (fun x _ hx => by
      have hx : x = r := by
        cases hh : x == r with
        | true => exact beq_iff_eq.mp hh
        | false => rw [hh] at hx; exact absurd hx (by decide)
      rw [hx]
      unfold iw
      rw [if_pos (beq_self_eq_true r)])
    have ht := top_lots hI hL hC (r := r) (l := lAb X p - (E.length + 1)) (U := U.filter (fun x => !(x == r))) (M := E ++ [r]) hr6 (by rw [hrp]; omega) (by rw [hrp]; omega) (hU.filter _) (fun x hx => hU6 x (List.mem_filter.mp hx).1) hMn (fun m hm => by
      obtain ⟨g1, g2⟩ := hR m (List.mem_append.mpr (Or.inl hm))
      refine ⟨g1, by rw [g2, hrp], fun hmU => ?_⟩
      obtain ⟨h1, h2⟩ := List.mem_filter.mp hmU
      rcases List.mem_append.mp hm with h | h
      · have := hl m h1 m h
        rw [hself m g1] at this
        exact absurd this (by decide)
      · rw [List.mem_singleton] at h
        rw [h, beq_self_eq_true] at h2
        exact absurd h2 (by decide)) (List.mem_append.mpr (Or.inr (List.mem_singleton.mpr rfl))) (by
      rw [List.length_append, hrp]
      show sn X 6 ≤ ns p (bL X) + (lAb X p - (E.length + 1)) + (E.length + 1)
      omega)
    have hlen : (U.filter (fun x => !(x == r))).length ≤ sn X 6 := by
      have h1 := len_ns (N := sn X 6) (P := fun _ => True) (hU.filter (fun x => !(x == r))) (fun x hx => ⟨hU6 x (List.mem_filter.mp hx).1, trivial⟩)
      have h2 : ∀ n : Nat, ns n (fun _ => if True then 1 else 0) = n := by
        intro n
        induction n with
        | zero => rfl
        | succ n ih => show ns n _ + _ = _; rw [ih, if_pos trivial]
      rw [h2] at h1
      exact h1
    show _ ≤ sn X 6 + ns (ptL X r) (tPt X (lAb X (ptL X r) - (E.length + 1)) r) + fwL X (E.length + 1) R
    rw [hfil]
    rw [hrp] at ht ⊢
    omega
/-- all lots looked for in a lot, by the P-lemma alone -/
theorem other_cost (hI : iAll z k X) (hL : iLt z X) (hC : iCk X) (h64 : kB X (np X) ≤ 64) {r : Nat} (hr : r < sn X 6) :
    ((allL X).map (fun x => iw (fch X) 100 x r)).sum ≤ pP (cN X (ptL X r)) (lAb X (ptL X r) - 1) (kB X (ptL X r)) := by
  obtain ⟨p, hp, -, -, e3⟩ := ptL_at hI hr
  have hb := bL_pos (X := X) hr
  obtain ⟨k1, k2⟩ := lAb_k hI (p := ptL X r) (by omega)
  have k3 := kB_lt (X := X) (p := ptL X r) (by omega) hb
  have hself : inn (fch X) 100 r r = true := inn_tIn.mpr ((tIn_step hI.chl hI.n100 hr).mpr (Or.inl rfl))
  have hp := p_lemma hI hL hC (r + 1) r (lAb X (ptL X r) - 1) ((got (fch X) 100 (allL X) r).filter (fun x => !(r == x))) (by omega) hr (by omega) (by omega) ((List.nodup_range.filter _).filter _) (fun x hx => by
    obtain ⟨g1, g2⟩ := List.mem_filter.mp hx
    exact ⟨got_inn x g1, fun e => by rw [e, beq_self_eq_true] at g2; exact absurd g2 (by decide)⟩)
  have hgot : ((got (fch X) 100 (allL X) r).map (fun x => iw (fch X) 100 x r)).sum = (((got (fch X) 100 (allL X) r).filter (fun x => !(r == x))).map (fun x => iw (fch X) 100 x r)).sum := sum_filter _ (fun x _ hf => by
    unfold iw
    have : (r == x) = true := by
      cases hh : r == x with
      | true => rfl
      | false => rw [hh] at hf; exact absurd hf (by decide)
    rw [if_pos this])
  have hs : ∀ U : List Nat, (U.map (fun x => iw (fch X) 100 x r)).sum = ((got (fch X) 100 U r).map (fun x => iw (fch X) 100 x r)).sum + (out (fch X) 100 U r).length * nT X r := by
    intro U
    induction U with
    | nil => show 0 = 0 + 0 * _; rw [Nat.zero_mul, Nat.zero_add]
    | cons x U ih =>
      rw [List.map_cons, List.sum_cons, ih]
      by_cases h : inn (fch X) 100 x r = true
      · have f1 : got (fch X) 100 (x :: U) r = x :: got (fch X) 100 U r := by unfold got; exact List.filter_cons_of_pos h
        have f2 : out (fch X) 100 (x :: U) r = out (fch X) 100 U r := by unfold out; exact List.filter_cons_of_neg (by rw [h]; decide)
        rw [f1, f2, List.map_cons, List.sum_cons]
        omega
      · have h' : inn (fch X) 100 x r = false := by cases hh : inn (fch X) 100 x r with
          | true => exact absurd hh h
          | false => rfl
        have f1 : got (fch X) 100 (x :: U) r = got (fch X) 100 U r := by unfold got; exact List.filter_cons_of_neg h
        have f2 : out (fch X) 100 (x :: U) r = x :: out (fch X) 100 U r := by unfold out; exact List.filter_cons_of_pos (by rw [h']; rfl)
        rw [f1, f2, List.length_cons, Nat.succ_mul, iw_out h']
        have : tN (fch X) 100 r = nT X r := rfl
        omega
  rw [hs, hgot]
  have hc := (out_cnt hI (A := np X) (D := []) (U := allL X) hr (by omega) List.nodup_range (fun x _ d hd => absurd hd List.not_mem_nil) List.nodup_nil List.not_mem_nil (fun d hd => absurd hd List.not_mem_nil) (fun x hx => by
    have hx := List.mem_range.mp hx
    obtain ⟨q, hq, -, -, e⟩ := ptL_at hI hx
    exact ⟨hx, by omega⟩)).1
  have e0 : cntD (ptL X) [] r = 0 := rfl
  rw [e0, all_lots hI] at hc
  have hm := Nat.mul_le_mul_right (nT X r) (show (out (fch X) 100 (allL X) r).length ≤ lAb X (ptL X r) - 1 + (uoL X r).length by omega)
  omega
end ZH14
