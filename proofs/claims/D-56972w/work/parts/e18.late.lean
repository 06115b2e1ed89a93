/-! THE ROOM: lots found late in a tree: the walks' sum by what isn't found yet -/
set_option maxRecDepth 100000
/-- calls that a lot costs -/
def wt (X : hS) (l : Nat) : Nat := if mkL X (ptL X l) = true then 2 else 1
/-- all calls of the parts below A -/
def kB (X : hS) (A : Nat) : Nat := ns A (ownP (cT X) (bL X) (mkL X))
/-- components of A -/
def cN (X : hS) (A : Nat) : Nat := ns A (cT X A)
/-- bought lots in a list -/
def nbo (X : hS) (L : List Nat) : Nat := (L.filter (fun l => !mkL X (ptL X l))).length
/-- nodes that are walked while m lots, at most a of them bought, aren't found -/
def gE (c k a m : Nat) : Nat := 1 + jt 0 c 0 (k - (m + (m - a)))
section ZE18
variable {z : Nat → Nat} {k : Nat} {X : hS} {x r A a : Nat}
theorem ns_mem {n : Nat} {P : Nat → Prop} [DecidablePred P] {f : Nat → Nat} {L : List Nat} (hnd : L.Nodup) (hL : ∀ y ∈ L, y < n ∧ P y) : (L.map f).sum ≤ ns n (fun l => if P l then f l else 0) := by
  rw [ns_mapsum (n := n) L (fun y hy => (hL y hy).1)]
  refine ns_le (fun l _ => ?_)
  by_cases h : l ∈ L
  · rw [if_pos (hL l h).2]
    have := Nat.mul_le_mul_right (f l) (count_nd hnd l)
    omega
  · rw [List.count_eq_zero.mpr h, Nat.zero_mul]; exact Nat.zero_le _
/-- lots outside a set don't count -/
theorem own_sub (hA : A ≤ np X) {V : Nat → Bool} {L : List Nat} (hnd : L.Nodup) (hL : ∀ y ∈ L, y < sn X 6 ∧ ptL X y < A ∧ V y = false) :
    ns A (ownP (cT X) (bKx X V) (mkL X)) + (L.map (wt X)).sum ≤ kB X A := by
  have h1 := ns_mem (n := sn X 6) (P := fun y => ptL X y < A ∧ V y = false) (f := wt X) hnd hL
  refine Nat.le_trans (Nat.add_le_add_left h1 _) ?_
  have e1 : ns (sn X 6) (fun l => if ptL X l < A ∧ V l = false then wt X l else 0) = ns A (fun B => (if mkL X B = true then 2 else 1) * ns (sn X 6) (fun l => if ptL X l = B ∧ V l = false then 1 else 0)) := by
    have e2 : ns A (fun B => (if mkL X B = true then 2 else 1) * ns (sn X 6) (fun l => if ptL X l = B ∧ V l = false then 1 else 0)) = ns A (fun B => ns (sn X 6) (fun l => (if mkL X B = true then 2 else 1) * (if ptL X l = B ∧ V l = false then 1 else 0))) := ns_cg (fun B _ => (ns_mul _ _).symm)
    rw [e2, ns_swap]
    refine ns_cg (fun l _ => ?_)
    by_cases h : ptL X l < A ∧ V l = false
    · rw [if_pos h]
      have e3 : ns A (fun B => (if mkL X B = true then 2 else 1) * (if ptL X l = B ∧ V l = false then 1 else 0)) = ns A (fun B => if B = ptL X l then wt X l else 0) := ns_cg (fun B _ => by
        by_cases hB : ptL X l = B
        · rw [show (if ptL X l = B ∧ V l = false then 1 else 0) = 1 from if_pos ⟨hB, h.2⟩, if_pos hB.symm, Nat.mul_one, ← hB]; rfl
        · rw [show (if ptL X l = B ∧ V l = false then 1 else 0) = 0 from if_neg (fun w => hB w.1), Nat.mul_zero, if_neg (fun w => hB w.symm)])
      rw [e3, ns_one h.1]
    · rw [if_neg h]
      refine ((ns_cg (g := fun _ => 0) (fun B hB => ?_)).trans (ns_zero _)).symm
      rw [show (if ptL X l = B ∧ V l = false then 1 else 0) = 0 from if_neg (fun w => h ⟨by omega, w.2⟩), Nat.mul_zero]
  rw [e1]
  unfold kB
  rw [← ns_add]
  refine ns_le (fun B hB => ?_)
  unfold ownP
  have e4 : bKx X V B = bK X V B := if_pos (by omega)
  have e5 : bK X V B + ns (sn X 6) (fun l => if ptL X l = B ∧ V l = false then 1 else 0) = bL X B := by
    unfold bK bL
    rw [← ns_add]
    refine ns_cg (fun l _ => ?_)
    by_cases h : ptL X l = B
    · cases hv : V l with
      | true => rw [if_pos ⟨h, rfl⟩, if_neg (fun w => Bool.false_ne_true w.2.symm), if_pos h]
      | false => rw [if_neg (fun w => Bool.false_ne_true w.2), if_pos ⟨h, rfl⟩, if_pos h]
    · rw [if_neg (fun w => h w.1), if_neg (fun w => h w.1), if_neg h]
  rw [e4, ← e5, Nat.mul_add]
  omega
theorem wt_sum : ∀ L : List Nat, (L.map (wt X)).sum + nbo X L = 2 * L.length
  | [] => rfl
  | y :: L => by
    have ih := wt_sum L
    unfold nbo at ih ⊢
    rw [List.map_cons, List.sum_cons, List.length_cons, List.filter_cons]
    unfold wt
    unfold wt at ih
    cases h : mkL X (ptL X y) with
    | true =>
      rw [if_pos rfl, if_neg (by decide)]
      omega
    | false =>
      rw [if_neg Bool.false_ne_true, if_pos (by rfl), List.length_cons]
      omega
/-- a walk while the lots of a list aren't found -/
theorem walkA (hI : iAll z k X) (hL : iLt z X) (hC : iCk X) (hr : r < sn X 6) (hrx : r ≠ x) (hxr : hB X x r = true) (h62 : kB X (ptL X r) ≤ 62) {L : List Nat} (hnd : L.Nodup) (hM : ∀ y ∈ L, y < sn X 6 ∧ ptL X y < ptL X r ∧ vB X x r y = false) (ha : nbo X L ≤ a) :
    iw (fch X) 100 x r ≤ gE (cN X (ptL X r)) (kB X (ptL X r)) a L.length := by
  obtain ⟨p, hp, -, -, e3⟩ := ptL_at hI hr
  have h1 := own_sub (X := X) (A := ptL X r) (by omega) (V := vB X x r) hnd hM
  have h2 := wt_sum (X := X) L
  have h5 : nbo X L ≤ L.length := List.length_filter_le _ _
  have h3 := walk_tab hI hL hC hr hrx hxr (by omega)
  refine Nat.le_trans h3 ?_
  unfold gE
  have h4 : ns (ptL X r) (ownP (cT X) (bKx X (vB X x r)) (mkL X)) ≤ kB X (ptL X r) - (L.length + (L.length - a)) := by omega
  have := J_mono (i := 0) (c := ns (ptL X r) (cT X (ptL X r))) (r := 0) (by decide) (skC hI _).1 (by decide) h4 (by omega)
  unfold cN
  omega
/-- the walks' sum, lots in the order in which they are found, last first; those of P come later still -/
theorem lateL (hI : iAll z k X) (hL : iLt z X) (hC : iCk X) (hr : r < sn X 6) (h62 : kB X (ptL X r) ≤ 62) : ∀ (U P : List Nat), (U.Pairwise (fun y x => iw (fch X) 100 x r ≤ iw (fch X) 100 y r)) → (P ++ U).Nodup → (∀ y ∈ P ++ U, y < sn X 6 ∧ ptL X y < ptL X r) → (∀ x ∈ U, r ≠ x ∧ hB X x r = true) → (∀ x ∈ U, ∀ p ∈ P, vB X x r p = false) → nbo X (P ++ U) ≤ a →
    (U.map (fun x => iw (fch X) 100 x r)).sum ≤ ns U.length (fun i => gE (cN X (ptL X r)) (kB X (ptL X r)) a (P.length + i + 1))
  | [], P, _, _, _, _, _, _ => Nat.zero_le _
  | x :: U, P, hp, hnd, hlt, hx, hV, ha => by
    rw [List.pairwise_cons] at hp
    have e : P ++ x :: U = (P ++ [x]) ++ U := by rw [List.append_assoc]; rfl
    rw [e] at hnd hlt ha
    have h100 := hI.n100
    have hxx := hx x List.mem_cons_self
    have hself : vB X x r x = false := by
      cases h : vB X x r x with
      | false => rfl
      | true => exact (pch_not hI.chl h100 (r + 1) r (by omega) hr hxx.1 (vB_tIn.mp h)).elim
    have w1 := walkA (L := P ++ [x]) (a := a) hI hL hC hr hxx.1 hxx.2 h62 (hnd.sublist (List.sublist_append_left _ _)) (fun y hy => by
      have h1 := hlt y (List.mem_append.mpr (Or.inl hy))
      refine ⟨h1.1, h1.2, ?_⟩
      rcases List.mem_append.mp hy with h | h
      · exact hV x List.mem_cons_self y h
      · rw [List.mem_singleton] at h
        rw [h]; exact hself) (Nat.le_trans (by
          unfold nbo
          rw [List.filter_append (P ++ [x]) U, List.length_append]
          exact Nat.le_add_right _ _) ha)
    have w2 := lateL hI hL hC hr h62 U (P ++ [x]) hp.2 hnd hlt (fun y hy => hx y (List.mem_cons_of_mem _ hy)) (fun y hy p hp2 => by
      rcases List.mem_append.mp hp2 with h | h
      · exact hV y (List.mem_cons_of_mem _ hy) p h
      · rw [List.mem_singleton] at h
        subst h
        have hle := hp.1 y hy
        have hyy := hx y (List.mem_cons_of_mem _ hy)
        cases hv : vB X y r p with
        | false => rfl
        | true =>
          have := time_lt hI.chl h100 100 r (by omega) hr hyy.1 (vB_tIn.mp hv) (inn_tIn.mp hyy.2)
          omega) ha
    rw [List.map_cons, List.sum_cons, List.length_cons]
    rw [List.length_append, List.length_cons, List.length_nil] at w1 w2
    have e2 : ∀ (n : Nat) (f : Nat → Nat), ns (n + 1) f = f 0 + ns n (fun i => f (i + 1)) := by
      intro n f
      induction n with
      | zero => show 0 + f 0 = f 0 + 0; omega
      | succ n ih =>
        show ns (n + 1) f + f (n + 1) = f 0 + (ns n (fun i => f (i + 1)) + f (n + 1))
        rw [ih]; omega
    rw [e2]
    have e3 : ns U.length (fun i => gE (cN X (ptL X r)) (kB X (ptL X r)) a (P.length + (0 + 1) + i + 1)) = ns U.length (fun i => gE (cN X (ptL X r)) (kB X (ptL X r)) a (P.length + (i + 1) + 1)) := ns_cg (fun i _ => by rw [show P.length + (0 + 1) + i + 1 = P.length + (i + 1) + 1 from by omega])
    rw [e3] at w2
    have e4 : gE (cN X (ptL X r)) (kB X (ptL X r)) a (P.length + (0 + 1)) = gE (cN X (ptL X r)) (kB X (ptL X r)) a (P.length + 0 + 1) := by rw [show P.length + (0 + 1) = P.length + 0 + 1 from by omega]
    rw [e4] at w1
    exact Nat.add_le_add w1 w2
/-- the walks' sum over lots of a tree; those of P aren't in it -/
theorem late (hI : iAll z k X) (hL : iLt z X) (hC : iCk X) (hr : r < sn X 6) (h62 : kB X (ptL X r) ≤ 62) (U P : List Nat) (hnd : (P ++ U).Nodup) (hlt : ∀ y ∈ P ++ U, y < sn X 6 ∧ ptL X y < ptL X r) (hU : ∀ x ∈ U, hB X x r = true) (hP : ∀ p ∈ P, hB X p r = false) (ha : nbo X (P ++ U) ≤ a) :
    (U.map (fun x => iw (fch X) 100 x r)).sum ≤ ns U.length (fun i => gE (cN X (ptL X r)) (kB X (ptL X r)) a (P.length + i + 1)) := by
  have h100 := hI.n100
  let le : Nat → Nat → Bool := fun y x => decide (iw (fch X) 100 x r ≤ iw (fch X) 100 y r)
  have hperm := List.mergeSort_perm U le
  have hpw := List.pairwise_mergeSort (le := le) (fun a b c h1 h2 => by
    have h1 := of_decide_eq_true h1
    have h2 := of_decide_eq_true h2
    exact decide_eq_true (Nat.le_trans h2 h1)) (fun a b => by
    rw [Bool.or_eq_true]
    rcases Nat.le_total (iw (fch X) 100 b r) (iw (fch X) 100 a r) with h | h
    · exact Or.inl (decide_eq_true h)
    · exact Or.inr (decide_eq_true h)) U
  have hp2 : (P ++ U.mergeSort le).Perm (P ++ U) := hperm.append_left P
  have h := lateL (a := a) hI hL hC hr h62 (U.mergeSort le) P (hpw.imp (fun h => of_decide_eq_true h)) (hp2.nodup_iff.mpr hnd) (fun y hy => hlt y (hp2.subset hy)) (fun x hx => by
    have hxU := hperm.subset hx
    refine ⟨fun e => ?_, hU x hxU⟩
    have := (hlt x (List.mem_append.mpr (Or.inr hxU))).2
    rw [e] at this
    omega) (fun x hx p hp => by
    cases hv : vB X x r p with
    | false => rfl
    | true =>
      have : hB X p r = true := inn_tIn.mpr (tIn_pch hI.chl h100 (r + 1) r (by omega) hr (vB_tIn.mp hv))
      rw [hP p hp] at this
      exact absurd this Bool.false_ne_true) (by
    unfold nbo at ha ⊢
    rw [(hp2.filter _).length_eq]
    exact ha)
  rw [hperm.length_eq] at h
  rw [← (hperm.map (fun x => iw (fch X) 100 x r)).sum_nat]
  exact h
end ZE18
