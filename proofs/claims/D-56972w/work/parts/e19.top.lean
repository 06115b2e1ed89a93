/-! THE ROOM: all lots looked for in one lot's tree -/
set_option maxRecDepth 100000
/-- lots that are not in y's tree -/
def lam (X : hS) (y : Nat) : Nat := ns (sn X 6) (fun l => if hB X l y = true then 0 else 1)
/-- those of a list that lie below part B -/
def cnB (X : hS) (U : List Nat) (B : Nat) : Nat := (U.filter (fun l => decide (ptL X l < B))).length
/-- the late lots' walks, s lots below B -/
def eaS (X : hS) (a B s : Nat) : Nat := ns s (fun i => gE (cN X B) (kB X B) a (i + 1))
section ZE19
variable {z : Nat → Nat} {k : Nat} {X : hS} {r a : Nat}
theorem tWalk_fuel {ch : Nat → List Nat} {N : Nat} (hlt : ∀ i : Nat, i < N → ∀ y ∈ ch i, y < i) : ∀ n m x i : Nat, i < N → i < n → i < m → tWalk ch n x i = tWalk ch m x i := by
  intro n
  induction n with
  | zero => intro m x i _ h; omega
  | succ n ih =>
    intro m x i hi hn hm
    cases m with
    | zero => omega
    | succ m =>
      rw [tWalk_succ, tWalk_succ]
      have key : ∀ L : List Nat, (∀ y ∈ L, y < i) → lW ch n x L = lW ch m x L := by
        intro L
        induction L with
        | nil => intro _; rfl
        | cons y L ihL =>
          intro hL
          have hy := hL y List.mem_cons_self
          rw [lW_cons, lW_cons, ihL (fun d hd => hL d (List.mem_cons_of_mem _ hd))]
          have e1 : inn ch n x y = inn ch m x y := by
            unfold inn
            rw [tHas_fuel hlt n m x y (by omega) (by omega) (by omega)]
          have e2 : iw ch n x y = iw ch m x y := by
            unfold iw
            rw [ih m x y (by omega) (by omega) (by omega)]
          rw [e1, e2]
      rw [key (ch i) (hlt i hi)]
theorem eaS_mono {B s t : Nat} (h : s ≤ t) : eaS X a B s ≤ eaS X a B t := by
  obtain ⟨d, rfl⟩ := Nat.le.dest h
  clear h
  induction d with
  | zero => exact Nat.le_refl _
  | succ d ih =>
    show _ ≤ ns (s + d) _ + _
    exact Nat.le_trans ih (Nat.le_add_right _ _)
theorem eaS_add {B s : Nat} : ∀ t : Nat, eaS X a B s + ns t (fun i => gE (cN X B) (kB X B) a (s + i + 1)) = eaS X a B (s + t)
  | 0 => rfl
  | t + 1 => by
    show eaS X a B s + (ns t (fun i => gE (cN X B) (kB X B) a (s + i + 1)) + gE (cN X B) (kB X B) a (s + t + 1)) = eaS X a B (s + t) + gE (cN X B) (kB X B) a (s + t + 1)
    rw [← eaS_add t]
    omega
/-- lots in a tree, but its root, are of lower parts -/
theorem tree_lt (hI : iAll z k X) (hL : iLt z X) (hC : iCk X) : ∀ n y l : Nat, y < n → y < sn X 6 → tIn (fch X) l y → l = y ∨ (l < sn X 6 ∧ ptL X l < ptL X y) := by
  intro n
  induction n with
  | zero => intro y l h; omega
  | succ n ih =>
    intro y l hy hy6 h
    rcases (tIn_step hI.chl hI.n100 hy6).mp h with e | ⟨w, hw, h2⟩
    · exact Or.inl e
    · have hwy := hI.chl y hy6 w hw
      have hp := ((flT hI hL hC).1 y w hy6 (by omega) (List.count_pos_iff.mpr hw)).1
      rcases ih w l (by omega) (by omega) h2 with e | ⟨e1, e2⟩
      · subst e
        exact Or.inr ⟨by omega, hp⟩
      · exact Or.inr ⟨e1, by omega⟩
theorem sum_filter {f : Nat → Nat} {p : Nat → Bool} : ∀ U : List Nat, (∀ x ∈ U, p x = false → f x = 0) → (U.map f).sum = ((U.filter p).map f).sum
  | [], _ => rfl
  | x :: U, h => by
    rw [List.map_cons, List.sum_cons, sum_filter U (fun y hy => h y (List.mem_cons_of_mem _ hy)), List.filter_cons]
    cases hp : p x with
    | true => rw [if_pos rfl, List.map_cons, List.sum_cons]
    | false => rw [if_neg Bool.false_ne_true, h x List.mem_cons_self hp, Nat.zero_add]
/-- a list of lots, looked through for all of U -/
theorem list_late (hI : iAll z k X) (hL : iLt z X) (hC : iCk X) : ∀ (L U : List Nat), (∀ y ∈ L, y < sn X 6 ∧ kB X (ptL X y) ≤ 62) → U.Nodup → (∀ x ∈ U, x < sn X 6) → nbo X U ≤ a →
    (U.map (fun x => lW (fch X) 100 x L)).sum ≤ (L.map (fun y => lam X y * nT X y)).sum + ns (np X) (fun B => if (L.any (fun y => decide (ptL X y = B))) = true then eaS X a B (cnB X U B) else 0)
  | [], U, _, _, _, _ => by
    have : ∀ U : List Nat, (U.map (fun x => lW (fch X) 100 x [])).sum = 0 := by
      intro U
      induction U with
      | nil => rfl
      | cons x U ih => rw [List.map_cons, List.sum_cons, ih]; rfl
    rw [this]
    exact Nat.zero_le _
  | y :: L, U, hy, hnd, hU, ha => by
    obtain ⟨hy6, hy62⟩ := hy y List.mem_cons_self
    obtain ⟨p, hp, -, -, e3⟩ := ptL_at hI hy6
    have h100 := hI.n100
    rw [lW_sum U]
    -- what isn't found in y
    have hoN : (out (fch X) 100 U y).Nodup := hnd.filter _
    have hoU : ∀ x ∈ out (fch X) 100 U y, x < sn X 6 := fun x hx => hU x (List.mem_filter.mp hx).1
    have hoa : nbo X (out (fch X) 100 U y) ≤ a := by
      refine Nat.le_trans ?_ ha
      unfold nbo
      exact (List.Sublist.filter _ List.filter_sublist).length_le
    have ih := list_late hI hL hC L (out (fch X) 100 U y) (fun w hw => hy w (List.mem_cons_of_mem _ hw)) hoN hoU hoa
    have h1 : (out (fch X) 100 U y).length ≤ lam X y := by
      have := ns_mem (n := sn X 6) (P := fun l => hB X l y = false) (f := fun _ => 1) hoN (fun x hx => by
        obtain ⟨h1, h2⟩ := List.mem_filter.mp hx
        refine ⟨hU x h1, ?_⟩
        unfold hB
        cases hh : inn (fch X) 100 x y with
        | true => rw [hh] at h2; exact absurd h2 (by decide)
        | false => rfl)
      have e : ((out (fch X) 100 U y).map (fun _ => 1)).sum = (out (fch X) 100 U y).length := by
        generalize out (fch X) 100 U y = M
        induction M with
        | nil => rfl
        | cons m M ih => rw [List.map_cons, List.sum_cons, ih, List.length_cons]; omega
      rw [e] at this
      refine Nat.le_trans this (ns_le (fun l _ => ?_))
      cases hB X l y with
      | true => rw [if_neg (by decide)]; omega
      | false => rw [if_pos rfl, if_neg (by decide)]; omega
    have h2 : (out (fch X) 100 U y).length * tN (fch X) 100 y ≤ lam X y * nT X y := Nat.mul_le_mul_right _ h1
    -- what is found in y
    have hlow : ∀ x ∈ got (fch X) 100 U y, x = y ∨ ptL X x < ptL X y := fun x hx => by
      obtain ⟨g1, g2⟩ := List.mem_filter.mp hx
      rcases tree_lt hI hL hC (y + 1) y x (by omega) hy6 (inn_tIn.mp g2) with e | ⟨-, e⟩
      · exact Or.inl e
      · exact Or.inr e
    have h3 : ((got (fch X) 100 U y).map (fun x => iw (fch X) 100 x y)).sum = (((got (fch X) 100 U y).filter (fun l => decide (ptL X l < ptL X y))).map (fun x => iw (fch X) 100 x y)).sum := sum_filter _ (fun x hx hf => by
      rcases hlow x hx with e | e
      · unfold iw
        rw [if_pos (beq_iff_eq.mpr e.symm)]
      · exact absurd e (of_decide_eq_false hf))
    have hsplit : cnB X U (ptL X y) = cnB X (out (fch X) 100 U y) (ptL X y) + ((got (fch X) 100 U y).filter (fun l => decide (ptL X l < ptL X y))).length := by
      unfold cnB out got
      clear ih h1 h2 h3 hlow hoN hoU hoa hnd hU ha
      induction U with
      | nil => rfl
      | cons x U ihU =>
        cases hi : inn (fch X) 100 x y <;> cases hq : decide (ptL X x < ptL X y) <;> simp only [List.filter_cons, hi, hq, Bool.not_true, Bool.not_false, if_pos, if_false, if_true, Bool.false_eq_true, List.length_cons] <;> omega
    have hfin : (((got (fch X) 100 U y).filter (fun l => decide (ptL X l < ptL X y))).map (fun x => iw (fch X) 100 x y)).sum ≤ ns ((got (fch X) 100 U y).filter (fun l => decide (ptL X l < ptL X y))).length (fun i => gE (cN X (ptL X y)) (kB X (ptL X y)) a (cnB X (out (fch X) 100 U y) (ptL X y) + i + 1)) := by
      have hp : (out (fch X) 100 U y ++ got (fch X) 100 U y).Perm U := by
        have := List.filter_append_perm (fun x => !inn (fch X) 100 x y) U
        have e : U.filter (fun x => !(!inn (fch X) 100 x y)) = got (fch X) 100 U y := by
          unfold got
          exact List.filter_congr (fun x _ => Bool.not_not _)
        rw [e] at this
        exact this
      have hsl : ((out (fch X) 100 U y).filter (fun l => decide (ptL X l < ptL X y)) ++ (got (fch X) 100 U y).filter (fun l => decide (ptL X l < ptL X y))).Sublist (out (fch X) 100 U y ++ got (fch X) 100 U y) := List.Sublist.append List.filter_sublist List.filter_sublist
      have hnd2 := (hp.nodup_iff.mpr hnd).sublist hsl
      refine late hI hL hC hy6 hy62 _ _ hnd2 (fun x hx => ?_) (fun x hx => ?_) (fun x hx => ?_) ?_
      · refine ⟨hU x (hp.subset (hsl.subset hx)), ?_⟩
        rcases List.mem_append.mp hx with h | h <;> exact of_decide_eq_true (List.mem_filter.mp h).2
      · exact (List.mem_filter.mp (List.mem_filter.mp hx).1).2
      · have h5 := (List.mem_filter.mp (List.mem_filter.mp hx).1).2
        unfold hB
        cases hh : inn (fch X) 100 x y with
        | true => rw [hh] at h5; exact absurd h5 (by decide)
        | false => rfl
      · refine Nat.le_trans ?_ ha
        unfold nbo
        rw [← (hp.filter _).length_eq]
        exact (hsl.filter _).length_le
    have hadd := eaS_add (X := X) (a := a) (B := ptL X y) (s := cnB X (out (fch X) 100 U y) (ptL X y)) ((got (fch X) 100 U y).filter (fun l => decide (ptL X l < ptL X y))).length
    rw [← hsplit] at hadd
    rw [List.map_cons, List.sum_cons, h3]
    -- the parts' shares
    have hB1 : ns (np X) (fun B => if (L.any (fun y => decide (ptL X y = B))) = true then eaS X a B (cnB X (out (fch X) 100 U y) B) else 0) + ns ((got (fch X) 100 U y).filter (fun l => decide (ptL X l < ptL X y))).length (fun i => gE (cN X (ptL X y)) (kB X (ptL X y)) a (cnB X (out (fch X) 100 U y) (ptL X y) + i + 1)) ≤ ns (np X) (fun B => if ((y :: L).any (fun y => decide (ptL X y = B))) = true then eaS X a B (cnB X U B) else 0) := by
      have e := ns_one (n := np X) (j := ptL X y) (v := ns ((got (fch X) 100 U y).filter (fun l => decide (ptL X l < ptL X y))).length (fun i => gE (cN X (ptL X y)) (kB X (ptL X y)) a (cnB X (out (fch X) 100 U y) (ptL X y) + i + 1))) (by omega)
      rw [← e, ← ns_add]
      refine ns_le (fun B _ => ?_)
      have hle : cnB X (out (fch X) 100 U y) B ≤ cnB X U B := by
        unfold cnB
        exact (List.Sublist.filter _ List.filter_sublist).length_le
      have hm := eaS_mono (X := X) (a := a) (B := B) hle
      rw [List.any_cons]
      by_cases hBy : B = ptL X y
      · subst hBy
        have c1 : (decide (ptL X y = ptL X y) || L.any (fun w => decide (ptL X w = ptL X y))) = true := by
          rw [decide_eq_true rfl]; rfl
        rw [if_pos rfl, if_pos c1]
        rw [← hadd]
        split <;> omega
      · rw [if_neg hBy, Nat.add_zero]
        have : decide (ptL X y = B) = false := decide_eq_false (fun w => hBy w.symm)
        rw [this, Bool.false_or]
        split
        · exact hm
        · exact Nat.le_refl _
    omega
end ZE19
