/-! THE ROOM: searching a lot in a tree, by what isn't found yet (plain) -/
set_option maxRecDepth 100000
section ZE10
variable {ch : Nat → List Nat} {M : Nat}
/-- x is y or below it -/
def inn (ch : Nat → List Nat) (n x y : Nat) : Bool := y == x || tHas ch n x y
/-- what is walked below y to find x -/
def iw (ch : Nat → List Nat) (n x y : Nat) : Nat := if y == x then 0 else tWalk ch n x y
/-- along a list -/
def lW (ch : Nat → List Nat) (n x : Nat) (L : List Nat) : Nat := tWs (inn ch n x) (iw ch n x) L
theorem lW_nil {n x : Nat} : lW ch n x [] = 0 := rfl
theorem lW_cons {n x y : Nat} {L : List Nat} : lW ch n x (y :: L) = iw ch n x y + (if inn ch n x y = true then 0 else lW ch n x L) := rfl
theorem tWalk_succ {n x i : Nat} : tWalk ch (n + 1) x i = 1 + lW ch n x (ch i) := rfl
theorem tHas_succ {n x i : Nat} : tHas ch (n + 1) x i = (ch i).any (inn ch n x) := rfl
theorem walk_out : ∀ n x i : Nat, tHas ch n x i = false → tWalk ch n x i = tN ch n i := by
  intro n
  induction n with
  | zero => intro x i _; rfl
  | succ n ih =>
    intro x i h
    have h : (ch i).any (inn ch n x) = false := h
    have key : ∀ L : List Nat, L.any (inn ch n x) = false → lW ch n x L = (L.map (tN ch n)).sum := by
      intro L
      induction L with
      | nil => intro _; rfl
      | cons y L ihL =>
        intro hL
        rw [List.any_cons, Bool.or_eq_false_iff] at hL
        have hy := hL.1
        unfold inn at hy
        rw [Bool.or_eq_false_iff] at hy
        rw [lW_cons, hL.1, if_neg (by decide), ihL hL.2, List.map_cons, List.sum_cons]
        unfold iw
        rw [hy.1, if_neg (by decide), ih x y hy.2]
    rw [tWalk_succ, key _ h]
    rfl
theorem lW_out {n x : Nat} : ∀ L : List Nat, L.any (inn ch n x) = false → lW ch n x L = (L.map (tN ch n)).sum := by
  intro L
  induction L with
  | nil => intro _; rfl
  | cons y L ihL =>
    intro hL
    rw [List.any_cons, Bool.or_eq_false_iff] at hL
    have hy := hL.1
    unfold inn at hy
    rw [Bool.or_eq_false_iff] at hy
    rw [lW_cons, hL.1, if_neg (by decide), ihL hL.2, List.map_cons, List.sum_cons]
    unfold iw
    rw [hy.1, if_neg (by decide), walk_out n x y hy.2]
theorem iw_out {n x y : Nat} (h : inn ch n x y = false) : iw ch n x y = tN ch n y := by
  unfold inn at h
  rw [Bool.or_eq_false_iff] at h
  unfold iw
  rw [h.1, if_neg (by decide), walk_out n x y h.2]
theorem walk_le : ∀ n x i : Nat, tWalk ch n x i ≤ tN ch n i := by
  intro n
  induction n with
  | zero => intro x i; exact Nat.le_refl _
  | succ n ih =>
    intro x i
    have key : ∀ L : List Nat, lW ch n x L ≤ (L.map (tN ch n)).sum := by
      intro L
      induction L with
      | nil => exact Nat.le_refl _
      | cons y L ihL =>
        rw [lW_cons, List.map_cons, List.sum_cons]
        have h1 : iw ch n x y ≤ tN ch n y := by
          unfold iw
          split
          · exact Nat.zero_le _
          · exact ih x y
        have h2 : (if inn ch n x y = true then 0 else lW ch n x L) ≤ (L.map (tN ch n)).sum := by
          split
          · exact Nat.zero_le _
          · exact ihL
        exact Nat.add_le_add h1 h2
    rw [tWalk_succ]
    show 1 + lW ch n x (ch i) ≤ 1 + ((ch i).map (tN ch n)).sum
    have := key (ch i)
    omega
/-- the lots of U that aren't found in y -/
def out (ch : Nat → List Nat) (n : Nat) (U : List Nat) (y : Nat) : List Nat := U.filter (fun x => !inn ch n x y)
def got (ch : Nat → List Nat) (n : Nat) (U : List Nat) (y : Nat) : List Nat := U.filter (fun x => inn ch n x y)
/-- one entry: those found in it walk in it, the others walk all of it and go on -/
theorem lW_sum {n y : Nat} {L : List Nat} : ∀ U : List Nat, (U.map (fun x => lW ch n x (y :: L))).sum = ((got ch n U y).map (fun x => iw ch n x y)).sum + (out ch n U y).length * tN ch n y + ((out ch n U y).map (fun x => lW ch n x L)).sum := by
  intro U
  induction U with
  | nil =>
    show 0 = 0 + 0 * tN ch n y + 0
    rw [Nat.zero_mul]
  | cons x U ih =>
    rw [List.map_cons, List.sum_cons, ih, lW_cons]
    by_cases h : inn ch n x y = true
    · have e1 : got ch n (x :: U) y = x :: got ch n U y := by unfold got; exact List.filter_cons_of_pos h
      have e2 : out ch n (x :: U) y = out ch n U y := by unfold out; exact List.filter_cons_of_neg (by rw [h]; decide)
      rw [e1, e2, if_pos h, List.map_cons, List.sum_cons]
      omega
    · have h' : inn ch n x y = false := by cases hh : inn ch n x y with
        | true => exact absurd hh h
        | false => rfl
      have e1 : got ch n (x :: U) y = got ch n U y := by unfold got; exact List.filter_cons_of_neg h
      have e2 : out ch n (x :: U) y = x :: out ch n U y := by unfold out; exact List.filter_cons_of_pos (by rw [h']; rfl)
      rw [e1, e2, if_neg h, List.map_cons, List.sum_cons, List.length_cons, Nat.add_mul, Nat.one_mul, iw_out h']
      omega
theorem iw_in {n x y : Nat} : iw ch (n + 1) x y = if y == x then 0 else 1 + lW ch n x (ch y) := rfl
theorem got_sum {n y : Nat} : ∀ U : List Nat, (U.map (fun x => iw ch (n + 1) x y)).sum ≤ U.length + ((U.filter (fun x => !(y == x))).map (fun x => lW ch n x (ch y))).sum := by
  intro U
  induction U with
  | nil => exact Nat.zero_le _
  | cons x U ih =>
    rw [List.map_cons, List.sum_cons, iw_in, List.length_cons]
    by_cases h : (y == x) = true
    · have e : (x :: U).filter (fun x => !(y == x)) = U.filter (fun x => !(y == x)) := List.filter_cons_of_neg (by rw [h]; decide)
      rw [e, if_pos h]
      omega
    · have e : (x :: U).filter (fun x => !(y == x)) = x :: U.filter (fun x => !(y == x)) := List.filter_cons_of_pos (by
        cases hh : (y == x) with
        | true => exact absurd hh h
        | false => rfl)
      rw [e, if_neg h, List.map_cons, List.sum_cons]
      omega
end ZE10
