/-! trees: only what lies below counts -/
set_option maxRecDepth 100000
theorem any_cg {α : Type} {p q : α → Bool} : ∀ {L : List α}, (∀ x ∈ L, p x = q x) → L.any p = L.any q
  | [], _ => rfl
  | a :: t, h => by
    rw [List.any_cons, List.any_cons, h a List.mem_cons_self, any_cg (fun x hx => h x (List.mem_cons_of_mem _ hx))]
theorem tHeld_cg {h h' : Nat → Bool} {ch ch' : Nat → List Nat} {N : Nat} (hh : ∀ i : Nat, i < N → h' i = h i) (hc : ∀ i : Nat, i < N → ch' i = ch i) (hlt : ∀ i : Nat, i < N → ∀ y ∈ ch i, y < N) : ∀ n i : Nat, i < N → tHeld h' ch' n i = tHeld h ch n i := by
  intro n
  induction n with
  | zero => intro i _; rfl
  | succ n ih =>
    intro i hi
    unfold tHeld
    rw [hh i hi, hc i hi, any_cg (fun y hy => ih y (hlt i hi y hy))]
theorem tN_cg {ch ch' : Nat → List Nat} {N : Nat} (hc : ∀ i : Nat, i < N → ch' i = ch i) (hlt : ∀ i : Nat, i < N → ∀ y ∈ ch i, y < N) : ∀ n i : Nat, i < N → tN ch' n i = tN ch n i := by
  intro n
  induction n with
  | zero => intro i _; rfl
  | succ n ih =>
    intro i hi
    unfold tN
    rw [hc i hi, List.map_congr_left (fun y hy => ih y (hlt i hi y hy))]
theorem tHas_cg {ch ch' : Nat → List Nat} {N : Nat} (hc : ∀ i : Nat, i < N → ch' i = ch i) (hlt : ∀ i : Nat, i < N → ∀ y ∈ ch i, y < N) : ∀ n x i : Nat, i < N → tHas ch' n x i = tHas ch n x i := by
  intro n
  induction n with
  | zero => intro x i _; rfl
  | succ n ih =>
    intro x i hi
    unfold tHas
    rw [hc i hi, any_cg (fun y hy => by rw [ih x y (hlt i hi y hy)])]
/-- lists by numbers -/
theorem isum_cg {f g : Nat → Int} : ∀ {n : Nat}, (∀ i : Nat, i < n → f i = g i) → isum n f = isum n g := by
  intro n h
  unfold isum
  rw [List.map_congr_left (fun i hi => h i (List.mem_range.mp hi))]
theorem isum_succ {f : Nat → Int} {n : Nat} : isum (n + 1) f = isum n f + f n := by
  unfold isum
  rw [List.range_succ, List.map_append, List.sum_append, List.map_cons, List.map_nil, List.sum_cons, List.sum_nil, Int.add_zero]
/-- one term changes -/
theorem isum_up {f g : Nat → Int} {j : Nat} {d : Int} (hj : g j = f j + d) (hne : ∀ i : Nat, i ≠ j → g i = f i) : ∀ {n : Nat}, j < n → isum n g = isum n f + d := by
  intro n
  induction n with
  | zero => intro h; omega
  | succ n ih =>
    intro h
    rw [isum_succ, isum_succ]
    by_cases e : j = n
    · subst e
      rw [hj, isum_cg (fun i hi => hne i (by omega))]
      omega
    · rw [ih (by omega), hne n (fun q => e q.symm)]
      omega
theorem isum_nn {f : Nat → Int} : ∀ {n : Nat}, (∀ i : Nat, i < n → 0 ≤ f i) → 0 ≤ isum n f := by
  intro n
  induction n with
  | zero => intro _; exact Int.le_refl _
  | succ n ih => intro h; rw [isum_succ]; have := ih (fun i hi => h i (by omega)); have := h n (by omega); omega
theorem isum_ge {f : Nat → Int} {j : Nat} : ∀ {n : Nat}, (∀ i : Nat, i < n → 0 ≤ f i) → j < n → f j ≤ isum n f := by
  intro n
  induction n with
  | zero => intro _ h; omega
  | succ n ih =>
    intro h hj
    rw [isum_succ]
    by_cases e : j = n
    · subst e
      have := isum_nn (fun i hi => h i (by omega) : ∀ i : Nat, i < j → 0 ≤ f i)
      omega
    · have := ih (fun i hi => h i (by omega)) (by omega)
      have := h n (by omega)
      omega
theorem pl_nil {l : Nat} : pl [] l = 0 := rfl
theorem pl_cons {q : Int × Int} {L : List (Int × Int)} {l : Nat} : pl (q :: L) l = (if q.1 = (l : Int) then q.2 else 0) + pl L l := by
  unfold pl
  rw [List.map_cons, List.sum_cons]
theorem pl_app {L M : List (Int × Int)} {l : Nat} : pl (L ++ M) l = pl L l + pl M l := by
  unfold pl
  rw [List.map_append, List.sum_append]
theorem pl_nn {l : Nat} : ∀ {L : List (Int × Int)}, (∀ q ∈ L, 0 ≤ q.2) → 0 ≤ pl L l
  | [], _ => Int.le_refl _
  | q :: t, h => by
    rw [pl_cons]
    have h1 := pl_nn (l := l) (fun x hx => h x (List.mem_cons_of_mem _ hx))
    have h2 := h q List.mem_cons_self
    split <;> omega
