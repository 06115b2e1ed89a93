/-! THE ROOM: isSound's costs, but for the searches -/
set_option maxRecDepth 100000
section ZF23
variable {S : hS}
theorem forW_le : fForW S (sn S 6) ≤ sn S 6 + sn S 8 * sn S 6 + ns (sn S 8) (fun o => ((ofs (fDv S o)).map (fun r => ((allL S).map (fun x => iw (fch S) 100 x r)).sum)).sum) := by
  rw [forW_eq]
  exact Nat.add_le_add_left (ns_le (fun o _ => lW_tops _ _)) _
/-- marks that are set -/
def mk1 (r : List Int) : Nat := r.count 1
theorem mk1_set : ∀ (r : List Int) (i : Nat), i < r.length → r.getD i 0 = 0 → mk1 (r.set i 1) = mk1 r + 1
  | [], i, h, _ => absurd h (Nat.not_lt_zero i)
  | a :: r, 0, _, h => by
    have h : a = 0 := h
    subst h
    show ((1 : Int) :: r).count 1 = ((0 : Int) :: r).count 1 + 1
    rw [List.count_cons_self, List.count_cons_of_ne (by decide)]
  | a :: r, i + 1, h, hg => by
    have ih := mk1_set r i (by rw [List.length_cons] at h; omega) hg
    unfold mk1 at ih ⊢
    show (a :: r.set i 1).count 1 = (a :: r).count 1 + 1
    rw [List.count_cons, List.count_cons, ih]
    omega
/-- a walk's cost is the marks that it sets -/
theorem reach_cost {ch : Nat → List Nat} {N : Nat} (hlt : ∀ i : Nat, i < N → ∀ y ∈ ch i, y < i) : ∀ (n i : Nat) (s : List Int × Nat), i < N → s.1.length = N → (tReach ch n i s).1.length = N ∧ (tReach ch n i s).2 + mk1 s.1 = s.2 + mk1 (tReach ch n i s).1 := by
  intro n
  induction n with
  | zero => intro i s _ h; exact ⟨h, rfl⟩
  | succ n ih =>
    intro i s hi hl
    unfold tReach
    split
    · rename_i h0
      have key : ∀ (L : List Nat) (s : List Int × Nat), (∀ y ∈ L, y < N) → s.1.length = N → (L.foldl (fun s y => tReach ch n y s) s).1.length = N ∧ (L.foldl (fun s y => tReach ch n y s) s).2 + mk1 s.1 = s.2 + mk1 (L.foldl (fun s y => tReach ch n y s) s).1 := by
        intro L
        induction L with
        | nil => intro s _ h; exact ⟨h, rfl⟩
        | cons y L ihL =>
          intro s hL h
          obtain ⟨a1, a2⟩ := ih y s (hL y List.mem_cons_self) h
          obtain ⟨b1, b2⟩ := ihL (tReach ch n y s) (fun d hd => hL d (List.mem_cons_of_mem _ hd)) a1
          rw [List.foldl_cons]
          exact ⟨b1, by omega⟩
      obtain ⟨c1, c2⟩ := key (ch i) (s.1.set i 1, s.2 + 1) (fun y hy => by have := hlt i hi y hy; omega) (by rw [List.length_set]; exact hl)
      have hm := mk1_set s.1 i (by omega) h0
      refine ⟨c1, ?_⟩
      have c2' : ((ch i).foldl (fun s y => tReach ch n y s) (s.1.set i 1, s.2 + 1)).2 + mk1 (s.1.set i 1) = (s.2 + 1) + mk1 ((ch i).foldl (fun s y => tReach ch n y s) (s.1.set i 1, s.2 + 1)).1 := c2
      omega
    · exact ⟨hl, rfl⟩
variable {z : Nat → Nat} {k : Nat}
/-- reach marks each lot once -/
theorem rc_cost (hI : iAll z k S) {o : Nat} (ho : o < sn S 8) : (fRc S o).2 ≤ sn S 6 := by
  have h27 := (hI.or o ho).2.2.2.2.2.2.1
  have key : ∀ (L : List Int) (s : List Int × Nat), (∀ t ∈ L, fLotOf S t < sn S 6) → s.1.length = sn S 6 → (L.foldl (fun s t => tReach (fch S) 100 (fLotOf S t) s) s).1.length = sn S 6 ∧ (L.foldl (fun s t => tReach (fch S) 100 (fLotOf S t) s) s).2 + mk1 s.1 = s.2 + mk1 (L.foldl (fun s t => tReach (fch S) 100 (fLotOf S t) s) s).1 := by
    intro L
    induction L with
    | nil => intro s _ h; exact ⟨h, rfl⟩
    | cons t L ihL =>
      intro s hL h
      obtain ⟨a1, a2⟩ := reach_cost hI.chl 100 (fLotOf S t) s (hL t List.mem_cons_self) h
      obtain ⟨b1, b2⟩ := ihL (tReach (fch S) 100 (fLotOf S t) s) (fun d hd => hL d (List.mem_cons_of_mem _ hd)) a1
      rw [List.foldl_cons]
      exact ⟨b1, by omega⟩
  obtain ⟨c1, c2⟩ := key (sE S 27 (fDelL S o)) (List.replicate (sn S 6) 0, 0) (fun t ht => by
    have h1 := hI.tk.2.1 (fDelL S o) (by unfold fDelL; omega) t ht
    have h2 := hI.tk.2.2 t.toNat (by omega)
    unfold fLotOf
    omega) List.length_replicate
  have e : fRc S o = (sE S 27 (fDelL S o)).foldl (fun s t => tReach (fch S) 100 (fLotOf S t) s) (List.replicate (sn S 6) 0, 0) := by
    unfold fRc fRch
    rw [List.take_length]
  rw [← e] at c1 c2
  have hc : mk1 (fRc S o).1 ≤ sn S 6 := by
    rw [← c1]
    exact List.count_le_length
  have c2 : (fRc S o).2 + mk1 (List.replicate (sn S 6) 0) = 0 + mk1 (fRc S o).1 := c2
  omega
/-- the way back: few cells -/
theorem backW_le (hI : iAll z k S) : fBackW S (sn S 8) ≤ sn S 8 * (sn S 6 + 2) := by
  unfold fBackW
  rw [sum_range]
  have one : ∀ n c : Nat, ns n (fun _ => c) = n * c := by
    intro n c
    induction n with
    | zero => exact (Nat.zero_mul c).symm
    | succ n ih => show ns n (fun _ => c) + c = _; rw [ih, Nat.succ_mul]
  rw [← one]
  exact ns_le (fun o ho => by have := rc_cost hI ho; omega)
end ZF23
