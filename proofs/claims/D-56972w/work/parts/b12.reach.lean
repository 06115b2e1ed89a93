/-! WHAT reach MARKS: just the lots that are in a delivered lot's tree -/
set_option maxRecDepth 100000
/-- x is i, or in its tree -/
def tIn (ch : Nat → List Nat) (x i : Nat) : Prop := x = i ∨ tHas ch 100 x i = true
abbrev mkd (r : List Int) (x : Nat) : Prop := r.getD x 0 = 1
section ZBRe
variable {ch : Nat → List Nat} {N : Nat}
theorem tHas_fuel (hlt : ∀ i : Nat, i < N → ∀ y ∈ ch i, y < i) : ∀ n m x i : Nat, i < N → i < n → i < m → tHas ch n x i = tHas ch m x i := by
  intro n
  induction n with
  | zero => intro m x i _ h; omega
  | succ n ih =>
    intro m x i hi hn hm
    cases m with
    | zero => omega
    | succ m =>
      unfold tHas
      exact any_cg (fun y hy => by
        have := hlt i hi y hy
        rw [ih m x y (by omega) (by omega) (by omega)])
theorem tIn_step (hlt : ∀ i : Nat, i < N → ∀ y ∈ ch i, y < i) (hN : N ≤ 100) {x i : Nat} (hi : i < N) : tIn ch x i ↔ x = i ∨ ∃ y ∈ ch i, tIn ch x y := by
  unfold tIn
  have e : tHas ch 100 x i = (ch i).any (fun y => y == x || tHas ch 99 x y) := rfl
  rw [e, List.any_eq_true]
  constructor
  · rintro (h | ⟨y, hy, h⟩)
    · exact Or.inl h
    · refine Or.inr ⟨y, hy, ?_⟩
      have := hlt i hi y hy
      rw [Bool.or_eq_true, beq_iff_eq] at h
      rcases h with h | h
      · exact Or.inl h.symm
      · exact Or.inr (by rw [tHas_fuel hlt 100 99 x y (by omega) (by omega) (by omega)]; exact h)
  · rintro (h | ⟨y, hy, h⟩)
    · exact Or.inl h
    · refine Or.inr ⟨y, hy, ?_⟩
      have := hlt i hi y hy
      rw [Bool.or_eq_true, beq_iff_eq]
      rcases h with h | h
      · exact Or.inl h.symm
      · exact Or.inr (by rw [tHas_fuel hlt 99 100 x y (by omega) (by omega) (by omega)]; exact h)
theorem tIn_le (hlt : ∀ i : Nat, i < N → ∀ y ∈ ch i, y < i) (hN : N ≤ 100) : ∀ n i x : Nat, i < n → i < N → tIn ch x i → x ≤ i := by
  intro n
  induction n with
  | zero => intro i x h; omega
  | succ n ih =>
    intro i x hin hi h
    rcases (tIn_step hlt hN hi).mp h with h | ⟨y, hy, h⟩
    · omega
    · have h1 := hlt i hi y hy
      have := ih y x (by omega) (by omega) h
      omega
theorem tIn_child (hlt : ∀ i : Nat, i < N → ∀ y ∈ ch i, y < i) (hN : N ≤ 100) {y j : Nat} (hyj : y ∈ ch j) : ∀ n i : Nat, i < n → i < N → tIn ch j i → tIn ch y i := by
  intro n
  induction n with
  | zero => intro i h; omega
  | succ n ih =>
    intro i hin hi h
    rcases (tIn_step hlt hN hi).mp h with h | ⟨w, hw, h⟩
    · subst h
      exact (tIn_step hlt hN hi).mpr (Or.inr ⟨y, hyj, Or.inl rfl⟩)
    · have h1 := hlt i hi w hw
      exact (tIn_step hlt hN hi).mpr (Or.inr ⟨w, hw, ih w (by omega) (by omega) h⟩)
/-- below B, what is marked has its children marked -/
def rcl (ch : Nat → List Nat) (N B : Nat) (r : List Int) : Prop := ∀ j : Nat, j < B → j < N → mkd r j → ∀ y ∈ ch j, mkd r y
theorem rcl_desc (hlt : ∀ i : Nat, i < N → ∀ y ∈ ch i, y < i) (hN : N ≤ 100) {r : List Int} {B : Nat} (hc : rcl ch N B r) : ∀ n i x : Nat, i < n → i < N → i < B → mkd r i → tIn ch x i → mkd r x := by
  intro n
  induction n with
  | zero => intro i x h; omega
  | succ n ih =>
    intro i x hin hi hB hm h
    rcases (tIn_step hlt hN hi).mp h with h | ⟨y, hy, h⟩
    · rw [h]; exact hm
    · have h1 := hlt i hi y hy
      exact ih y x (by omega) (by omega) (by omega) (hc i hB hi hm y hy) h
theorem reach_fold (hlt : ∀ i : Nat, i < N → ∀ y ∈ ch i, y < i) (hN : N ≤ 100) {n B : Nat}
    (R : ∀ (y : Nat) (s : List Int × Nat), y < B → y < N → s.1.length = N → rcl ch N (y + 1) s.1 → ∀ x : Nat, x < N → (mkd (tReach ch n y s).1 x ↔ mkd s.1 x ∨ tIn ch x y)) :
    ∀ (L : List Nat) (s : List Int × Nat), (∀ y ∈ L, y < B ∧ y < N) → s.1.length = N → rcl ch N B s.1 →
      rcl ch N B (L.foldl (fun s y => tReach ch n y s) s).1 ∧ ∀ x : Nat, x < N → (mkd (L.foldl (fun s y => tReach ch n y s) s).1 x ↔ mkd s.1 x ∨ ∃ y ∈ L, tIn ch x y) := by
  intro L
  induction L with
  | nil =>
    intro s _ _ hc
    exact ⟨hc, fun x _ => ⟨fun h => Or.inl h, fun h => h.elim id (fun ⟨y, hy, _⟩ => absurd hy List.not_mem_nil)⟩⟩
  | cons a L ih =>
    intro s hL hl hc
    obtain ⟨aB, aN⟩ := hL a List.mem_cons_self
    have hr := R a s aB aN hl (fun j hj hjN => hc j (by omega) hjN)
    have hk := tReach_keep ch n a s
    have hc2 : rcl ch N B (tReach ch n a s).1 := by
      intro j hjB hjN hm y hy
      have hyj := hlt j hjN y hy
      rcases (hr j hjN).mp hm with h | h
      · exact (hr y (by omega)).mpr (Or.inl (hc j hjB hjN h y hy))
      · exact (hr y (by omega)).mpr (Or.inr (tIn_child hlt hN hy (a + 1) a (by omega) aN h))
    obtain ⟨g1, g2⟩ := ih (tReach ch n a s) (fun y hy => hL y (List.mem_cons_of_mem _ hy)) (hk.1.trans hl) hc2
    rw [List.foldl_cons]
    refine ⟨g1, fun x hx => (g2 x hx).trans ?_⟩
    rw [hr x hx]
    constructor
    · rintro ((h | h) | ⟨y, hy, h⟩)
      · exact Or.inl h
      · exact Or.inr ⟨a, List.mem_cons_self, h⟩
      · exact Or.inr ⟨y, List.mem_cons_of_mem _ hy, h⟩
    · rintro (h | ⟨y, hy, h⟩)
      · exact Or.inl (Or.inl h)
      · rcases List.mem_cons.mp hy with rfl | hy
        · exact Or.inl (Or.inr h)
        · exact Or.inr ⟨y, hy, h⟩
theorem mkd_set {r : List Int} {i x : Nat} (hi : i < r.length) : mkd (r.set i 1) x ↔ x = i ∨ mkd r x := by
  unfold mkd
  rw [List.getD_eq_getElem?_getD, List.getD_eq_getElem?_getD]
  by_cases e : i = x
  · subst e
    rw [List.getElem?_set_self hi]
    exact ⟨fun _ => Or.inl rfl, fun _ => rfl⟩
  · rw [List.getElem?_set_ne e]
    exact ⟨fun h => Or.inr h, fun h => h.elim (fun q => absurd q.symm e) id⟩
theorem reach_spec (hlt : ∀ i : Nat, i < N → ∀ y ∈ ch i, y < i) (hN : N ≤ 100) : ∀ (n i : Nat) (s : List Int × Nat), i < n → i < N → s.1.length = N → r01 s.1 → rcl ch N (i + 1) s.1 → ∀ x : Nat, x < N → (mkd (tReach ch n i s).1 x ↔ mkd s.1 x ∨ tIn ch x i) := by
  intro n
  induction n with
  | zero => intro i s h; omega
  | succ n ih =>
    intro i s hin hi hl h01 hc x hx
    unfold tReach
    by_cases h0 : s.1.getD i 0 = 0
    · rw [if_pos h0]
      have h01' : ∀ s' : List Int × Nat, rKeep s s' → r01 s'.1 := fun s' h => h.2.1 h01
      have key : ∀ (L : List Nat) (s1 : List Int × Nat), (∀ y ∈ L, y < i ∧ y < N) → s1.1.length = N → r01 s1.1 → rcl ch N i s1.1 → rcl ch N i (L.foldl (fun s y => tReach ch n y s) s1).1 ∧ ∀ x : Nat, x < N → (mkd (L.foldl (fun s y => tReach ch n y s) s1).1 x ↔ mkd s1.1 x ∨ ∃ y ∈ L, tIn ch x y) := by
        intro L
        induction L with
        | nil =>
          intro s1 _ _ _ hc1
          exact ⟨hc1, fun x _ => ⟨fun h => Or.inl h, fun h => h.elim id (fun ⟨y, hy, _⟩ => absurd hy List.not_mem_nil)⟩⟩
        | cons a L ihL =>
          intro s1 hL hl1 h1 hc1
          obtain ⟨aB, aN⟩ := hL a List.mem_cons_self
          have hr := ih a s1 (by omega) aN hl1 h1 (fun j hj hjN => hc1 j (by omega) hjN)
          have hk := tReach_keep ch n a s1
          have hc2 : rcl ch N i (tReach ch n a s1).1 := by
            intro j hjB hjN hm y hy
            have hyj := hlt j hjN y hy
            rcases (hr j hjN).mp hm with h | h
            · exact (hr y (by omega)).mpr (Or.inl (hc1 j hjB hjN h y hy))
            · exact (hr y (by omega)).mpr (Or.inr (tIn_child hlt hN hy (a + 1) a (by omega) aN h))
          obtain ⟨g1, g2⟩ := ihL (tReach ch n a s1) (fun y hy => hL y (List.mem_cons_of_mem _ hy)) (hk.1.trans hl1) (hk.2.1 h1) hc2
          rw [List.foldl_cons]
          refine ⟨g1, fun x hx => (g2 x hx).trans ?_⟩
          rw [hr x hx]
          constructor
          · rintro ((h | h) | ⟨y, hy, h⟩)
            · exact Or.inl h
            · exact Or.inr ⟨a, List.mem_cons_self, h⟩
            · exact Or.inr ⟨y, List.mem_cons_of_mem _ hy, h⟩
          · rintro (h | ⟨y, hy, h⟩)
            · exact Or.inl (Or.inl h)
            · rcases List.mem_cons.mp hy with rfl | hy
              · exact Or.inl (Or.inr h)
              · exact Or.inr ⟨y, hy, h⟩
      have hil : i < s.1.length := by omega
      obtain ⟨-, g2⟩ := key (ch i) (s.1.set i 1, s.2 + 1) (fun y hy => ⟨hlt i hi y hy, by have := hlt i hi y hy; omega⟩) (by rw [List.length_set]; exact hl) (r01_set h01) (by
        intro j hj hjN hm y hy
        have hyj := hlt j hjN y hy
        rcases (mkd_set hil).mp hm with q | q
        · omega
        · exact (mkd_set hil).mpr (Or.inr (hc j (by omega) hjN q y hy)))
      rw [g2 x hx]
      show mkd (s.1.set i 1) x ∨ _ ↔ _
      rw [mkd_set hil, tIn_step hlt hN hi]
      constructor
      · rintro ((h | h) | h)
        · exact Or.inr (Or.inl h)
        · exact Or.inl h
        · exact Or.inr (Or.inr h)
      · rintro (h | h | h)
        · exact Or.inl (Or.inr h)
        · exact Or.inl (Or.inl h)
        · exact Or.inr h
    · rw [if_neg h0]
      have hm : mkd s.1 i := by
        have hmem : s.1.getD i 0 ∈ s.1 := by
          rw [List.getD_eq_getElem?_getD, List.getElem?_eq_getElem (by omega)]
          exact List.getElem_mem _
        rcases h01 _ hmem with q | q
        · exact absurd q h0
        · exact q
      exact ⟨fun h => Or.inl h, fun h => h.elim id (fun h => rcl_desc hlt hN hc (i + 1) i x (by omega) hi (by omega) hm h)⟩
end ZBRe
