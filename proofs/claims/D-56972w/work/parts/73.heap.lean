/-! A QUEUE'S ARRAY: what it holds, its order; one step up, one step down (no program here) -/
def qk (key : Nat → Int) (F : Nat → Option Nat) (i : Nat) : Int := match F i with
  | some y => key y
  | none => 0
/-- F's first n places hold Y, each once -/
def qHas (F : Nat → Option Nat) (n : Nat) (Y : List Nat) : Prop := (∀ y : Nat, y ∈ Y ↔ ∃ i : Nat, i < n ∧ F i = some y) ∧ (∀ i : Nat, i < n → ∃ y : Nat, F i = some y) ∧ (∀ i j : Nat, i < n → j < n → F i = F j → i = j) ∧ Y.Nodup ∧ Y.length = n
def qHeap (K : Nat → Int) (n : Nat) : Prop := ∀ i : Nat, 0 < i → i < n → K ((i - 1) / 2) ≤ K i
def qUp (K : Nat → Int) (n k : Nat) : Prop := (∀ i : Nat, 0 < i → i < n → i ≠ k → K ((i - 1) / 2) ≤ K i) ∧ (∀ i : Nat, 0 < i → i < n → (i - 1) / 2 = k → 0 < k → K ((k - 1) / 2) ≤ K i)
def qDn (K : Nat → Int) (n k : Nat) : Prop := (∀ i : Nat, 0 < i → i < n → (i - 1) / 2 ≠ k → K ((i - 1) / 2) ≤ K i) ∧ (∀ i : Nat, 0 < i → i < n → (i - 1) / 2 = k → 0 < k → K ((k - 1) / 2) ≤ K i)
theorem qHas_swap {F F' : Nat → Option Nat} {n k p : Nat} {Y : List Nat} (h : qHas F n Y) (hk : k < n) (hp : p < n) (e1 : F' p = F k) (e2 : F' k = F p) (e3 : ∀ i, i ≠ k → i ≠ p → F' i = F i) : qHas F' n Y := by
  obtain ⟨h1, h2, h3, h4, h5⟩ := h
  have hs : ∀ i : Nat, i < n → ∃ j : Nat, j < n ∧ F' i = F j ∧ (i = k → j = p) ∧ (i = p → j = k) ∧ (i ≠ k → i ≠ p → j = i) := by
    intro i hi
    by_cases a : i = p
    · exact ⟨k, hk, by rw [a, e1], fun e => by omega, fun _ => rfl, fun _ e => absurd a e⟩
    · by_cases b : i = k
      · exact ⟨p, hp, by rw [b, e2], fun _ => rfl, fun e => absurd e a, fun e _ => absurd b e⟩
      · exact ⟨i, hi, e3 i b a, fun e => absurd e b, fun e => absurd e a, fun _ _ => rfl⟩
  refine ⟨fun y => ?_, fun i hi => ?_, fun i j hi hj he => ?_, h4, h5⟩
  · rw [h1 y]
    constructor
    · rintro ⟨i, hi, hy⟩
      by_cases a : i = p
      · exact ⟨k, hk, by rw [e2, ← a]; exact hy⟩
      · by_cases b : i = k
        · exact ⟨p, hp, by rw [e1, ← b]; exact hy⟩
        · exact ⟨i, hi, by rw [e3 i b a]; exact hy⟩
    · rintro ⟨i, hi, hy⟩
      obtain ⟨j, q1, q2, _⟩ := hs i hi
      exact ⟨j, q1, by rw [← q2]; exact hy⟩
  · obtain ⟨j, q1, q2, _⟩ := hs i hi
    obtain ⟨y, hy⟩ := h2 j q1
    exact ⟨y, by rw [q2]; exact hy⟩
  · obtain ⟨i', q1, q2, q3, q4, q5⟩ := hs i hi
    obtain ⟨j', r1, r2, r3, r4, r5⟩ := hs j hj
    have := h3 i' j' q1 r1 (by rw [← q2, ← r2]; exact he)
    by_cases a : i = k <;> by_cases b : i = p <;> by_cases c : j = k <;> by_cases d : j = p
    all_goals first
      | omega
      | (have := q3 a; have := r3 c; omega)
      | (have := q3 a; have := r4 d; omega)
      | (have := q3 a; have := r5 c d; omega)
      | (have := q4 b; have := r3 c; omega)
      | (have := q4 b; have := r4 d; omega)
      | (have := q4 b; have := r5 c d; omega)
      | (have := q5 a b; have := r3 c; omega)
      | (have := q5 a b; have := r4 d; omega)
      | (have := q5 a b; have := r5 c d; omega)
theorem qUp_step {K K' : Nat → Int} {n k : Nat} (h : qUp K n k) (hk : 0 < k) (hkn : k < n) (hlt : K k < K ((k - 1) / 2)) (e1 : K' ((k - 1) / 2) = K k) (e2 : K' k = K ((k - 1) / 2)) (e3 : ∀ i, i ≠ k → i ≠ (k - 1) / 2 → K' i = K i) : qUp K' n ((k - 1) / 2) := by
  obtain ⟨h1, h2⟩ := h
  generalize hp : (k - 1) / 2 = p at *
  have hpk : p < k := by omega
  refine ⟨fun i hi hin hne => ?_, fun i hi hin hip hp0 => ?_⟩
  · by_cases a : i = k
    · subst a
      rw [hp, e1, e2]
      omega
    · rw [e3 i a hne]
      by_cases b : (i - 1) / 2 = k
      · rw [b, e2]
        exact h2 i hi hin b hk
      · by_cases c : (i - 1) / 2 = p
        · rw [c, e1]
          have := h1 i hi hin a
          rw [c] at this
          omega
        · rw [e3 _ b c]
          exact h1 i hi hin a
  · have q := h1 p hp0 (by omega) (by omega)
    rw [e3 ((p - 1) / 2) (by omega) (by omega)]
    by_cases a : i = k
    · rw [a, e2]
      exact q
    · rw [e3 i a (by omega)]
      have := h1 i hi hin a
      rw [hip] at this
      omega
theorem qUp_done {K : Nat → Int} {n k : Nat} (h : qUp K n k) (hd : k = 0 ∨ K ((k - 1) / 2) ≤ K k) : qHeap K n := by
  intro i hi hin
  by_cases a : i = k
  · subst a
    rcases hd with rfl | hd
    · omega
    · exact hd
  · exact h.1 i hi hin a
theorem qDn_step {K K' : Nat → Int} {n k c : Nat} (h : qDn K n k) (hc : (c - 1) / 2 = k) (hc0 : 0 < c) (hcn : c < n) (hlt : K c < K k) (hmin : ∀ i : Nat, 0 < i → i < n → (i - 1) / 2 = k → K c ≤ K i) (e1 : K' c = K k) (e2 : K' k = K c) (e3 : ∀ i, i ≠ k → i ≠ c → K' i = K i) : qDn K' n c := by
  obtain ⟨h1, h2⟩ := h
  have hkc : k < c := by omega
  refine ⟨fun i hi hin hne => ?_, fun i hi hin hip _ => ?_⟩
  · by_cases a : i = c
    · subst a
      rw [hc, e1, e2]
      omega
    · by_cases b : i = k
      · subst b
        rw [e2, e3 ((i - 1) / 2) (by omega) (by omega)]
        exact h2 c hc0 hcn hc hi
      · rw [e3 i b a]
        by_cases d : (i - 1) / 2 = k
        · rw [d, e2]
          exact hmin i hi hin d
        · rw [e3 _ d hne]
          exact h1 i hi hin d
  · rw [hc, e2, e3 i (by omega) (by omega)]
    have := h1 i hi hin (by omega)
    rw [hip] at this
    exact this
theorem qDn_done {K : Nat → Int} {n k : Nat} (h : qDn K n k) (hd : ∀ i : Nat, 0 < i → i < n → (i - 1) / 2 = k → K k ≤ K i) : qHeap K n := by
  intro i hi hin
  by_cases a : (i - 1) / 2 = k
  · rw [a]; exact hd i hi hin a
  · exact h.1 i hi hin a
theorem qHeap_min {K : Nat → Int} {n : Nat} (h : qHeap K n) : ∀ m i : Nat, i ≤ m → i < n → K 0 ≤ K i := by
  intro m
  induction m with
  | zero => intro i hi _; rw [show i = 0 by omega]; omega
  | succ m ih =>
    intro i hi hin
    by_cases h0 : i = 0
    · rw [h0]; omega
    · have := ih ((i - 1) / 2) (by omega) (by omega)
      have := h i (by omega) hin
      omega
theorem qHas_push {f : Nat → Option Nat} {n x : Nat} {Y : List Nat} (h : qHas f n Y) (hx : x ∉ Y) : qHas (va_up f n (some x)) (n + 1) (x :: Y) := by
  obtain ⟨h1, h2, h3, h4, h5⟩ := h
  refine ⟨fun y => ?_, fun i hi => ?_, fun i j hi hj he => ?_, List.nodup_cons.mpr ⟨hx, h4⟩, by rw [List.length_cons, h5]⟩
  · rw [List.mem_cons, h1 y]
    constructor
    · rintro (rfl | ⟨i, hi, hy⟩)
      · exact ⟨n, by omega, va_up_self _ _ _⟩
      · exact ⟨i, by omega, by rw [va_up_ne _ _ (by omega)]; exact hy⟩
    · rintro ⟨i, hi, hy⟩
      by_cases a : i = n
      · rw [a, va_up_self] at hy
        exact Or.inl (Option.some.inj hy).symm
      · rw [va_up_ne _ _ a] at hy
        exact Or.inr ⟨i, by omega, hy⟩
  · by_cases a : i = n
    · exact ⟨x, by rw [a, va_up_self]⟩
    · rw [va_up_ne _ _ a]
      exact h2 i (by omega)
  · by_cases a : i = n <;> by_cases b : j = n
    · omega
    · rw [a, va_up_self, va_up_ne _ _ b] at he
      exact absurd ((h1 x).mpr ⟨j, by omega, he.symm⟩) hx
    · rw [b, va_up_self, va_up_ne _ _ a] at he
      exact absurd ((h1 x).mpr ⟨i, by omega, he⟩) hx
    · rw [va_up_ne _ _ a, va_up_ne _ _ b] at he
      exact h3 i j (by omega) (by omega) he
/-- the root goes, the last one stands at the root -/
theorem qHas_pop {f : Nat → Option Nat} {n x y0 : Nat} {Y : List Nat} (h : qHas f (n + 1) Y) (h0 : f 0 = some y0) (hx : f n = some x) : qHas (va_up (va_up f n none) 0 (if n = 0 then none else some x)) n (Y.erase y0) := by
  obtain ⟨h1, h2, h3, h4, h5⟩ := h
  have hm : y0 ∈ Y := (h1 y0).mpr ⟨0, by omega, h0⟩
  by_cases hn : n = 0
  · subst hn
    have hY : Y = [y0] := by
      match Y, h5 with
      | [z], _ => rcases List.mem_cons.mp hm with rfl | q
                  · rfl
                  · cases q
    rw [hY, List.erase_cons_head]
    exact ⟨fun y => ⟨fun q => by (cases q), fun ⟨i, q, _⟩ => by omega⟩, fun i hi => by omega, fun i j hi hj => by omega, List.nodup_nil, rfl⟩
  · rw [if_neg hn]
    have hF : ∀ i : Nat, i < n → va_up (va_up f n none) 0 (some x) i = if i = 0 then f n else f i := by
      intro i hi
      by_cases a : i = 0
      · rw [a, va_up_self, if_pos rfl, hx]
      · rw [va_up_ne _ _ a, va_up_ne _ _ (by omega), if_neg a]
    refine ⟨fun y => ?_, fun i hi => ?_, fun i j hi hj he => ?_, h4.erase y0, by rw [List.length_erase_of_mem hm, h5]; omega⟩
    · rw [h4.mem_erase_iff, h1 y]
      constructor
      · rintro ⟨hne, i, hi, hy⟩
        by_cases a : i = n
        · exact ⟨0, by omega, by rw [hF 0 (by omega), if_pos rfl, ← a]; exact hy⟩
        · have b : i ≠ 0 := fun e => hne (by rw [e, h0] at hy; exact (Option.some.inj hy).symm)
          exact ⟨i, by omega, by rw [hF i (by omega), if_neg b]; exact hy⟩
      · rintro ⟨i, hi, hy⟩
        rw [hF i hi] at hy
        by_cases a : i = 0
        · rw [if_pos a] at hy
          refine ⟨fun e => ?_, n, by omega, hy⟩
          have := h3 n 0 (by omega) (by omega) (by rw [hy, h0, e])
          omega
        · rw [if_neg a] at hy
          refine ⟨fun e => ?_, i, by omega, hy⟩
          have := h3 i 0 (by omega) (by omega) (by rw [hy, h0, e])
          omega
    · rw [hF i hi]
      by_cases a : i = 0
      · rw [if_pos a]; exact ⟨x, hx⟩
      · rw [if_neg a]; exact h2 i (by omega)
    · rw [hF i hi, hF j hj] at he
      by_cases a : i = 0 <;> by_cases b : j = 0
      · omega
      · rw [if_pos a, if_neg b] at he
        have := h3 n j (by omega) (by omega) he
        omega
      · rw [if_neg a, if_pos b] at he
        have := h3 i n (by omega) (by omega) he
        omega
      · rw [if_neg a, if_neg b] at he
        exact h3 i j (by omega) (by omega) he
