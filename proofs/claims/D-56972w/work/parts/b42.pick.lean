/-! THE SIMULATION: the order that a machine begins -/
set_option maxRecDepth 100000
section ZBV3
variable {z : Nat → Nat} {k i : Nat} {X Y : hS}
theorem mPick_none : ∀ p : Nat, mPick Y i p = none → ∀ c : Nat, c < p → mWaitB Y i c = false := by
  intro p
  induction p with
  | zero => intro _ c hc; omega
  | succ p ih =>
    intro h c hc
    rw [mPick_succ] at h
    unfold mPickStep at h
    by_cases hw : mWaitB Y i p = true
    · rw [if_pos hw] at h
      cases hb : mPick Y i p with
      | none => rw [hb] at h; cases h
      | some b =>
        rw [hb] at h
        simp only at h
        split at h <;> cases h
    · rw [if_neg hw] at h
      by_cases e : c = p
      · rw [e]; exact Bool.eq_false_iff.mpr hw
      · exact ih h c (by omega)
theorem mPick_some : ∀ p b : Nat, mPick Y i p = some b → ∀ c : Nat, c < p → mWaitB Y i c = true → sT Y 15 4 b < sT Y 15 4 c ∨ (sT Y 15 4 b = sT Y 15 4 c ∧ b ≤ c) := by
  intro p
  induction p with
  | zero => intro b _ c hc; omega
  | succ p ih =>
    intro b h c hc hwc
    rw [mPick_succ] at h
    unfold mPickStep at h
    by_cases hw : mWaitB Y i p = true
    · rw [if_pos hw] at h
      cases hb : mPick Y i p with
      | none =>
        rw [hb] at h
        obtain rfl := Option.some.inj h
        by_cases e : c = p
        · rw [e]; exact Or.inr ⟨rfl, Nat.le_refl _⟩
        · have := mPick_none p hb c (by omega)
          rw [this] at hwc
          cases hwc
      | some d =>
        rw [hb] at h
        have hd := ih d hb
        have hdp := (mPick_ok p d hb).1
        by_cases hl : sT Y 15 4 p < sT Y 15 4 d
        · simp only [if_pos hl] at h
          obtain rfl := Option.some.inj h
          by_cases e : c = p
          · rw [e]; exact Or.inr ⟨rfl, Nat.le_refl _⟩
          · have := hd c (by omega) hwc
            omega
        · simp only [if_neg hl] at h
          obtain rfl := Option.some.inj h
          by_cases e : c = p
          · rw [e]; omega
          · exact hd c (by omega) hwc
    · rw [if_neg hw] at h
      by_cases e : c = p
      · rw [e] at hwc
        exact absurd hwc hw
      · exact ih b h c (by omega) hwc
theorem waitB_iff (hR : rR z X Y) (hM : iMc X) (hi : i < sn X 1) {c : Nat} (hc : c < sn X 8) : mWaitB Y i c = true ↔ fFree X i = true ∧ (c : Int) ∈ sE X 45 i := by
  have h2 : sT Y 12 6 i = fState X i := (hR.M.2 i hi).2.2.2.1
  have h8 := (hM.2.2 i hi).2.1
  have hf : fState X i = 45 ↔ fFree X i = true := by
    unfold fState fFree
    rw [Bool.and_eq_true, decide_eq_true_iff, beq_iff_eq]
    by_cases c8 : sT X 1 8 i = 1
    · rw [if_pos c8]
      constructor
      · intro e; exact absurd e (by decide)
      · rintro ⟨-, e⟩; omega
    · rw [if_neg c8]
      by_cases c7 : sT X 1 7 i < 0
      · rw [if_pos c7]
        exact ⟨fun _ => ⟨c7, by omega⟩, fun _ => rfl⟩
      · rw [if_neg c7]
        constructor
        · intro e; exact absurd e (by decide)
        · rintro ⟨e, -⟩; exact absurd e c7
  have hq := (hR.Q i hi).2 (c : Int)
  rw [Int.toNat_natCast] at hq
  unfold mWaitB
  rw [Bool.and_eq_true, Bool.and_eq_true, decide_eq_true_iff, decide_eq_true_iff, decide_eq_true_iff, h2, hf, hq]
  constructor
  · rintro ⟨a, b, d⟩; exact ⟨a, by omega, by omega, b, d⟩
  · rintro ⟨a, -, -, b, d⟩; exact ⟨a, b, d⟩
theorem pickEq (hR : rR z X Y) (hM : iMc X) (hO : iOr z X) (h30 : sn X 8 ≤ 30) (hi : i < sn X 1) : mPick Y i (sn Y 15) = if (fFree X i && !(sE X 45 i).isEmpty) = true then some (fHead X i) else none := by
  have h15 : sn Y 15 = sn X 8 := hR.O.1
  have hmem : ∀ x ∈ sE X 45 i, 0 ≤ x ∧ x.toNat < sn X 8 := fun x hx => by
    have := ((hR.Q i hi).2 x).mp hx
    omega
  by_cases hc : (fFree X i && !(sE X 45 i).isEmpty) = true
  · rw [if_pos hc]
    rw [Bool.and_eq_true] at hc
    have hne : sE X 45 i ≠ [] := fun e => by
      rw [e] at hc
      exact absurd hc.2 (by decide)
    obtain ⟨x, hx⟩ := List.exists_mem_of_ne_nil _ hne
    have hx0 := hmem x hx
    have ex : ((x.toNat : Nat) : Int) = x := Int.toNat_of_nonneg hx0.1
    cases hp : mPick Y i (sn Y 15) with
    | none =>
      have h1 := mPick_none _ hp x.toNat (by omega)
      have h2 := (waitB_iff hR hM hi hx0.2).mpr ⟨hc.1, by rw [ex]; exact hx⟩
      rw [h1] at h2
      cases h2
    | some b =>
      obtain ⟨b1, b2⟩ := mPick_ok _ b hp
      have b3 := (waitB_iff hR hM hi (c := b) (by omega)).mp b2
      have hN : fNum X := fun j hj => ⟨(hO j hj).1, by omega⟩
      have hh : fIsHead X i b := by
        refine ⟨b3.2, fun y hy => ?_⟩
        have hy0 := hmem y hy
        have ey : ((y.toNat : Nat) : Int) = y := Int.toNat_of_nonneg hy0.1
        have h4 := mPick_some _ b hp y.toNat (by omega) ((waitB_iff hR hM hi hy0.2).mpr ⟨hc.1, by rw [ey]; exact hy⟩)
        have e1 : sT Y 15 4 b = sT X 8 4 b := (hR.O.2 b (by omega)).1.2.2.2
        have e2 : sT Y 15 4 y.toNat = sT X 8 4 y.toNat := (hR.O.2 _ hy0.2).1.2.2.2
        have n1 := (hO b (by omega)).1
        have n2 := (hO y.toNat hy0.2).1
        unfold okey
        rw [n1, n2]
        rw [e1, e2] at h4
        omega
      rw [fHead_eq hN hmem hh]
  · rw [if_neg hc]
    cases hp : mPick Y i (sn Y 15) with
    | none => rfl
    | some b =>
      obtain ⟨b1, b2⟩ := mPick_ok _ b hp
      have b3 := (waitB_iff hR hM hi (c := b) (by omega)).mp b2
      exfalso
      apply hc
      rw [Bool.and_eq_true]
      refine ⟨b3.1, ?_⟩
      cases hE : sE X 45 i with
      | nil => rw [hE] at b3; exact absurd b3.2 List.not_mem_nil
      | cons y L => rfl
end ZBV3
