/-! THE SIMULATION: a change of Foundrymark's part does not touch the model's, and the other way round -/
set_option maxRecDepth 100000
abbrev mcl (c : Nat) : Prop := (11 ≤ c ∧ c ≤ 15) ∨ c = 19 ∨ (30 ≤ c ∧ c ≤ 41) ∨ c = 47
abbrev fcl (c : Nat) : Prop := c ≤ 9 ∨ (20 ≤ c ∧ c ≤ 28) ∨ c = 45 ∨ c = 48
def mfr (Y Y' : hS) : Prop := (∀ c : Nat, mcl c → sn Y' c = sn Y c) ∧ (∀ c k i : Nat, mcl c → ¬ (c = 11 ∧ k = 0) → sT Y' c k i = sT Y c k i) ∧ (∀ c i : Nat, mcl c → sE Y' c i = sE Y c i) ∧ sn Y 46 ≤ sn Y' 46 ∧ ∀ i : Nat, i < sn Y 46 → sE Y' 46 i = sE Y 46 i
def ffr (X X' : hS) : Prop := (∀ c : Nat, fcl c → sn X' c = sn X c) ∧ (∀ c k i : Nat, fcl c → sT X' c k i = sT X c k i) ∧ ∀ c i : Nat, fcl c → sE X' c i = sE X c i
section ZBF
variable {z : Nat → Nat} {k : Nat} {X X' X2 Y Y' Y2 : hS}
theorem mfr.refl : mfr Y Y := ⟨fun _ _ => rfl, fun _ _ _ _ _ => rfl, fun _ _ _ => rfl, Nat.le_refl _, fun _ _ => rfl⟩
theorem ffr.refl : ffr X X := ⟨fun _ _ => rfl, fun _ _ _ _ => rfl, fun _ _ _ => rfl⟩
theorem mfr.trans (h1 : mfr Y Y') (h2 : mfr Y' Y2) : mfr Y Y2 :=
  ⟨fun c hc => (h2.1 c hc).trans (h1.1 c hc), fun c k i hc hk => (h2.2.1 c k i hc hk).trans (h1.2.1 c k i hc hk), fun c i hc => (h2.2.2.1 c i hc).trans (h1.2.2.1 c i hc), Nat.le_trans h1.2.2.2.1 h2.2.2.2.1, fun i hi => (h2.2.2.2.2 i (Nat.lt_of_lt_of_le hi h1.2.2.2.1)).trans (h1.2.2.2.2 i hi)⟩
theorem ffr.trans (h1 : ffr X X') (h2 : ffr X' X2) : ffr X X2 :=
  ⟨fun c hc => (h2.1 c hc).trans (h1.1 c hc), fun c k i hc => (h2.2.1 c k i hc).trans (h1.2.1 c k i hc), fun c i hc => (h2.2.2 c i hc).trans (h1.2.2 c i hc)⟩
theorem mfr.mt {v : Int} : mfr Y (mt Y v) := ⟨fun _ _ => rfl, fun c k i _ hk => by
  rw [sT_set, if_neg (fun q => hk ⟨q.1, q.2.1⟩)], fun _ _ _ => rfl, Nat.le_refl _, fun _ _ => rfl⟩
theorem ffr.mt {v : Int} : ffr X (mt X v) := ⟨fun _ _ => rfl, fun c k i hc => by
  rw [sT_set, if_neg (by omega)], fun _ _ _ => rfl⟩
/-- one step of a change: a field, a list, a new cell of another class -/
theorem mfr.set {c k i : Nat} {v : Int} (h : mfr Y Y') (hc : ¬ mcl c ∨ (c = 11 ∧ k = 0)) : mfr Y (sset Y' c k i v) := by
  refine ⟨fun c' h' => h.1 c' h', fun c' k' i' h' hk => ?_, fun c' i' h' => h.2.2.1 c' i' h', h.2.2.2.1, h.2.2.2.2⟩
  rw [sT_set, if_neg (by rintro ⟨rfl, rfl, -⟩; rcases hc with hc | hc <;> contradiction)]
  exact h.2.1 c' k' i' h' hk
theorem mfr.ssE {c i : Nat} {xs : List Int} (h : mfr Y Y') (hc : ¬ mcl c ∧ c ≠ 46) : mfr Y (ssE Y' c i xs) := by
  refine ⟨fun c' h' => h.1 c' h', fun c' k' i' h' hk => h.2.1 c' k' i' h' hk, fun c' i' h' => ?_, h.2.2.2.1, fun i' h' => ?_⟩
  · rw [sE_ssE, if_neg (by rintro ⟨rfl, -⟩; exact hc.1 h')]
    exact h.2.2.1 c' i' h'
  · rw [sE_ssE, if_neg (by rintro ⟨q, -⟩; exact hc.2 q.symm)]
    exact h.2.2.2.2 i' h'
theorem mfr.snw {c : Nat} {xs : List Int} (h : mfr Y Y') (hc : ¬ mcl c) : mfr Y (snw Y' c xs) := by
  refine ⟨fun c' h' => ?_, fun c' k' i' h' hk => ?_, fun c' i' h' => ?_, ?_, fun i' h' => ?_⟩
  · rw [sn_w, if_neg (by rintro rfl; exact hc h')]
    exact h.1 c' h'
  · rw [sT_w, if_neg (by rintro ⟨rfl, -⟩; exact hc h')]
    exact h.2.1 c' k' i' h' hk
  · rw [sE_w, if_neg (by rintro ⟨rfl, -⟩; exact hc h')]
    exact h.2.2.1 c' i' h'
  · exact Nat.le_trans h.2.2.2.1 sn_w_le
  · have hl := h.2.2.2.1
    rw [sE_w, if_neg (by rintro ⟨rfl, q⟩; omega)]
    exact h.2.2.2.2 i' h'
theorem ffr.set {c k i : Nat} {v : Int} (h : ffr X X') (hc : ¬ fcl c) : ffr X (sset X' c k i v) := by
  refine ⟨fun c' h' => h.1 c' h', fun c' k' i' h' => ?_, fun c' i' h' => h.2.2 c' i' h'⟩
  rw [sT_set, if_neg (by rintro ⟨rfl, -⟩; exact hc h')]
  exact h.2.1 c' k' i' h'
theorem ffr.ssE {c i : Nat} {xs : List Int} (h : ffr X X') (hc : ¬ fcl c) : ffr X (ssE X' c i xs) := by
  refine ⟨fun c' h' => h.1 c' h', fun c' k' i' h' => h.2.1 c' k' i' h', fun c' i' h' => ?_⟩
  rw [sE_ssE, if_neg (by rintro ⟨rfl, -⟩; exact hc h')]
  exact h.2.2 c' i' h'
theorem ffr.snw {c : Nat} {xs : List Int} (h : ffr X X') (hc : ¬ fcl c) : ffr X (snw X' c xs) := by
  refine ⟨fun c' h' => ?_, fun c' k' i' h' => ?_, fun c' i' h' => ?_⟩
  · rw [sn_w, if_neg (by rintro rfl; exact hc h')]
    exact h.1 c' h'
  · rw [sT_w, if_neg (by rintro ⟨rfl, -⟩; exact hc h')]
    exact h.2.1 c' k' i' h'
  · rw [sE_w, if_neg (by rintro ⟨rfl, -⟩; exact hc h')]
    exact h.2.2 c' i' h'
/-- the relation, where the model's part is moved without a change -/
theorem rR.frY (h : rR z X Y) (hS : mShape Y) (hB : mBox Y) (hf : mfr Y Y') : rR z X Y' := by
  obtain ⟨f1, f2, f3, f4, f5⟩ := hf
  obtain ⟨hG, hM, hP, hL, hO, hQ, hSu⟩ := h
  refine ⟨?_, ?_, ?_, ?_, ?_, ?_, ?_⟩
  · unfold rG at hG ⊢
    rw [f2 11 5 0 (by decide) (by decide), f2 11 8 0 (by decide) (by decide)]
    exact hG
  · exact rM_congr (fun _ _ => rfl) rfl (fun k i => f2 12 k i (by decide) (by omega)) (f1 12 (by decide)) hM
  · refine ⟨by rw [f1 13 (by decide)]; exact hP.1, fun p hp => ?_⟩
    have g := hP.2 p hp
    rw [f2 13 0 p (by decide) (by omega), f2 13 1 p (by decide) (by omega), f2 13 4 p (by decide) (by omega), f2 13 5 p (by decide) (by omega), f2 13 6 p (by decide) (by omega), f2 13 7 p (by decide) (by omega), f2 13 8 p (by decide) (by omega)]
    refine ⟨g.1, g.2.1, g.2.2.1, g.2.2.2.1, g.2.2.2.2.1, g.2.2.2.2.2.1, g.2.2.2.2.2.2.1, fun hq => ?_⟩
    obtain ⟨g1, g2⟩ := g.2.2.2.2.2.2.2 hq
    obtain ⟨-, -, -, s4, s5⟩ := hS.2.1 p (by rw [hP.1]; exact hp)
    unfold rCs at g1 ⊢
    unfold rOs at g2 ⊢
    rw [f3 36 p (by decide), f3 37 p (by decide), ← g1, ← g2]
    exact ⟨List.map_congr_left (fun j hj => f5 j.toNat (by have := s4 j hj; omega)), List.map_congr_left (fun j hj => f5 j.toNat (by have := s5 j hj; omega))⟩
  · exact rL_congr (fun _ _ _ _ _ => rfl) rfl rfl (fun _ _ => rfl) (fun k i _ _ => f2 14 k i (by decide) (by omega)) (fun i => f3 41 i (by decide)) (f1 14 (by decide)) hL
  · refine ⟨by rw [f1 15 (by decide)]; exact hO.1, fun o ho => ?_⟩
    obtain ⟨g1, g2, g3, g4⟩ := hO.2 o ho
    refine ⟨rOa_congr (fun _ _ => rfl) rfl (fun k _ => f2 15 k o (by decide) (by omega)) g1, rOb_congr (fun _ _ => rfl) (fun k _ => f2 15 k o (by decide) (by omega)) g2, ⟨?_, ?_⟩, ?_⟩
    · rw [mTl_congr (f3 38 o (by decide)) (f3 39 o (by decide)) (fun q hq => f2 19 0 q.toNat (by decide) (by omega))]
      exact g3.1
    · rw [f3 38 o (by decide), f3 39 o (by decide)]
      exact g3.2
    · exact rD_congr rfl rfl (fun _ _ => ⟨rfl, rfl⟩) (f3 40 o (by decide)) (f2 15 15 o (by decide) (by omega)) g4
  · exact rQ_congr (fun _ _ => rfl) rfl rfl (fun o _ => ⟨f2 15 5 o (by decide) (by omega), f2 15 10 o (by decide) (by omega)⟩) hQ
  · exact rS_congr (fun _ _ => ⟨rfl, rfl⟩) (fun c i hc => f3 c i (by omega)) (f1 35 (by decide)) hSu
theorem mShape.fr (hS : mShape Y) (hf : mfr Y Y') : mShape Y' := by
  obtain ⟨f1, f2, f3, f4, f5⟩ := hf
  obtain ⟨h1, h2, h3, h4, h5⟩ := hS
  refine ⟨?_, fun p hp => ?_, fun l hl => ?_, fun o ho => ?_, ?_⟩
  · unfold mFix at h1 ⊢
    rw [f1 11 (by decide), f1 12 (by decide), f1 13 (by decide), f1 14 (by decide), f1 15 (by decide), f3 30 0 (by decide), f3 31 0 (by decide), f3 32 0 (by decide), f3 33 0 (by decide), f2 11 1 0 (by decide) (by decide), f2 11 2 0 (by decide) (by decide), f2 11 3 0 (by decide) (by decide), f2 11 4 0 (by decide) (by decide), f2 11 6 0 (by decide) (by decide), f2 11 7 0 (by decide) (by decide)]
    exact h1
  · rw [f1 13 (by decide)] at hp
    obtain ⟨a1, a2, a3, a4, a5⟩ := h2 p hp
    rw [f2 13 2 p (by decide) (by omega), f2 13 3 p (by decide) (by omega), f2 13 0 p (by decide) (by omega), f3 36 p (by decide), f3 37 p (by decide)]
    exact ⟨a1, a2, a3, fun j hj => by have := a4 j hj; omega, fun j hj => by have := a5 j hj; omega⟩
  · rw [f1 14 (by decide)] at hl
    rw [f2 14 0 l (by decide) (by omega), f2 14 6 l (by decide) (by omega), f3 41 l (by decide)]
    exact h3 l hl
  · rw [f1 15 (by decide)] at ho
    rw [f2 15 0 o (by decide) (by omega), f2 15 6 o (by decide) (by omega), f2 15 7 o (by decide) (by omega), f2 15 16 o (by decide) (by omega), f2 15 10 o (by decide) (by omega), f2 15 5 o (by decide) (by omega), f1 12 (by decide)]
    exact h4 o ho
  · rw [f1 36 (by decide), f1 37 (by decide), f1 41 (by decide), f1 38 (by decide), f1 39 (by decide), f1 40 (by decide), f1 13 (by decide), f1 14 (by decide), f1 15 (by decide)]
    exact h5
theorem mBox.fr (hB : mBox Y) (hf : mfr Y Y') : mBox Y' := by
  obtain ⟨f1, f2, f3, f4, f5⟩ := hf
  obtain ⟨h1, h2, h3⟩ := hB
  refine ⟨by rw [f1 19 (by decide)]; exact h1, fun j hj => by rw [f2 19 0 j (by decide) (by omega)]; exact h2 j hj, fun o ho q hq => ?_⟩
  rw [f1 15 (by decide)] at ho
  rw [f3 39 o (by decide)] at hq
  rw [f1 19 (by decide)]
  exact h3 o ho q hq
end ZBF
