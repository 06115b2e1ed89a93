/-! THE ACCOUNT: chains of calls with their counters (tools/gen_g16.py) -/
set_option maxRecDepth 100000
/-- counters: isSound and lotsIn; holds and measurings; other calls; the orders that were promised or released once -/
abbrev Ctr : Type := Nat × Nat × Nat × (Nat → Bool)
def cI_n (c : Ctr) : Ctr := (c.1 + 1, c.2.1, c.2.2.1, c.2.2.2)
def cI_h (c : Ctr) : Ctr := (c.1, c.2.1 + 1, c.2.2.1, c.2.2.2)
def cI_q (c : Ctr) : Ctr := (c.1, c.2.1, c.2.2.1 + 1, c.2.2.2)
def cI_c (v : Nat) (c : Ctr) : Ctr := (c.1, c.2.1, c.2.2.1, fun o => if o = v then true else c.2.2.2 o)
/-- a call with its counters -/
noncomputable def St (z : Nat → Nat) (S S2 : hS) (x s : Nat) (c c2 : Ctr) : Prop :=
  ((ffr S S2 ∧ x ≤ 4 ∧ s ≤ 20) ∧ c2 = cI_q c) ∨
  ((ffr S S2 ∧ ∃ v : Int, x = 1 + 2 * nNd S v ∧ s = 6 + 8 * nNd S v) ∧ c2 = cI_q c) ∨
  ((ffr S S2 ∧ ∃ u v : Int, x = 1 + 2 * nWk S u v ∧ s = 6 + 8 * nWk S u v) ∧ c2 = cI_q c) ∨
  ((ffr S S2 ∧ ∃ v : Int, x = 1 + 2 * nTch S v ∧ s = 6 + 8 * nTch S v) ∧ c2 = cI_q c) ∨
  ((ffr S S2 ∧ ∃ v : Int, x = 2 + nLin S v ∧ s = 110 + 4 * nLin S v) ∧ c2 = cI_n c) ∨
  ((ffr S S2 ∧ x = 6 + nSnd S ∧ s = 3130 + 4 * nSnd S) ∧ c2 = cI_n c) ∨
  (((∃ p q r t : Int, pAM S S2 p q r t) ∧ x = 8 ∧ s = 120) ∧ c2 = cI_q c) ∨
  (((∃ (c : Bool) (f : Int), pAP S S2 c f) ∧ x = 8 ∧ s = 120) ∧ c2 = c) ∨
  (((∃ p q r t : Int, pcAC S S2 p q r t) ∧ x = 4 ∧ s = 80) ∧ c2 = c) ∨
  (((∃ p q r t : Int, pcAO S S2 p q r t) ∧ x = 4 ∧ s = 80) ∧ c2 = cI_q c) ∨
  (((∃ p q c u v : Int, pRc z S S2 p q c u v) ∧ x = 8 ∧ s = 1000) ∧ c2 = c) ∨
  ((∃ (v : Int) (on : Bool), pHo z S S2 v on ∧ x = 1 + 2 * nHo z S v on ∧ s = 6 + 8 * nHo z S v on) ∧ c2 = cI_h c) ∨
  (((∃ p y w : Int, pSC S S2 p y w) ∧ x = 1 ∧ s = 6) ∧ c2 = cI_q c) ∨
  ((∃ v w : Int, pMe z S S2 v w ∧ x = 1 + 2 * nMe z S v w ∧ s = 6 + 8 * nMe z S v w) ∧ c2 = cI_h c) ∨
  (((∃ p q o d : Int, pOr z S S2 p q o d) ∧ x = 9 ∧ s = 400) ∧ c2 = c) ∨
  (∃ v : Int, (pPr z S S2 v ∧ x = 1 + (nPr z S v).1 ∧ s = 6 + (nPr z S v).2) ∧ ((cPr z S v = true ∧ c.2.2.2 v.toNat = false ∧ c2 = cI_c v.toNat c) ∨ ((cPr z S v = true → c.2.2.2 v.toNat = true) ∧ c2 = cI_q c))) ∨
  (((∃ v : Int, pWd z S S2 v) ∧ x = 2 ∧ s = 8) ∧ c2 = cI_q c) ∨
  (∃ v : Int, (pRl z S S2 v ∧ x = 20 + (nRl z S v).1 ∧ s = 2000 + (nRl z S v).2) ∧ ((cRl z S v = true ∧ c.2.2.2 v.toNat = false ∧ c2 = cI_c v.toNat c) ∨ ((cRl z S v = true → c.2.2.2 v.toNat = true) ∧ c2 = cI_q c))) ∨
  (((∃ v n : Int, psSc z S S2 v n) ∧ x = 1 ∧ s = 6) ∧ c2 = cI_q c) ∨
  ((∃ e : Nat, pAd z S S2 e ∧ x = 4010 + 7 * e ∧ s = 16010 + 1820 * e) ∧ c2 = cI_q c) ∨
  (∃ v : Int, (pDl z S S2 v ∧ x = 10 + (nDl z S v).1 ∧ s = 500 + (nDl z S v).2) ∧ (((∀ q : Nat, sT S2 8 7 q = sT S 8 7 q) ∧ c2 = cI_q c) ∨ ((v.toNat < sn S 8 ∧ fDelOk z S v.toNat = true ∧ sT S2 8 7 v.toNat = (z 5 : Nat) ∧ ∀ q : Nat, q ≠ v.toNat → sT S2 8 7 q = sT S 8 7 q) ∧ c2 = c)))
def ChC (z : Nat → Nat) : Nat → hS → Nat → Nat → Ctr → Prop
  | 0, S, T, U, c => S = X0 (z 6) ∧ T = 0 ∧ U = 0 ∧ c = (0, 0, 0, fun _ => false)
  | k + 1, S2, T2, U2, c2 => ∃ (S : hS) (T U x s : Nat) (c : Ctr), ChC z k S T U c ∧ gd z k S ∧ gd z (k + 1) S2 ∧ St z S S2 x s c c2 ∧ gRn z S S2 ∧ T2 = T + x ∧ U2 = U + s
section ZG16
variable {z : Nat → Nat} {k x s T U : Nat} {S S2 : hS}
theorem St_ex (hz : zInj z) (h1 : gd z k S) (h2 : gd z (k + 1) S2) (h : Ev z S S2 x s) (c : Ctr) : ∃ c2 : Ctr, St z S S2 x s c c2 := by
  obtain ⟨hr, hI, hS, hB, hR⟩ := h1
  rcases h with h | h | h | h | h | h | h | h | h | h | h | h | h | h | h | h | h | h | h | h | h
  · exact ⟨_, (Or.inl ⟨h, rfl⟩)⟩
  · exact ⟨_, (Or.inr (Or.inl ⟨h, rfl⟩))⟩
  · exact ⟨_, (Or.inr (Or.inr (Or.inl ⟨h, rfl⟩)))⟩
  · exact ⟨_, (Or.inr (Or.inr (Or.inr (Or.inl ⟨h, rfl⟩))))⟩
  · exact ⟨_, (Or.inr (Or.inr (Or.inr (Or.inr (Or.inl ⟨h, rfl⟩)))))⟩
  · exact ⟨_, (Or.inr (Or.inr (Or.inr (Or.inr (Or.inr (Or.inl ⟨h, rfl⟩))))))⟩
  · exact ⟨_, (Or.inr (Or.inr (Or.inr (Or.inr (Or.inr (Or.inr (Or.inl ⟨h, rfl⟩)))))))⟩
  · exact ⟨_, (Or.inr (Or.inr (Or.inr (Or.inr (Or.inr (Or.inr (Or.inr (Or.inl ⟨h, rfl⟩))))))))⟩
  · exact ⟨_, (Or.inr (Or.inr (Or.inr (Or.inr (Or.inr (Or.inr (Or.inr (Or.inr (Or.inl ⟨h, rfl⟩)))))))))⟩
  · exact ⟨_, (Or.inr (Or.inr (Or.inr (Or.inr (Or.inr (Or.inr (Or.inr (Or.inr (Or.inr (Or.inl ⟨h, rfl⟩))))))))))⟩
  · exact ⟨_, (Or.inr (Or.inr (Or.inr (Or.inr (Or.inr (Or.inr (Or.inr (Or.inr (Or.inr (Or.inr (Or.inl ⟨h, rfl⟩)))))))))))⟩
  · exact ⟨_, (Or.inr (Or.inr (Or.inr (Or.inr (Or.inr (Or.inr (Or.inr (Or.inr (Or.inr (Or.inr (Or.inr (Or.inl ⟨h, rfl⟩))))))))))))⟩
  · exact ⟨_, (Or.inr (Or.inr (Or.inr (Or.inr (Or.inr (Or.inr (Or.inr (Or.inr (Or.inr (Or.inr (Or.inr (Or.inr (Or.inl ⟨h, rfl⟩)))))))))))))⟩
  · exact ⟨_, (Or.inr (Or.inr (Or.inr (Or.inr (Or.inr (Or.inr (Or.inr (Or.inr (Or.inr (Or.inr (Or.inr (Or.inr (Or.inr (Or.inl ⟨h, rfl⟩))))))))))))))⟩
  · exact ⟨_, (Or.inr (Or.inr (Or.inr (Or.inr (Or.inr (Or.inr (Or.inr (Or.inr (Or.inr (Or.inr (Or.inr (Or.inr (Or.inr (Or.inr (Or.inl ⟨h, rfl⟩)))))))))))))))⟩
  · obtain ⟨v, h⟩ := h
    by_cases hc : cPr z S v = true ∧ c.2.2.2 v.toNat = false
    · exact ⟨_, (Or.inr (Or.inr (Or.inr (Or.inr (Or.inr (Or.inr (Or.inr (Or.inr (Or.inr (Or.inr (Or.inr (Or.inr (Or.inr (Or.inr (Or.inr (Or.inl ⟨v, h, Or.inl ⟨hc.1, hc.2, rfl⟩⟩))))))))))))))))⟩
    · exact ⟨_, (Or.inr (Or.inr (Or.inr (Or.inr (Or.inr (Or.inr (Or.inr (Or.inr (Or.inr (Or.inr (Or.inr (Or.inr (Or.inr (Or.inr (Or.inr (Or.inl ⟨v, h, Or.inr ⟨fun w => by
      cases hh : c.2.2.2 v.toNat with
      | true => rfl
      | false => exact absurd ⟨w, hh⟩ hc, rfl⟩⟩))))))))))))))))⟩
  · exact ⟨_, (Or.inr (Or.inr (Or.inr (Or.inr (Or.inr (Or.inr (Or.inr (Or.inr (Or.inr (Or.inr (Or.inr (Or.inr (Or.inr (Or.inr (Or.inr (Or.inr (Or.inl ⟨h, rfl⟩)))))))))))))))))⟩
  · obtain ⟨v, h⟩ := h
    by_cases hc : cRl z S v = true ∧ c.2.2.2 v.toNat = false
    · exact ⟨_, (Or.inr (Or.inr (Or.inr (Or.inr (Or.inr (Or.inr (Or.inr (Or.inr (Or.inr (Or.inr (Or.inr (Or.inr (Or.inr (Or.inr (Or.inr (Or.inr (Or.inr (Or.inl ⟨v, h, Or.inl ⟨hc.1, hc.2, rfl⟩⟩))))))))))))))))))⟩
    · exact ⟨_, (Or.inr (Or.inr (Or.inr (Or.inr (Or.inr (Or.inr (Or.inr (Or.inr (Or.inr (Or.inr (Or.inr (Or.inr (Or.inr (Or.inr (Or.inr (Or.inr (Or.inr (Or.inl ⟨v, h, Or.inr ⟨fun w => by
      cases hh : c.2.2.2 v.toNat with
      | true => rfl
      | false => exact absurd ⟨w, hh⟩ hc, rfl⟩⟩))))))))))))))))))⟩
  · exact ⟨_, (Or.inr (Or.inr (Or.inr (Or.inr (Or.inr (Or.inr (Or.inr (Or.inr (Or.inr (Or.inr (Or.inr (Or.inr (Or.inr (Or.inr (Or.inr (Or.inr (Or.inr (Or.inr (Or.inl ⟨h, rfl⟩)))))))))))))))))))⟩
  · exact ⟨_, (Or.inr (Or.inr (Or.inr (Or.inr (Or.inr (Or.inr (Or.inr (Or.inr (Or.inr (Or.inr (Or.inr (Or.inr (Or.inr (Or.inr (Or.inr (Or.inr (Or.inr (Or.inr (Or.inr (Or.inl ⟨h, rfl⟩))))))))))))))))))))⟩
  · obtain ⟨v, h⟩ := h
    obtain ⟨-, hd⟩ := sbDl hz hr hI hS hB h2.2.1 hR h.1
    rcases hd with hd | hd
    · exact ⟨_, (Or.inr (Or.inr (Or.inr (Or.inr (Or.inr (Or.inr (Or.inr (Or.inr (Or.inr (Or.inr (Or.inr (Or.inr (Or.inr (Or.inr (Or.inr (Or.inr (Or.inr (Or.inr (Or.inr (Or.inr ⟨v, h, Or.inl ⟨hd, rfl⟩⟩))))))))))))))))))))⟩
    · exact ⟨_, (Or.inr (Or.inr (Or.inr (Or.inr (Or.inr (Or.inr (Or.inr (Or.inr (Or.inr (Or.inr (Or.inr (Or.inr (Or.inr (Or.inr (Or.inr (Or.inr (Or.inr (Or.inr (Or.inr (Or.inr ⟨v, h, Or.inr ⟨hd, rfl⟩⟩))))))))))))))))))))⟩
theorem Ch_C (hz : zInj z) : ∀ (k : Nat) (S : hS) (T U : Nat), Ch z k S T U → ∃ c : Ctr, ChC z k S T U c
  | 0, _, _, _, ⟨a, b, d⟩ => ⟨_, a, b, d, rfl⟩
  | k + 1, S2, T2, U2, ⟨S, T, U, x, s, h1, h2, h3, h4, h5, h6, h7⟩ => by
    obtain ⟨c, hc⟩ := Ch_C hz k S T U h1
    obtain ⟨c2, h8⟩ := St_ex hz h2 h3 h4 c
    exact ⟨c2, S, T, U, x, s, c, hc, h2, h3, h8, h5, h6, h7⟩
end ZG16
