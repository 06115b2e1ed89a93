/-! THE ROOM: promises and releases are below the tables -/
set_option maxRecDepth 100000
def te (c k : Nat) : Nat := tat (tE c) k
def tr (k : Nat) : Nat := tat tabR k
/-- the lots that a promise looks at, component by component, each with its tree (of the first j parts) -/
def eW (c : Nat → Nat → Nat) (b cap : Nat → Nat) (A j : Nat) : Nat := ns j (fun B => c A B * (if 0 < b B then b B + ho c b cap B (b B) else 0))
section ZE4
theorem te0 {k : Nat} : te 0 k = 0 := tat0 _
theorem ub_ok {b : Nat} (hb : b < 31) : tub (b + 1) < 32 ∧ b + 1 ≤ gR (tub (b + 1)) := by
  obtain ⟨u1, u2⟩ := brF (allN_at ckUb b hb)
  exact ⟨Nat.le_of_ble_eq_true u2, Nat.le_of_ble_eq_true u1⟩
theorem E_made {c1 f b d k : Nat} (h1 : 1 ≤ c1) (h4 : c1 + f ≤ 4) (hd : d ≤ 4) (hK : k + (3 + 2 * b + d) ≤ 62) : c1 * (b + 1 + jt 0 d (tub (b + 1)) k) + te f k ≤ te (c1 + f) (k + (3 + 2 * b + d)) := by
  have h := allN_at (allN_at (allN_at (ckE_all c1 f h1 h4) (k + (3 + 2 * b + d)) (by omega)) b (by omega)) d (by omega)
  have h := brT h (Nat.ble_eq_true_of_le (by show 3 + d + 2 * b ≤ _; omega))
  have h := Nat.le_of_ble_eq_true h
  have ek : Nat.sub (k + (3 + 2 * b + d)) (Nat.add (Nat.add 3 d) (Nat.mul 2 b)) = k := by
    show (k + (3 + 2 * b + d)) - (3 + d + 2 * b) = k
    omega
  rw [ek] at h
  exact h
theorem E_bought {c1 f b k : Nat} (h1 : 1 ≤ c1) (h4 : c1 + f ≤ 4) (hK : k + (2 + b) ≤ 62) : c1 * (b + 1) + te f k ≤ te (c1 + f) (k + (2 + b)) := by
  have h := allN_at (allN_at (ckEb_all c1 f h1 h4) (k + (2 + b)) (by omega)) b (by omega)
  have h := brT h (Nat.ble_eq_true_of_le (by show 2 + b ≤ _; omega))
  have h := Nat.le_of_ble_eq_true h
  have ek : Nat.sub (k + (2 + b)) (Nat.add 2 b) = k := by
    show (k + (2 + b)) - (2 + b) = k
    omega
  rw [ek] at h
  exact h
theorem E_up {c k : Nat} (hc : 1 ≤ c) (hc4 : c ≤ 4) (hk : k < 62) : te c k ≤ te c (k + 1) ∧ te (c - 1) k ≤ te c k := by
  obtain ⟨h1, h2⟩ := brF (allN_at (ckEm_all c hc hc4) k hk)
  exact ⟨Nat.le_of_ble_eq_true h1, Nat.le_of_ble_eq_true h2⟩
theorem E_mono {c k k' : Nat} (hc : c ≤ 4) (hk : k ≤ k') (hk' : k' ≤ 62) : te c k ≤ te c k' := by
  by_cases h0 : c = 0
  · rw [h0, te0]; omega
  obtain ⟨m, rfl⟩ := Nat.le.dest hk
  clear hk
  induction m with
  | zero => exact Nat.le_refl _
  | succ m ih =>
    have h1 := ih (by omega)
    have h2 := (E_up (c := c) (by omega) hc (show k + m < 62 by omega)).1
    exact Nat.le_trans h1 h2
theorem E_cup {c q k : Nat} (h : c + q ≤ 4) (hk : k < 62) : te c k ≤ te (c + q) k := by
  induction q with
  | zero => exact Nat.le_refl _
  | succ q ih =>
    have h1 := ih (by omega)
    have h2 := (E_up (c := c + q + 1) (by omega) (by omega) hk).2
    rw [Nat.add_sub_cancel] at h2
    exact Nat.le_trans h1 h2
theorem R_up {k : Nat} (hk : k < 64) : tr k ≤ tr (k + 1) := Nat.le_of_ble_eq_true (allN_at ckRm k hk)
theorem R_mono {k k' : Nat} (hk : k ≤ k') (hk' : k' ≤ 64) : tr k ≤ tr k' := by
  obtain ⟨m, rfl⟩ := Nat.le.dest hk
  clear hk
  induction m with
  | zero => exact Nat.le_refl _
  | succ m ih => exact Nat.le_trans (ih (by omega)) (R_up (by omega))
theorem R_made {c r k : Nat} (hc : c ≤ 4) (hK : k + (1 + c + 2 * r) ≤ 64) : r * 2 * te c k + tr k ≤ tr (k + (1 + c + 2 * r)) := by
  have h := allN_at (allN_at (allN_at ckRl_all (k + (1 + c + 2 * r)) (by omega)) c (by omega)) r (by omega)
  have h := brT h (Nat.ble_eq_true_of_le (by show 1 + c + 2 * r ≤ _; omega))
  have h := Nat.le_of_ble_eq_true h
  have ek : Nat.sub (k + (1 + c + 2 * r)) (Nat.add (Nat.add 1 c) (Nat.mul 2 r)) = k := by
    show (k + (1 + c + 2 * r)) - (1 + c + 2 * r) = k
    omega
  rw [ek] at h
  exact h
variable {c : Nat → Nat → Nat} {b : Nat → Nat} {mk : Nat → Bool}
theorem ns_up {f : Nat → Nat} {m n : Nat} (h : m ≤ n) : ns m f ≤ ns n f := by
  obtain ⟨q, rfl⟩ := Nat.le.dest h
  clear h
  induction q with
  | zero => exact Nat.le_refl _
  | succ q ih =>
    show ns m f ≤ ns (m + q) f + f (m + q)
    omega
theorem eW_tab (hC : ∀ A : Nat, ns A (c A) ≤ 4) (hbt : ∀ A : Nat, mk A = false → ns A (c A) = 0) {A : Nat} : ∀ j : Nat, j ≤ A → ns j (ownP c b mk) ≤ 62 → eW c b (capP b mk) A j ≤ te (ns j (c A)) (ns j (ownP c b mk)) := by
  intro j
  induction j with
  | zero => intro _ _; exact Nat.zero_le _
  | succ j ih =>
    intro hj hK
    have k1 : ns (j + 1) (ownP c b mk) = ns j (ownP c b mk) + ownP c b mk j := rfl
    have k2 : ns (j + 1) (c A) = ns j (c A) + c A j := rfl
    have hCj : ns (j + 1) (c A) ≤ 4 := Nat.le_trans (ns_up hj) (hC A)
    have P := ih (by omega) (by omega)
    have own0 : ownP c b mk j = 1 + ns j (c j) + (if mk j = true then 2 else 1) * b j := rfl
    have e : eW c b (capP b mk) A (j + 1) = eW c b (capP b mk) A j + c A j * (if 0 < b j then b j + ho c b (capP b mk) j (b j) else 0) := rfl
    rw [e]
    by_cases hp : 0 < c A j ∧ 0 < b j
    · obtain ⟨hc0, hb0⟩ := hp
      rw [if_pos hb0]
      obtain ⟨b', hb'⟩ : ∃ b' : Nat, b j = b' + 1 := ⟨b j - 1, by omega⟩
      have d4 := hC j
      by_cases hm : mk j = true
      · have eo : ownP c b mk j = 3 + 2 * b' + ns j (c j) := by rw [own0, if_pos hm, hb']; omega
        rw [eo] at k1
        obtain ⟨u1, u2⟩ := ub_ok (b := b') (by omega)
        have I := (skel_tab (b := b) hC hbt j (by omega)).1 0 (tub (b' + 1)) (by decide) u1
        have hmn := ho_mono (c := c) (b := b) (cap := capP b mk) j _ _ u2
        have Q := E_made (c1 := c A j) (f := ns j (c A)) (b := b') (d := ns j (c j)) (k := ns j (ownP c b mk)) hc0 (by omega) d4 (by omega)
        have h5 : c A j * (b j + ho c b (capP b mk) j (b j)) ≤ c A j * (b' + 1 + jt 0 (ns j (c j)) (tub (b' + 1)) (ns j (ownP c b mk))) := Nat.mul_le_mul_left _ (by
          rw [hb']
          have e0 : 2 * 0 * gR (tub (b' + 1)) * ao c b j = 0 := by rw [Nat.mul_zero, Nat.zero_mul, Nat.zero_mul]
          omega)
        rw [k1, k2, Nat.add_comm (ns j (c A)) (c A j)]
        omega
      · have hm' : mk j = false := by
          cases h : mk j with
          | true => exact absurd h hm
          | false => rfl
        have c0 := hbt j hm'
        have a0 : ao c b j = 0 := by
          have I2 := (skel_tab (b := b) hC hbt j (by omega)).2
          rw [c0, lt0] at I2
          omega
        have h0 : ∀ R : Nat, ho c b (capP b mk) j R = 0 := fun R => by
          have := ho_le (c := c) (b := b) (cap := capP b mk) j R
          rw [a0, Nat.zero_mul] at this
          omega
        have eo : ownP c b mk j = 2 + b' := by rw [own0, if_neg hm, hb', c0]; omega
        rw [eo] at k1
        have Q := E_bought (c1 := c A j) (f := ns j (c A)) (b := b') (k := ns j (ownP c b mk)) hc0 (by omega) (by omega)
        rw [h0, Nat.add_zero, hb', k1, k2, Nat.add_comm (ns j (c A)) (c A j)]
        omega
    · have z0 : c A j * (if 0 < b j then b j + ho c b (capP b mk) j (b j) else 0) = 0 := by
        by_cases h0 : 0 < c A j
        · rw [if_neg (fun w => hp ⟨h0, w⟩), Nat.mul_zero]
        · rw [Nat.le_zero.mp (Nat.le_of_not_lt h0), Nat.zero_mul]
      rw [z0, k2]
      have hown : 1 ≤ ownP c b mk j := by rw [own0]; omega
      have g1 := E_cup (c := ns j (c A)) (q := c A j) (k := ns j (ownP c b mk)) (by omega) (by omega)
      have g2 := E_mono (c := ns j (c A) + c A j) (k := ns j (ownP c b mk)) (k' := ns (j + 1) (ownP c b mk)) (by omega) (by omega) hK
      omega
/-- calls of a part, its released orders counted -/
def ownR (c : Nat → Nat → Nat) (b r : Nat → Nat) (mk : Nat → Bool) (B : Nat) : Nat := 1 + ns B (c B) + (if mk B = true then 2 * r B else b B)
/-- what all releases cost -/
def rW (c : Nat → Nat → Nat) (b r cap : Nat → Nat) (mk : Nat → Bool) (n : Nat) : Nat := ns n (fun A => if mk A = true then r A * 2 * eW c b cap A A else 0)
theorem own_le {r : Nat → Nat} (hr : ∀ A : Nat, mk A = true → b A ≤ r A) (n : Nat) : ns n (ownP c b mk) ≤ ns n (ownR c b r mk) := ns_le (fun A _ => by
  unfold ownP ownR
  by_cases h : mk A = true
  · rw [if_pos h, if_pos h]
    have := hr A h
    omega
  · rw [if_neg h, if_neg h]; omega)
theorem rW_tab (hC : ∀ A : Nat, ns A (c A) ≤ 4) (hbt : ∀ A : Nat, mk A = false → ns A (c A) = 0) {r : Nat → Nat} (hr : ∀ A : Nat, mk A = true → b A ≤ r A) : ∀ n : Nat, ns n (ownR c b r mk) ≤ 64 → rW c b r (capP b mk) mk n ≤ tr (ns n (ownR c b r mk)) := by
  intro n
  induction n with
  | zero => intro _; exact Nat.zero_le _
  | succ n ih =>
    intro hK
    have k1 : ns (n + 1) (ownR c b r mk) = ns n (ownR c b r mk) + ownR c b r mk n := rfl
    have e : rW c b r (capP b mk) mk (n + 1) = rW c b r (capP b mk) mk n + (if mk n = true then r n * 2 * eW c b (capP b mk) n n else 0) := rfl
    have own0 : ownR c b r mk n = 1 + ns n (c n) + (if mk n = true then 2 * r n else b n) := rfl
    have P := ih (by omega)
    rw [e]
    by_cases hm : mk n = true
    · rw [if_pos hm]
      rw [if_pos hm] at own0
      by_cases hr0 : r n = 0
      · rw [hr0, Nat.zero_mul]
        have z0 : 0 * eW c b (capP b mk) n n = 0 := Nat.zero_mul _
        have g := R_mono (k := ns n (ownR c b r mk)) (k' := ns (n + 1) (ownR c b r mk)) (by omega) hK
        omega
      · have hle := own_le (c := c) (b := b) (mk := mk) hr n
        have hK62 : ns n (ownP c b mk) ≤ 62 := by omega
        have W := eW_tab (b := b) hC hbt (A := n) n (Nat.le_refl _) hK62
        have M := E_mono (c := ns n (c n)) (k := ns n (ownP c b mk)) (k' := ns n (ownR c b r mk)) (hC n) hle (by omega)
        have Q := R_made (c := ns n (c n)) (r := r n) (k := ns n (ownR c b r mk)) (hC n) (by omega)
        have h5 : r n * 2 * eW c b (capP b mk) n n ≤ r n * 2 * te (ns n (c n)) (ns n (ownR c b r mk)) := Nat.mul_le_mul_left _ (Nat.le_trans W M)
        have ek : ns (n + 1) (ownR c b r mk) = ns n (ownR c b r mk) + (1 + ns n (c n) + 2 * r n) := by omega
        rw [ek]
        omega
    · rw [if_neg hm]
      have g := R_mono (k := ns n (ownR c b r mk)) (k' := ns (n + 1) (ownR c b r mk)) (by omega) hK
      omega
/-- failing promises, with all releases -/
theorem T1_tab {q : Nat} (hq : q ≤ 58) : (58 - q) * 2 * te 4 q + tr (q + 6) ≤ 1050706 := Nat.le_of_ble_eq_true (allN_at ckT1 q (by omega))
end ZE4
