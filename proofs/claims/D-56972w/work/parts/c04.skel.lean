/-! THE ROOM: what the tables say, as inequalities -/
set_option maxRecDepth 100000
def gR (r : Nat) : Nat := tat tG r
def jt (i c r k : Nat) : Nat := tat (tJ i c) (64 * r + k)
def lt4 (c k : Nat) : Nat := tat (tL c) k
/-- between the two ratios, and beyond -/
def jv (X g J0 J1 L : Nat) : Nat := if X ≤ 2 * g then (X * J1 + (2 * g - X) * J0) / (2 * g) else J1 + (X - 2 * g) * L
section ZSK
theorem tat0 (k : Nat) : tat 0 k = 0 := by
  unfold tat
  show (0 >>> (32 * k)) &&& 4294967295 = 0
  rw [Nat.zero_shiftRight, Nat.zero_and]
theorem gR_pos {r : Nat} (hr : r < 32) : 1 ≤ gR r := Nat.le_of_ble_eq_true (allN_at ckG0 r hr)
theorem jt0 {i r k : Nat} : jt i 0 r k = 0 := by
  unfold jt
  exact tat0 _
theorem lt0 {k : Nat} : lt4 0 k = 0 := tat0 _
theorem ckV_le {Jf Jc r K X R2 g r2 k T0 T1 TL : Nat} (h : ckV Jf Jc r K X R2 g r2 k T0 T1 TL = true) :
    X + R2 + (tat Jf (64 * r + k) + jv X g (tat T0 (64 * r2 + k)) (tat T1 (64 * r2 + k)) (tat TL k)) ≤ tat Jc (64 * r + K) := by
  have h1 := Nat.le_of_ble_eq_true h
  have e : (Bool.rec (Nat.add (tat T1 (Nat.add (Nat.mul 64 r2) k)) (Nat.mul (Nat.sub X (Nat.mul 2 g)) (tat TL k))) (Nat.div (Nat.add (Nat.mul X (tat T1 (Nat.add (Nat.mul 64 r2) k))) (Nat.mul (Nat.sub (Nat.mul 2 g) X) (tat T0 (Nat.add (Nat.mul 64 r2) k)))) (Nat.mul 2 g)) (Nat.ble X (Nat.mul 2 g)) : Nat) = jv X g (tat T0 (64 * r2 + k)) (tat T1 (64 * r2 + k)) (tat TL k) := by
    unfold jv
    cases hb : Nat.ble X (Nat.mul 2 g) with
    | true =>
      have hle : X ≤ 2 * g := Nat.le_of_ble_eq_true hb
      rw [if_pos hle]; rfl
    | false =>
      rw [if_neg (fun w => by
        have := Nat.ble_eq_true_of_le w
        have e2 : Nat.mul 2 g = 2 * g := rfl
        rw [e2, this] at hb
        cases hb)]
      rfl
  rw [e] at h1
  exact h1
theorem tJ_d {i d : Nat} (h : d = 0 ∨ d = 1 ∨ d = 2 ∨ d = 3 ∨ d = 4) (hi : i < 2) : tJ i d = (if i = 0 then (if d = 0 then 0 else if d = 1 then tJ01 else if d = 2 then tJ02 else if d = 3 then tJ03 else tJ04) else (if d = 0 then 0 else if d = 1 then tJ11 else if d = 2 then tJ12 else if d = 3 then tJ13 else tJ14)) := by
  have hi2 : i = 0 ∨ i = 1 := by omega
  rcases hi2 with rfl | rfl <;> rcases h with rfl | rfl | rfl | rfl | rfl <;> rfl
/-- a made part with few lots -/
theorem J_made {i r c1 f b d k : Nat} (hi : i < 2) (hr : r < 32) (h1 : 1 ≤ c1) (h4 : c1 + f ≤ 4) (hb : b < 7) (hd : d ≤ 4) (hK : k + (3 + 2 * b + d) ≤ 62) :
    ∃ r2 : Nat, r2 < 32 ∧ min (c1 * gR r) (100 * (b + 1)) ≤ gR r2 ∧ ((c1 + b) * (2 * i) + b) * gR r + min (c1 * gR r) (100 * (b + 1)) + (jt i f r k + jv (((c1 + b) * (2 * i) + b) * gR r) (gR r2) (jt 0 d r2 k) (jt 1 d r2 k) (lt4 d k)) ≤ jt i (c1 + f) r (k + (3 + 2 * b + d)) := by
  have h := allN_at (ckR_all i c1 f hi h1 h4) (k + (3 + 2 * b + d)) (by omega)
  have h := allN_at (allN_at h r hr) b hb
  have hu := allN_at (allN_at (allN_at ckU c1 (by omega)) (b + 1) (by omega)) r hr
  obtain ⟨u1, u2⟩ := brF hu
  refine ⟨tu (32 * (8 * c1 + (b + 1)) + r), Nat.le_of_ble_eq_true u2, Nat.le_of_ble_eq_true u1, ?_⟩
  have key : ∀ T0 T1 TL : Nat, ckD (tJ i f) (tJ i (c1 + f)) r (k + (3 + 2 * b + d)) (Nat.mul (Nat.add (Nat.mul (Nat.add c1 b) (2 * i)) b) (tat tG r)) (Nat.min (Nat.mul c1 (tat tG r)) (Nat.mul 100 (Nat.succ b))) (tat tG (tu (Nat.add (Nat.mul 32 (Nat.add (Nat.mul 8 c1) (Nat.succ b))) r))) (tu (Nat.add (Nat.mul 32 (Nat.add (Nat.mul 8 c1) (Nat.succ b))) r)) (Nat.add 3 (Nat.mul 2 b)) d T0 T1 TL = true → T0 = tJ 0 d → T1 = tJ 1 d → TL = tL d →
      ((c1 + b) * (2 * i) + b) * gR r + min (c1 * gR r) (100 * (b + 1)) + (jt i f r k + jv (((c1 + b) * (2 * i) + b) * gR r) (gR (tu (32 * (8 * c1 + (b + 1)) + r))) (jt 0 d (tu (32 * (8 * c1 + (b + 1)) + r)) k) (jt 1 d (tu (32 * (8 * c1 + (b + 1)) + r)) k) (lt4 d k)) ≤ jt i (c1 + f) r (k + (3 + 2 * b + d)) := by
    rintro T0 T1 TL hD rfl rfl rfl
    have ho : Nat.ble (Nat.add (Nat.add 3 (Nat.mul 2 b)) d) (k + (3 + 2 * b + d)) = true := Nat.ble_eq_true_of_le (by show 3 + 2 * b + d ≤ _; omega)
    have hV := ckV_le (brT hD ho)
    have ek : Nat.sub (k + (3 + 2 * b + d)) (Nat.add (Nat.add 3 (Nat.mul 2 b)) d) = k := by
      show (k + (3 + 2 * b + d)) - (3 + 2 * b + d) = k
      omega
    rw [ek] at hV
    exact hV
  obtain ⟨d0, h⟩ := brF h
  obtain ⟨d1, h⟩ := brF h
  obtain ⟨d2, h⟩ := brF h
  obtain ⟨d4, d3⟩ := brF h
  have hd5 : d = 0 ∨ d = 1 ∨ d = 2 ∨ d = 3 ∨ d = 4 := by omega
  rcases hd5 with rfl | rfl | rfl | rfl | rfl
  · exact key _ _ _ d0 rfl rfl rfl
  · exact key _ _ _ d1 rfl rfl rfl
  · exact key _ _ _ d2 rfl rfl rfl
  · exact key _ _ _ d4 rfl rfl rfl
  · exact key _ _ _ d3 rfl rfl rfl
/-- a bought part with few lots -/
theorem J_bought {i r c1 f b k : Nat} (hi : i < 2) (hr : r < 32) (h1 : 1 ≤ c1) (h4 : c1 + f ≤ 4) (hb : b < 7) (hK : k + (2 + b) ≤ 62) :
    ((c1 + b) * (2 * i) + b) * gR r + min (c1 * gR r) (500 * (b + 1)) + jt i f r k ≤ jt i (c1 + f) r (k + (2 + b)) := by
  have h := allN_at (ckS_all i c1 f hi h1 h4) (k + (2 + b)) (by omega)
  obtain ⟨-, h⟩ := brF (allN_at h r hr)
  obtain ⟨-, h⟩ := brF h
  have h := brT (allN_at h b hb) (Nat.ble_eq_true_of_le (by show 2 + b ≤ k + (2 + b); omega))
  have h1 := Nat.le_of_ble_eq_true h
  have ek : Nat.sub (k + (2 + b)) (Nat.add 2 b) = k := by
    show (k + (2 + b)) - (2 + b) = k
    omega
  rw [ek] at h1
  exact h1
/-- a made part with many lots -/
theorem J_many {i r c1 f b d k : Nat} (hi : i < 2) (hr : r < 32) (h1 : 1 ≤ c1) (h4 : c1 + f ≤ 4) (hb : 7 ≤ b) (hd : d ≤ 4) (hK : k + (3 + 2 * b + d) ≤ 62) :
    (2 * i + 1) * gR r * ((c1 + b) * (lt4 d k + 1)) + jt i f r (k + (3 + 2 * b + d) - 17) ≤ jt i (c1 + f) r (k + (3 + 2 * b + d)) := by
  have hM := allN_at (allN_at (allN_at (ckM_all c1 h1 (by omega)) (k + (3 + 2 * b + d)) (by omega)) b (by omega)) d (by omega)
  have hc : (Bool.rec false (Nat.ble (Nat.add (Nat.add 3 d) (Nat.mul 2 b)) (k + (3 + 2 * b + d))) (Nat.ble 7 b) : Bool) = true := by
    rw [Nat.ble_eq_true_of_le hb]
    exact Nat.ble_eq_true_of_le (by show 3 + d + 2 * b ≤ _; omega)
  have hM := Nat.le_of_ble_eq_true (brT hM hc)
  have ek : Nat.sub (k + (3 + 2 * b + d)) (Nat.add (Nat.add 3 d) (Nat.mul 2 b)) = k := by
    show (k + (3 + 2 * b + d)) - (3 + d + 2 * b) = k
    omega
  rw [ek] at hM
  have hM : (c1 + b) * (lt4 d k + 1) ≤ tat (tM c1) (k + (3 + 2 * b + d)) := hM
  have h := allN_at (ckS_all i c1 f hi h1 h4) (k + (3 + 2 * b + d)) (by omega)
  obtain ⟨-, h⟩ := brF (allN_at h r hr)
  obtain ⟨h, -⟩ := brF h
  have h := Nat.le_of_ble_eq_true (brT h (Nat.ble_eq_true_of_le (by omega)))
  have h : (2 * i + 1) * gR r * tat (tM c1) (k + (3 + 2 * b + d)) + jt i f r (k + (3 + 2 * b + d) - 17) ≤ jt i (c1 + f) r (k + (3 + 2 * b + d)) := h
  have := Nat.mul_le_mul_left ((2 * i + 1) * gR r) hM
  omega
/-- a bought part with many lots -/
theorem J_boughtM {i r c1 f b k : Nat} (hi : i < 2) (hr : r < 32) (h1 : 1 ≤ c1) (h4 : c1 + f ≤ 4) (hb : 7 ≤ b) (hK : k + (2 + b) ≤ 62) :
    (c1 + b) * (2 * i + 1) * gR r + jt i f r (k + (2 + b) - 9) ≤ jt i (c1 + f) r (k + (2 + b)) := by
  have h := allN_at (ckS_all i c1 f hi h1 h4) (k + (2 + b)) (by omega)
  obtain ⟨h, -⟩ := brF (allN_at h r hr)
  have h := Nat.le_of_ble_eq_true (brT h (Nat.ble_eq_true_of_le (by omega)))
  have h : (c1 + (k + (2 + b)) - 2) * (2 * i + 1) * gR r + jt i f r (k + (2 + b) - 9) ≤ jt i (c1 + f) r (k + (2 + b)) := h
  have h2 : (c1 + b) * (2 * i + 1) * gR r ≤ (c1 + (k + (2 + b)) - 2) * (2 * i + 1) * gR r := Nat.mul_le_mul_right _ (Nat.mul_le_mul_right _ (by omega))
  omega
theorem J_succ {i c r k : Nat} (hi : i < 2) (hc : c ≤ 4) (hr : r < 32) (hk : k < 62) : jt i c r k ≤ jt i c r (k + 1) := by
  by_cases h0 : c = 0
  · rw [h0, jt0]; omega
  · exact Nat.le_of_ble_eq_true (brF (allN_at (allN_at (tJ_up i c hi (by omega) hc) k hk) r hr)).1
theorem J_mono {i c r k k' : Nat} (hi : i < 2) (hc : c ≤ 4) (hr : r < 32) (hk : k ≤ k') (hk' : k' ≤ 62) : jt i c r k ≤ jt i c r k' := by
  obtain ⟨m, rfl⟩ := Nat.le.dest hk
  clear hk
  induction m with
  | zero => exact Nat.le_refl _
  | succ m ih =>
    have h1 := ih (by omega)
    have h2 := J_succ (c := c) hi hc hr (show k + m < 62 by omega)
    exact Nat.le_trans h1 h2
theorem L_up {c k : Nat} (hc : 1 ≤ c) (hc4 : c ≤ 4) (hk : k < 62) : lt4 c k ≤ lt4 c (k + 1) ∧ lt4 (c - 1) k ≤ lt4 c k := by
  obtain ⟨h1, h2⟩ := brF (allN_at (tL_up c hc hc4) k hk)
  exact ⟨Nat.le_of_ble_eq_true h1, Nat.le_of_ble_eq_true h2⟩
theorem L_mono {c k k' : Nat} (hc : c ≤ 4) (hk : k ≤ k') (hk' : k' ≤ 62) : lt4 c k ≤ lt4 c k' := by
  by_cases h0 : c = 0
  · rw [h0, lt0]; omega
  obtain ⟨m, rfl⟩ := Nat.le.dest hk
  clear hk
  induction m with
  | zero => exact Nat.le_refl _
  | succ m ih =>
    have h1 := ih (by omega)
    have h2 := (L_up (c := c) (by omega) hc (show k + m < 62 by omega)).1
    exact Nat.le_trans h1 h2
theorem L_made {c1 f b d k : Nat} (h1 : 1 ≤ c1) (h4 : c1 + f ≤ 4) (hd : d ≤ 4) (hK : k + (3 + 2 * b + d) ≤ 62) : (c1 + b) * (lt4 d k + 1) + lt4 f k ≤ lt4 (c1 + f) (k + (3 + 2 * b + d)) := by
  have h := allN_at (allN_at (ckL_all c1 f h1 h4) (k + (3 + 2 * b + d)) (by omega)) b (by omega)
  obtain ⟨-, h⟩ := brF h
  have h := brT (allN_at h d (by omega)) (Nat.ble_eq_true_of_le (by show 3 + d + 2 * b ≤ _; omega))
  have h := Nat.le_of_ble_eq_true h
  have ek : Nat.sub (k + (3 + 2 * b + d)) (Nat.add (Nat.add 3 d) (Nat.mul 2 b)) = k := by
    show (k + (3 + 2 * b + d)) - (3 + d + 2 * b) = k
    omega
  rw [ek] at h
  exact h
theorem L_bought {c1 f b k : Nat} (h1 : 1 ≤ c1) (h4 : c1 + f ≤ 4) (hK : k + (2 + b) ≤ 62) : (c1 + b) + lt4 f k ≤ lt4 (c1 + f) (k + (2 + b)) := by
  have h := allN_at (allN_at (ckL2_all c1 f h1 h4) (k + (2 + b)) (by omega)) b (by omega)
  have h := Nat.le_of_ble_eq_true (brT h (Nat.ble_eq_true_of_le (by show 2 + b ≤ _; omega)))
  have ek : Nat.sub (k + (2 + b)) (Nat.add 2 b) = k := by
    show (k + (2 + b)) - (2 + b) = k
    omega
  rw [ek] at h
  exact h
end ZSK
