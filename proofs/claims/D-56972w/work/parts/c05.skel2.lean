/-! THE ROOM: a structure's numbers and the tables -/
set_option maxRecDepth 100000
/-- what a load of one makes below a part (but for itself) -/
def aoN (c : Nat → Nat → Nat) (b : Nat → Nat) : Nat → Nat → Nat
  | 0, _ => 0
  | n + 1, A => ns A (fun B => if 0 < c A B ∧ 0 < b B then (c A B + b B - 1) * (1 + aoN c b n B) else 0)
def ao (c : Nat → Nat → Nat) (b : Nat → Nat) (A : Nat) : Nat := aoN c b A A
def hoN (c : Nat → Nat → Nat) (b cap : Nat → Nat) : Nat → Nat → Nat → Nat
  | 0, _, _ => 0
  | n + 1, A, R => ns A (fun B => if 0 < c A B ∧ 0 < b B then (b B - 1) * R * (1 + ao c b B) + (min (c A B * R) (cap B) + hoN c b cap n B (min (c A B * R) (cap B))) else 0)
def ho (c : Nat → Nat → Nat) (b cap : Nat → Nat) (A R : Nat) : Nat := hoN c b cap A A R
section ZSL
variable {c : Nat → Nat → Nat} {b cap : Nat → Nat}
theorem if_cg {p : Prop} [Decidable p] {x y : Nat} (h : p → x = y) : (if p then x else 0) = if p then y else 0 := by
  by_cases hp : p
  · rw [if_pos hp, if_pos hp, h hp]
  · rw [if_neg hp, if_neg hp]
theorem if_le {p : Prop} [Decidable p] {x y : Nat} (h : p → x ≤ y) : (if p then x else 0) ≤ if p then y else 0 := by
  by_cases hp : p
  · rw [if_pos hp, if_pos hp]; exact h hp
  · rw [if_neg hp, if_neg hp]; exact Nat.le_refl _
theorem aoN_eq : ∀ n m A : Nat, A ≤ n → A ≤ m → aoN c b n A = aoN c b m A := by
  intro n
  induction n with
  | zero =>
    intro m A h0 _
    have : A = 0 := by omega
    subst this
    cases m with
    | zero => rfl
    | succ m => rfl
  | succ n ih =>
    intro m A h1 h2
    cases m with
    | zero =>
      have : A = 0 := by omega
      subst this
      rfl
    | succ m => exact ns_cg (fun B hB => if_cg (fun _ => by rw [ih m B (by omega) (by omega)]))
theorem ao_rec (A : Nat) : ao c b A = ns A (fun B => if 0 < c A B ∧ 0 < b B then (c A B + b B - 1) * (1 + ao c b B) else 0) := by
  cases A with
  | zero => rfl
  | succ n => exact ns_cg (fun B hB => if_cg (fun _ => by rw [aoN_eq n B B (by omega) (Nat.le_refl _)]; rfl))
theorem hoN_eq : ∀ n m A R : Nat, A ≤ n → A ≤ m → hoN c b cap n A R = hoN c b cap m A R := by
  intro n
  induction n with
  | zero =>
    intro m A R h0 _
    have : A = 0 := by omega
    subst this
    cases m with
    | zero => rfl
    | succ m => rfl
  | succ n ih =>
    intro m A R h1 h2
    cases m with
    | zero =>
      have : A = 0 := by omega
      subst this
      rfl
    | succ m => exact ns_cg (fun B hB => if_cg (fun _ => by rw [ih m B _ (by omega) (by omega)]))
theorem ho_rec (A R : Nat) : ho c b cap A R = ns A (fun B => if 0 < c A B ∧ 0 < b B then (b B - 1) * R * (1 + ao c b B) + (min (c A B * R) (cap B) + ho c b cap B (min (c A B * R) (cap B))) else 0) := by
  cases A with
  | zero => rfl
  | succ n => exact ns_cg (fun B hB => if_cg (fun _ => by rw [hoN_eq n B B _ (by omega) (Nat.le_refl _)]; rfl))
theorem sk_ok : skOk c b cap (fun A => 1 + ao c b A) (fun A R => R + ho c b cap A R) := by
  refine ⟨fun A => ?_, fun A R => ?_⟩
  · show _ ≤ 1 + ao c b A
    rw [ao_rec A]; exact Nat.le_refl _
  · show _ ≤ R + ho c b cap A R
    rw [ho_rec A R]; exact Nat.le_refl _
theorem ho_mono : ∀ (A R R' : Nat), R ≤ R' → ho c b cap A R ≤ ho c b cap A R' := by
  intro A
  induction A using Nat.strongRecOn with
  | ind A ih =>
    intro R R' h
    rw [ho_rec A R, ho_rec A R']
    refine ns_le (fun B hB => if_le (fun _ => ?_))
    have m1 : min (c A B * R) (cap B) ≤ min (c A B * R') (cap B) := by
      have := Nat.mul_le_mul_left (c A B) h
      omega
    have m2 := ih B hB _ _ m1
    have m3 : (b B - 1) * R * (1 + ao c b B) ≤ (b B - 1) * R' * (1 + ao c b B) := Nat.mul_le_mul_right _ (Nat.mul_le_mul_left _ h)
    omega
theorem ho_le : ∀ (A R : Nat), ho c b cap A R ≤ ao c b A * R := by
  intro A
  induction A using Nat.strongRecOn with
  | ind A ih =>
    intro R
    rw [ho_rec A R, ao_rec A, Nat.mul_comm, ← ns_mul]
    refine ns_le (fun B hB => ?_)
    show (if 0 < c A B ∧ 0 < b B then _ else 0) ≤ R * (if 0 < c A B ∧ 0 < b B then _ else 0)
    by_cases hp : 0 < c A B ∧ 0 < b B
    · rw [if_pos hp, if_pos hp]
      have h1 := ih B hB (min (c A B * R) (cap B))
      have h2 : min (c A B * R) (cap B) + ho c b cap B (min (c A B * R) (cap B)) ≤ c A B * R * (1 + ao c b B) := by
        have h3 : min (c A B * R) (cap B) * (1 + ao c b B) ≤ c A B * R * (1 + ao c b B) := Nat.mul_le_mul_right _ (Nat.min_le_left _ _)
        rw [Nat.mul_add, Nat.mul_one] at h3
        have h4 := Nat.mul_comm (ao c b B) (min (c A B * R) (cap B))
        omega
      have e : R * ((c A B + b B - 1) * (1 + ao c b B)) = (b B - 1) * R * (1 + ao c b B) + c A B * R * (1 + ao c b B) := by
        have : c A B + b B - 1 = (b B - 1) + c A B := by omega
        rw [this, ← Nat.add_mul, ← Nat.add_mul, ← Nat.mul_assoc, Nat.mul_comm R]
      omega
    · rw [if_neg hp, if_neg hp]; omega
theorem jv_le {X g J0 J1 L a hR : Nat} (hg : 1 ≤ g) (h1 : 2 * g * a + hR ≤ J1) (h0 : hR ≤ J0) (hL : a ≤ L) : a * X + hR ≤ jv X g J0 J1 L := by
  unfold jv
  by_cases h : X ≤ 2 * g
  · rw [if_pos h, Nat.le_div_iff_mul_le (by omega)]
    obtain ⟨Y, hY⟩ := Nat.le.dest h
    rw [← hY] at h1 ⊢
    have e : X + Y - X = Y := by omega
    rw [e]
    have q1 := Nat.mul_le_mul_left X h1
    have q0 := Nat.mul_le_mul_left Y h0
    have e2 : (a * X + hR) * (X + Y) = X * ((X + Y) * a + hR) + Y * hR := by
      simp only [Nat.mul_add, Nat.add_mul, Nat.mul_comm, Nat.mul_left_comm, Nat.mul_assoc]
      omega
    omega
  · rw [if_neg h]
    obtain ⟨Y, hY⟩ := Nat.le.dest (show 2 * g ≤ X by omega)
    rw [← hY]
    have e : 2 * g + Y - 2 * g = Y := by omega
    rw [e, Nat.mul_add]
    have q1 := Nat.mul_le_mul_left Y hL
    have e2 : a * (2 * g) = 2 * g * a := Nat.mul_comm _ _
    have e3 : a * Y = Y * a := Nat.mul_comm _ _
    omega
/-- the calls that a part takes: itself, its components, its lots -/
def ownP (c : Nat → Nat → Nat) (b : Nat → Nat) (mk : Nat → Bool) (B : Nat) : Nat := 1 + ns B (c B) + (if mk B = true then 2 else 1) * b B
def capP (b : Nat → Nat) (mk : Nat → Bool) (B : Nat) : Nat := (if mk B = true then 100 else 500) * b B
variable {mk : Nat → Bool}
theorem skel_tab (hC : ∀ A : Nat, ns A (c A) ≤ 4) (hbt : ∀ A : Nat, mk A = false → ns A (c A) = 0) : ∀ A : Nat, ns A (ownP c b mk) ≤ 62 →
    (∀ i r : Nat, i < 2 → r < 32 → 2 * i * gR r * ao c b A + ho c b (capP b mk) A (gR r) ≤ jt i (ns A (c A)) r (ns A (ownP c b mk))) ∧ ao c b A ≤ lt4 (ns A (c A)) (ns A (ownP c b mk)) := by
  intro A
  induction A using Nat.strongRecOn with
  | ind A ih =>
    intro hK
    have nsm : ∀ (f : Nat → Nat) (m n : Nat), m ≤ n → ns m f ≤ ns n f := fun f m n h => by
      obtain ⟨q, rfl⟩ := Nat.le.dest h
      clear h
      induction q with
      | zero => exact Nat.le_refl _
      | succ q ihq =>
        show ns m f ≤ ns (m + q) f + f (m + q)
        omega
    have own0 : ∀ B : Nat, ownP c b mk B = 1 + ns B (c B) + (if mk B = true then 2 else 1) * b B := fun B => rfl
    have part : ∀ j : Nat, j ≤ A → (∀ i r : Nat, i < 2 → r < 32 → ns j (fun B => if 0 < c A B ∧ 0 < b B then (((c A B + b B - 1) * (2 * i) + (b B - 1)) * gR r) * (1 + ao c b B) + (min (c A B * gR r) (capP b mk B) + ho c b (capP b mk) B (min (c A B * gR r) (capP b mk B))) else 0) ≤ jt i (ns j (c A)) r (ns j (ownP c b mk))) ∧
        ns j (fun B => if 0 < c A B ∧ 0 < b B then (c A B + b B - 1) * (1 + ao c b B) else 0) ≤ lt4 (ns j (c A)) (ns j (ownP c b mk)) := by
      intro j
      induction j with
      | zero => intro _; exact ⟨fun i r _ _ => Nat.zero_le _, Nat.zero_le _⟩
      | succ j ihj =>
        intro hj
        obtain ⟨p1, p2⟩ := ihj (by omega)
        have k1 : ns (j + 1) (ownP c b mk) = ns j (ownP c b mk) + ownP c b mk j := rfl
        have k2 : ns (j + 1) (c A) = ns j (c A) + c A j := rfl
        have hKj : ns (j + 1) (ownP c b mk) ≤ 62 := Nat.le_trans (nsm _ _ _ hj) hK
        have hCj : ns (j + 1) (c A) ≤ 4 := Nat.le_trans (nsm _ _ _ hj) (hC A)
        obtain ⟨I1, I2⟩ := ih j (by omega) (by omega)
        by_cases hp : 0 < c A j ∧ 0 < b j
        · obtain ⟨hc0, hb0⟩ := hp
          obtain ⟨b', hb'⟩ : ∃ b' : Nat, b j = b' + 1 := ⟨b j - 1, by omega⟩
          have ecb : c A j + (b' + 1) - 1 = c A j + b' := by omega
          have eb1 : b' + 1 - 1 = b' := by omega
          have d4 := hC j
          by_cases hm : mk j = true
          · have eo : ownP c b mk j = 3 + 2 * b' + ns j (c j) := by rw [own0, if_pos hm, hb']; omega
            have ec : capP b mk j = 100 * (b' + 1) := by unfold capP; rw [if_pos hm, hb']
            rw [eo] at k1
            constructor
            · intro i r hi hr
              show ns j _ + (if 0 < c A j ∧ 0 < b j then _ else 0) ≤ _
              rw [if_pos ⟨hc0, hb0⟩, hb', ecb, eb1, ec, k1, k2]
              have P := p1 i r hi hr
              by_cases h7 : b' < 7
              · obtain ⟨r2, q1, q2, q3⟩ := J_made (k := ns j (ownP c b mk)) (f := ns j (c A)) (d := ns j (c j)) hi hr hc0 (by omega) h7 d4 (by omega)
                have g2 := gR_pos q1
                have J1 := I1 1 r2 (by decide) q1
                have J0 := I1 0 r2 (by decide) q1
                have hmn := ho_mono (c := c) (b := b) (cap := capP b mk) j _ _ q2
                have key := jv_le (X := ((c A j + b') * (2 * i) + b') * gR r) (g := gR r2) (a := ao c b j) (hR := ho c b (capP b mk) j (min (c A j * gR r) (100 * (b' + 1)))) (J0 := jt 0 (ns j (c j)) r2 (ns j (ownP c b mk))) (J1 := jt 1 (ns j (c j)) r2 (ns j (ownP c b mk))) (L := lt4 (ns j (c j)) (ns j (ownP c b mk))) g2 (by
                  have e : 2 * 1 * gR r2 * ao c b j = 2 * gR r2 * ao c b j := by rw [Nat.mul_one]
                  omega) (by omega) I2
                rw [Nat.mul_add, Nat.mul_one, Nat.mul_comm _ (ao c b j), Nat.add_comm (ns j (c A)) (c A j)]
                omega
              · have Q := J_many (k := ns j (ownP c b mk)) (f := ns j (c A)) (d := ns j (c j)) hi hr hc0 (by omega) (show 7 ≤ b' by omega) d4 (by omega)
                have M := J_mono (c := ns j (c A)) hi (by omega) hr (show ns j (ownP c b mk) ≤ ns j (ownP c b mk) + (3 + 2 * b' + ns j (c j)) - 17 by omega) (by omega)
                have hle := ho_le (c := c) (b := b) (cap := capP b mk) j (min (c A j * gR r) (100 * (b' + 1)))
                have h2 : min (c A j * gR r) (100 * (b' + 1)) + ho c b (capP b mk) j (min (c A j * gR r) (100 * (b' + 1))) ≤ c A j * gR r * (1 + ao c b j) := by
                  have h3 : min (c A j * gR r) (100 * (b' + 1)) * (1 + ao c b j) ≤ c A j * gR r * (1 + ao c b j) := Nat.mul_le_mul_right _ (Nat.min_le_left _ _)
                  rw [Nat.mul_add, Nat.mul_one] at h3
                  have h4 := Nat.mul_comm (ao c b j) (min (c A j * gR r) (100 * (b' + 1)))
                  omega
                have e : ((c A j + b') * (2 * i) + b') * gR r * (1 + ao c b j) + c A j * gR r * (1 + ao c b j) = (2 * i + 1) * gR r * ((c A j + b') * (1 + ao c b j)) := by
                  rw [← Nat.add_mul, ← Nat.add_mul]
                  have e1 : (c A j + b') * (2 * i) + b' + c A j = (2 * i + 1) * (c A j + b') := by
                    rw [Nat.add_mul (2 * i), Nat.one_mul, Nat.mul_comm (2 * i)]; omega
                  rw [e1, Nat.mul_right_comm (2 * i + 1), Nat.mul_assoc ((2 * i + 1) * gR r)]
                have h5 : (2 * i + 1) * gR r * ((c A j + b') * (1 + ao c b j)) ≤ (2 * i + 1) * gR r * ((c A j + b') * (lt4 (ns j (c j)) (ns j (ownP c b mk)) + 1)) := Nat.mul_le_mul_left _ (Nat.mul_le_mul_left _ (by omega))
                rw [Nat.add_comm (ns j (c A)) (c A j)]
                omega
            · show ns j _ + (if 0 < c A j ∧ 0 < b j then _ else 0) ≤ _
              rw [if_pos ⟨hc0, hb0⟩, hb', ecb, k1, k2]
              have Q := L_made (c1 := c A j) (f := ns j (c A)) (b := b') (d := ns j (c j)) (k := ns j (ownP c b mk)) hc0 (by omega) d4 (by omega)
              have h5 : (c A j + b') * (1 + ao c b j) ≤ (c A j + b') * (lt4 (ns j (c j)) (ns j (ownP c b mk)) + 1) := Nat.mul_le_mul_left _ (by omega)
              rw [Nat.add_comm (ns j (c A)) (c A j)]
              omega
          · have hm' : mk j = false := by
              cases h : mk j with
              | true => exact absurd h hm
              | false => rfl
            have c0 := hbt j hm'
            have a0 : ao c b j = 0 := by
              rw [c0, lt0] at I2
              omega
            have h0 : ∀ R : Nat, ho c b (capP b mk) j R = 0 := fun R => by
              have := ho_le (c := c) (b := b) (cap := capP b mk) j R
              rw [a0, Nat.zero_mul] at this
              omega
            have eo : ownP c b mk j = 2 + b' := by rw [own0, if_neg hm, hb', c0]; omega
            have ec : capP b mk j = 500 * (b' + 1) := by unfold capP; rw [if_neg hm, hb']
            rw [eo] at k1
            constructor
            · intro i r hi hr
              show ns j _ + (if 0 < c A j ∧ 0 < b j then _ else 0) ≤ _
              rw [if_pos ⟨hc0, hb0⟩, hb', ecb, eb1, ec, k1, k2, h0, a0, Nat.add_zero, Nat.add_zero, Nat.mul_one]
              have P := p1 i r hi hr
              by_cases h7 : b' < 7
              · have Q := J_bought (k := ns j (ownP c b mk)) (f := ns j (c A)) hi hr hc0 (by omega) h7 (by omega)
                rw [Nat.add_comm (ns j (c A)) (c A j)]
                omega
              · have Q := J_boughtM (k := ns j (ownP c b mk)) (f := ns j (c A)) hi hr hc0 (by omega) (show 7 ≤ b' by omega) (by omega)
                have M := J_mono (c := ns j (c A)) hi (by omega) hr (show ns j (ownP c b mk) ≤ ns j (ownP c b mk) + (2 + b') - 9 by omega) (by omega)
                have e1 : ((c A j + b') * (2 * i) + b') * gR r + c A j * gR r = (c A j + b') * (2 * i + 1) * gR r := by
                  rw [← Nat.add_mul, Nat.mul_add (c A j + b'), Nat.mul_one]
                  congr 1
                  omega
                have := Nat.min_le_left (c A j * gR r) (500 * (b' + 1))
                rw [Nat.add_comm (ns j (c A)) (c A j)]
                omega
            · show ns j _ + (if 0 < c A j ∧ 0 < b j then _ else 0) ≤ _
              rw [if_pos ⟨hc0, hb0⟩, hb', ecb, k1, k2, a0, Nat.add_zero, Nat.mul_one]
              have Q := L_bought (c1 := c A j) (f := ns j (c A)) (b := b') (k := ns j (ownP c b mk)) hc0 (by omega) (by omega)
              rw [Nat.add_comm (ns j (c A)) (c A j)]
              omega
        · -- nothing on this part
          have cup : ∀ m q : Nat, ns j (c A) + q ≤ 4 → (∀ i r : Nat, i < 2 → r < 32 → ∀ k : Nat, k < 62 → jt i (ns j (c A)) r k ≤ jt i (ns j (c A) + q) r k) ∧ ∀ k : Nat, k < 62 → lt4 (ns j (c A)) k ≤ lt4 (ns j (c A) + q) k := fun m q => by
            induction q with
            | zero => intro _; exact ⟨fun _ _ _ _ _ _ => Nat.le_refl _, fun _ _ => Nat.le_refl _⟩
            | succ q ihq =>
              intro h4
              obtain ⟨g1, g2⟩ := ihq (by omega)
              refine ⟨fun i r hi hr k hk => ?_, fun k hk => ?_⟩
              · have h1 := g1 i r hi hr k hk
                have h2 := Nat.le_of_ble_eq_true (brF (allN_at (allN_at (tJ_up i (ns j (c A) + q + 1) hi (by omega) (by omega)) k hk) r hr)).2
                have h2 : jt i (ns j (c A) + q + 1 - 1) r k ≤ jt i (ns j (c A) + q + 1) r k := h2
                rw [Nat.add_sub_cancel] at h2
                exact Nat.le_trans h1 h2
              · have h1 := g2 k hk
                have h2 := (L_up (c := ns j (c A) + q + 1) (by omega) (by omega) hk).2
                rw [Nat.add_sub_cancel] at h2
                exact Nat.le_trans h1 h2
          have hown : 1 ≤ ownP c b mk j := by rw [own0]; omega
          obtain ⟨g1, g2⟩ := cup 0 (c A j) (by omega)
          constructor
          · intro i r hi hr
            show ns j _ + (if 0 < c A j ∧ 0 < b j then _ else 0) ≤ _
            rw [if_neg hp, k2]
            have P := p1 i r hi hr
            have Q := g1 i r hi hr (ns j (ownP c b mk)) (by omega)
            have M := J_mono (c := ns j (c A) + c A j) hi (by omega) hr (show ns j (ownP c b mk) ≤ ns (j + 1) (ownP c b mk) by omega) hKj
            omega
          · show ns j _ + (if 0 < c A j ∧ 0 < b j then _ else 0) ≤ _
            rw [if_neg hp, k2]
            have Q := g2 (ns j (ownP c b mk)) (by omega)
            have M := L_mono (c := ns j (c A) + c A j) (by omega) (show ns j (ownP c b mk) ≤ ns (j + 1) (ownP c b mk) by omega) hKj
            omega
    obtain ⟨P1, P2⟩ := part A (Nat.le_refl _)
    refine ⟨fun i r hi hr => ?_, ?_⟩
    · refine Nat.le_trans (Nat.le_of_eq ?_) (P1 i r hi hr)
      rw [ao_rec A, ho_rec A, ← ns_mul, ← ns_add]
      refine ns_cg (fun B hB => ?_)
      by_cases hp : 0 < c A B ∧ 0 < b B
      · rw [if_pos hp, if_pos hp, if_pos hp, ← Nat.add_assoc]
        congr 1
        rw [Nat.add_mul ((c A B + b B - 1) * (2 * i)), Nat.add_mul]
        congr 1
        rw [← Nat.mul_assoc, Nat.mul_comm (2 * i * gR r) (c A B + b B - 1), ← Nat.mul_assoc (c A B + b B - 1)]
      · rw [if_neg hp, if_neg hp, if_neg hp, Nat.mul_zero]
    · rw [ao_rec A]; exact P2
end ZSL
