/-! THE ROOM: the tables of searches, as inequalities -/
set_option maxRecDepth 100000
def pF (c l k : Nat) : Nat := tp (tPF c) l k
/-- a search in a lot, and l visits of its tree -/
def pP (d l k : Nat) : Nat := l + k + pF d l k
/-- a lot's further visits: e of them in all (e at most 4) -/
def pX (e d l k : Nat) : Nat := if e ≤ 1 then 0 else if d = 0 then (e - 1) * (l + k) else tp (tPX e d) l k
/-- nodes of a lot that is taken e times -/
def nzm (d e k : Nat) : Nat := min (nzT (tJ 0 d) 1 k) (min (nzT (tJ 0 d) 2 k) (nzT (tJ 0 d) e k))
def pRep (c1 d b l k : Nat) : Nat := if b = 0 then pX c1 d l k else if b = 1 then (if c1 ≤ 1 then 0 else max (pX c1 d (l + 1) k) (pX (c1 - 1) d (l + 1) k + pX 2 d (l + 1) k)) else (c1 - 1) * pX 2 d (l + b) k
section ZH7
theorem pRep_0 {c1 d l k : Nat} : pRep c1 d 0 l k = pX c1 d l k := if_pos rfl
theorem pRep_1 {c1 d l k : Nat} : pRep c1 d 1 l k = if c1 ≤ 1 then 0 else max (pX c1 d (l + 1) k) (pX (c1 - 1) d (l + 1) k + pX 2 d (l + 1) k) := (if_neg (by decide)).trans (if_pos rfl)
theorem pRep_2 {c1 d l k i : Nat} : pRep c1 d (i + 1 + 1) l k = (c1 - 1) * pX 2 d (l + (i + 1 + 1)) k := (if_neg (by omega)).trans (if_neg (by omega))
theorem tp0 {l k : Nat} : tp 0 l k = 0 := tat0 _
theorem pF0 {l k : Nat} : pF 0 l k = 0 := tp0
theorem pF_dg {c l k : Nat} (hc : c ≤ 4) (hk : k < 62) (h : l + k < 84) : pF c (l + 1) k ≤ pF c l (k + 1) := by
  have key : ∀ T : Nat, ckDg T = true → tp T (l + 1) k ≤ tp T l (k + 1) := fun T hT =>
    Nat.le_of_ble_eq_true (allN_at (allN_at hT k hk) l (by show l < 84 - k; omega))
  have h5 : c = 0 ∨ c = 1 ∨ c = 2 ∨ c = 3 ∨ c = 4 := by omega
  rcases h5 with rfl | rfl | rfl | rfl | rfl
  · rw [pF0]; exact Nat.zero_le _
  · exact key _ ckDgF1
  · exact key _ ckDgF2
  · exact key _ ckDgF3
  · exact key _ ckDgF4
theorem pF_mk {c l k : Nat} (hc : c ≤ 4) (hk : k < 62) (h : l + k < 84) : pF c l k ≤ pF c l (k + 1) := by
  have key : ∀ T : Nat, ckMk T = true → tp T l k ≤ tp T l (k + 1) := fun T hT =>
    Nat.le_of_ble_eq_true (allN_at (allN_at hT k hk) l (by show l < 84 - k; omega))
  have h5 : c = 0 ∨ c = 1 ∨ c = 2 ∨ c = 3 ∨ c = 4 := by omega
  rcases h5 with rfl | rfl | rfl | rfl | rfl
  · rw [pF0]; exact Nat.zero_le _
  · exact key _ ckMkF1
  · exact key _ ckMkF2
  · exact key _ ckMkF3
  · exact key _ ckMkF4
/-- lots passed by, and calls not used -/
theorem pF_skip {c : Nat} (hc : c ≤ 4) : ∀ (m b l k : Nat), b ≤ m → k + m ≤ 62 → l + k + m ≤ 84 → pF c (l + b) k ≤ pF c l (k + m) := by
  intro m
  induction m with
  | zero => intro b l k hb _ _; rw [show b = 0 by omega]; exact Nat.le_refl _
  | succ m ih =>
    intro b l k hb hk hl
    by_cases h0 : b = 0
    · subst h0
      have h1 := ih 0 l k (by omega) (by omega) (by omega)
      exact Nat.le_trans h1 (pF_mk hc (by omega) (by omega))
    · have h1 := ih (b - 1) (l + 1) k (by omega) (by omega) (by omega)
      rw [show l + 1 + (b - 1) = l + b by omega] at h1
      exact Nat.le_trans h1 (pF_dg hc (by omega) (by omega))
theorem tPC_d {d : Nat} (h1 : 1 ≤ d) (h4 : d ≤ 4) : ckC0 (tPC d) = true ∧ ckC (tPF d) (tPC d) = true := by
  have h5 : d = 1 ∨ d = 2 ∨ d = 3 ∨ d = 4 := by omega
  rcases h5 with rfl | rfl | rfl | rfl
  · exact ⟨ckC0_1, ckC_1⟩
  · exact ⟨ckC0_2, ckC_2⟩
  · exact ⟨ckC0_3, ckC_3⟩
  · exact ⟨ckC0_4, ckC_4⟩
/-- sums of one column -/
theorem pC_sum {d k l : Nat} (h1 : 1 ≤ d) (h4 : d ≤ 4) (hk : k ≤ 62) : ∀ b : Nat, l + b + k ≤ 84 → ns b (fun i => pP d (l + i) k) + tp (tPC d) l k ≤ tp (tPC d) (l + b) k := by
  intro b
  induction b with
  | zero => intro _; show 0 + _ ≤ tp (tPC d) (l + 0) k; rw [Nat.zero_add]; exact Nat.le_refl _
  | succ b ih =>
    intro h
    have ih := ih (by omega)
    have hc := Nat.le_of_ble_eq_true (allN_at (allN_at (tPC_d h1 h4).2 k (by omega)) (l + b) (by show l + b < 84 - k; omega))
    have hc : tp (tPC d) (l + b) k + (l + b + k + tp (tPF d) (l + b) k) ≤ tp (tPC d) (l + b + 1) k := hc
    show ns b _ + pP d (l + b) k + _ ≤ tp (tPC d) (l + (b + 1)) k
    have e : pP d (l + b) k = l + b + k + tp (tPF d) (l + b) k := rfl
    rw [e, show l + (b + 1) = l + b + 1 by omega]
    omega
theorem ckSt_all {d c1 f : Nat} (h1 : 1 ≤ d) (h4 : d ≤ 4) (hc : 1 ≤ c1) (hf : c1 + f ≤ 4) : ckSt d c1 (tPC d) (if c1 = 1 then 0 else tPX c1 d) (if c1 ≤ 2 then 0 else tPX (c1 - 1) d) (if c1 = 1 then 0 else tPX 2 d) (tPF f) (tPF (c1 + f)) = true := by
  have h : (c1 = 1 ∧ f = 0) ∨ (c1 = 1 ∧ f = 1) ∨ (c1 = 1 ∧ f = 2) ∨ (c1 = 1 ∧ f = 3) ∨ (c1 = 2 ∧ f = 0) ∨ (c1 = 2 ∧ f = 1) ∨ (c1 = 2 ∧ f = 2) ∨ (c1 = 3 ∧ f = 0) ∨ (c1 = 3 ∧ f = 1) ∨ (c1 = 4 ∧ f = 0) := by omega
  have h5 : d = 1 ∨ d = 2 ∨ d = 3 ∨ d = 4 := by omega
  rcases h5 with rfl | rfl | rfl | rfl
  · rcases h with ⟨rfl, rfl⟩ | ⟨rfl, rfl⟩ | ⟨rfl, rfl⟩ | ⟨rfl, rfl⟩ | ⟨rfl, rfl⟩ | ⟨rfl, rfl⟩ | ⟨rfl, rfl⟩ | ⟨rfl, rfl⟩ | ⟨rfl, rfl⟩ | ⟨rfl, rfl⟩
    · exact ckSt1_1_0
    · exact ckSt1_1_1
    · exact ckSt1_1_2
    · exact ckSt1_1_3
    · exact ckSt1_2_0
    · exact ckSt1_2_1
    · exact ckSt1_2_2
    · exact ckSt1_3_0
    · exact ckSt1_3_1
    · exact ckSt1_4_0
  · rcases h with ⟨rfl, rfl⟩ | ⟨rfl, rfl⟩ | ⟨rfl, rfl⟩ | ⟨rfl, rfl⟩ | ⟨rfl, rfl⟩ | ⟨rfl, rfl⟩ | ⟨rfl, rfl⟩ | ⟨rfl, rfl⟩ | ⟨rfl, rfl⟩ | ⟨rfl, rfl⟩
    · exact ckSt2_1_0
    · exact ckSt2_1_1
    · exact ckSt2_1_2
    · exact ckSt2_1_3
    · exact ckSt2_2_0
    · exact ckSt2_2_1
    · exact ckSt2_2_2
    · exact ckSt2_3_0
    · exact ckSt2_3_1
    · exact ckSt2_4_0
  · rcases h with ⟨rfl, rfl⟩ | ⟨rfl, rfl⟩ | ⟨rfl, rfl⟩ | ⟨rfl, rfl⟩ | ⟨rfl, rfl⟩ | ⟨rfl, rfl⟩ | ⟨rfl, rfl⟩ | ⟨rfl, rfl⟩ | ⟨rfl, rfl⟩ | ⟨rfl, rfl⟩
    · exact ckSt3_1_0
    · exact ckSt3_1_1
    · exact ckSt3_1_2
    · exact ckSt3_1_3
    · exact ckSt3_2_0
    · exact ckSt3_2_1
    · exact ckSt3_2_2
    · exact ckSt3_3_0
    · exact ckSt3_3_1
    · exact ckSt3_4_0
  · rcases h with ⟨rfl, rfl⟩ | ⟨rfl, rfl⟩ | ⟨rfl, rfl⟩ | ⟨rfl, rfl⟩ | ⟨rfl, rfl⟩ | ⟨rfl, rfl⟩ | ⟨rfl, rfl⟩ | ⟨rfl, rfl⟩ | ⟨rfl, rfl⟩ | ⟨rfl, rfl⟩
    · exact ckSt4_1_0
    · exact ckSt4_1_1
    · exact ckSt4_1_2
    · exact ckSt4_1_3
    · exact ckSt4_2_0
    · exact ckSt4_2_1
    · exact ckSt4_2_2
    · exact ckSt4_3_0
    · exact ckSt4_3_1
    · exact ckSt4_4_0
theorem ckBt_all {c1 f : Nat} (hc : 1 ≤ c1) (hf : c1 + f ≤ 4) : ckBt c1 (tPF f) (tPF (c1 + f)) = true := by
  have h : (c1 = 1 ∧ f = 0) ∨ (c1 = 1 ∧ f = 1) ∨ (c1 = 1 ∧ f = 2) ∨ (c1 = 1 ∧ f = 3) ∨ (c1 = 2 ∧ f = 0) ∨ (c1 = 2 ∧ f = 1) ∨ (c1 = 2 ∧ f = 2) ∨ (c1 = 3 ∧ f = 0) ∨ (c1 = 3 ∧ f = 1) ∨ (c1 = 4 ∧ f = 0) := by omega
  rcases h with ⟨rfl, rfl⟩ | ⟨rfl, rfl⟩ | ⟨rfl, rfl⟩ | ⟨rfl, rfl⟩ | ⟨rfl, rfl⟩ | ⟨rfl, rfl⟩ | ⟨rfl, rfl⟩ | ⟨rfl, rfl⟩ | ⟨rfl, rfl⟩ | ⟨rfl, rfl⟩
  · exact ckBt_1_0
  · exact ckBt_1_1
  · exact ckBt_1_2
  · exact ckBt_1_3
  · exact ckBt_2_0
  · exact ckBt_2_1
  · exact ckBt_2_2
  · exact ckBt_3_0
  · exact ckBt_3_1
  · exact ckBt_4_0
/-- a part with b + 1 lots and no components, one call for each lot -/
theorem F_bought {c1 f b l k : Nat} (hc : 1 ≤ c1) (hf : c1 + f ≤ 4) (hK : k + (2 + b) ≤ 62) (hl : l + (k + (2 + b)) ≤ 84) :
    ns (b + 1) (fun i => pP 0 (l + i) k) + pRep c1 0 b l k + pF f (l + (b + 1)) k ≤ pF (c1 + f) l (k + (2 + b)) := by
  have h := allN_at (allN_at (allN_at (ckBt_all hc hf) (k + (2 + b)) (by omega)) b (by show b < k + (2 + b) - 1; omega)) l (by show l < 85 - (k + (2 + b)); omega)
  have h := Nat.le_of_ble_eq_true h
  have ek : Nat.sub (k + (2 + b)) (Nat.add 2 b) = k := by
    show (k + (2 + b)) - (2 + b) = k
    omega
  rw [ek] at h
  have h : (b + 1) * (l + k) + (b + 1) * b / 2 + (c1 - 1) * (l + b + k) + pF f (l + (b + 1)) k ≤ pF (c1 + f) l (k + (2 + b)) := h
  have hs : ∀ m : Nat, ns m (fun i => pP 0 (l + i) k) = m * (l + k) + m * (m - 1) / 2 := by
    intro m
    induction m with
    | zero => show 0 = 0 * _ + 0 * _ / 2; rw [Nat.zero_mul, Nat.zero_mul]
    | succ m ih =>
      show ns m _ + pP 0 (l + m) k = _
      have e : pP 0 (l + m) k = l + m + k := by
        unfold pP
        rw [pF0]; rfl
      rw [ih, e, Nat.succ_mul, Nat.add_sub_cancel]
      have e2 : (m + 1) * m = m * (m - 1) + 2 * m := by
        cases m with
        | zero => rfl
        | succ j =>
          show (j + 1 + 1) * (j + 1) = (j + 1) * (j + 1 - 1) + 2 * (j + 1)
          rw [Nat.add_sub_cancel, Nat.add_mul (j + 1) 1 (j + 1), Nat.mul_add (j + 1) j 1]
          omega
      rw [e2, Nat.add_mul_div_left _ _ (by decide)]
      omega
  have h2 := hs (b + 1)
  rw [Nat.add_sub_cancel] at h2
  rw [h2]
  have hx : ∀ e l : Nat, pX e 0 l k ≤ (e - 1) * (l + k) := fun e l => by
    unfold pX
    split
    · exact Nat.zero_le _
    · rw [if_pos rfl]; exact Nat.le_refl _
  have h3 : pRep c1 0 b l k ≤ (c1 - 1) * (l + b + k) := by
    unfold pRep
    by_cases hb : b = 0
    · rw [if_pos hb, hb]
      exact hx c1 l
    · rw [if_neg hb]
      by_cases hb1 : b = 1
      · rw [if_pos hb1, hb1]
        by_cases hc1 : c1 ≤ 1
        · rw [if_pos hc1]; exact Nat.zero_le _
        · rw [if_neg hc1]
          have a1 := hx c1 (l + 1)
          have a2 := hx (c1 - 1) (l + 1)
          have a3 := hx 2 (l + 1)
          have e : (c1 - 1 - 1) * (l + 1 + k) + (2 - 1) * (l + 1 + k) = (c1 - 1) * (l + 1 + k) := by
            rw [← Nat.add_mul]
            congr 1
            omega
          omega
      · rw [if_neg hb1]
        refine Nat.mul_le_mul_left _ ?_
        have := hx 2 (l + b)
        omega
  omega
/-- a made part with b + 1 lots and d components -/
theorem F_made {d c1 f b l k : Nat} (hd : d ≤ 4) (hc : 1 ≤ c1) (hf : c1 + f ≤ 4) (hK : k + (3 + 2 * b + d) ≤ 62) (hl : l + (k + (3 + 2 * b + d)) ≤ 84) :
    ns (b + 1) (fun i => pP d (l + i) k) + pRep c1 d b l k + pF f (l + (b + 1)) k ≤ pF (c1 + f) l (k + (3 + 2 * b + d)) := by
  by_cases h0 : d = 0
  · subst h0
    have h := F_bought (c1 := c1) (f := f) (b := b) (l := l) (k := k) hc hf (by omega) (by omega)
    have h2 := pF_skip (c := c1 + f) hf (1 + b) 0 l (k + (2 + b)) (by omega) (by omega) (by omega)
    rw [Nat.add_zero, show k + (2 + b) + (1 + b) = k + (3 + 2 * b + 0) by omega] at h2
    omega
  · have h := allN_at (allN_at (allN_at (ckSt_all (d := d) (by omega) hd hc hf) (k + (3 + 2 * b + d)) (by omega)) b (by show b < (k + (3 + 2 * b + d) - (1 + d)) / 2; omega)) l (by show l < 85 - (k + (3 + 2 * b + d)); omega)
    have h := Nat.le_of_ble_eq_true h
    have ek : Nat.sub (k + (3 + 2 * b + d)) (Nat.add (Nat.add 3 d) (Nat.mul 2 b)) = k := by
      show (k + (3 + 2 * b + d)) - (3 + d + 2 * b) = k
      omega
    rw [ek] at h
    have hs := pC_sum (d := d) (k := k) (l := l) (by omega) hd (by omega) (b + 1) (by omega)
    have hx : ∀ e l : Nat, tp (if e ≤ 1 then 0 else tPX e d) l k = pX e d l k := fun e l => by
      unfold pX
      by_cases h1 : e ≤ 1
      · rw [if_pos h1, if_pos h1, tp0]
      · rw [if_neg h1, if_neg h1, if_neg h0]
    have e1 : (if c1 = 1 then 0 else tPX c1 d) = (if c1 ≤ 1 then 0 else tPX c1 d) := by
      by_cases h1 : c1 = 1
      · rw [if_pos h1, if_pos (by omega)]
      · rw [if_neg h1, if_neg (by omega)]
    have e2 : (if c1 ≤ 2 then 0 else tPX (c1 - 1) d) = (if c1 - 1 ≤ 1 then 0 else tPX (c1 - 1) d) := by
      by_cases h1 : c1 ≤ 2
      · rw [if_pos h1, if_pos (by omega)]
      · rw [if_neg h1, if_neg (by omega)]
    have hr : (Nat.rec (tp (if c1 = 1 then 0 else tPX c1 d) l k) (fun m _ => Nat.rec (Nat.max (tp (if c1 = 1 then 0 else tPX c1 d) (Nat.succ l) k) (Nat.add (tp (if c1 ≤ 2 then 0 else tPX (c1 - 1) d) (Nat.succ l) k) (tp (if c1 = 1 then 0 else tPX 2 d) (Nat.succ l) k))) (fun _ _ => Nat.mul (Nat.sub c1 1) (tp (if c1 = 1 then 0 else tPX 2 d) (Nat.add l b) k)) m) b : Nat) = pRep c1 d b l k := by
      cases b with
      | zero =>
        rw [pRep_0]
        show tp (if c1 = 1 then 0 else tPX c1 d) l k = _
        rw [e1, hx]
      | succ j =>
        cases j with
        | zero =>
          rw [pRep_1]
          show max (tp (if c1 = 1 then 0 else tPX c1 d) (l + 1) k) (tp (if c1 ≤ 2 then 0 else tPX (c1 - 1) d) (l + 1) k + tp (if c1 = 1 then 0 else tPX 2 d) (l + 1) k) = _
          by_cases h1 : c1 = 1
          · subst h1
            rw [if_pos rfl, if_pos (by decide), if_pos (by decide), tp0]
            rfl
          · have h2 : tp (tPX 2 d) (l + 1) k = pX 2 d (l + 1) k := by
              have := hx 2 (l + 1)
              rw [if_neg (by decide)] at this
              exact this
            have h3 : ¬ c1 ≤ 1 := by omega
            have h4 := hx c1 (l + 1)
            have h5 := hx (c1 - 1) (l + 1)
            rw [← e2] at h5
            rw [if_neg h3] at h4
            have h6 : (if c1 = 1 then 0 else tPX c1 d) = tPX c1 d := if_neg h1
            have h7 : (if c1 = 1 then 0 else tPX 2 d) = tPX 2 d := if_neg h1
            rw [h6, h7, if_neg h3, h4, h5, h2]
        | succ i =>
          rw [pRep_2]
          show (c1 - 1) * tp (if c1 = 1 then 0 else tPX 2 d) (l + (i + 1 + 1)) k = _
          by_cases h1 : c1 = 1
          · subst h1
            rw [Nat.sub_self, Nat.zero_mul, Nat.zero_mul]
          · have h2 : tp (tPX 2 d) (l + (i + 1 + 1)) k = pX 2 d (l + (i + 1 + 1)) k := by
              have := hx 2 (l + (i + 1 + 1))
              rw [if_neg (by decide)] at this
              exact this
            rw [if_neg h1, h2]
    rw [hr] at h
    have h : (tp (tPC d) (l + (b + 1)) k - tp (tPC d) l k) + pRep c1 d b l k + pF f (l + (b + 1)) k ≤ pF (c1 + f) l (k + (3 + 2 * b + d)) := h
    omega
end ZH7
