/-! THE JDK OVER THE WORLD: ArrayList grows, adds -/
set_option maxRecDepth 100000
/-- beyond the heap's end nothing lies -/
abbrev wfr (σ : zS) : Prop := ∀ q : Nat, σ.2.1 ≤ q → σ.1 q = none
/-- a cell that may lie in a list -/
def wOb (K : List (String × Nat)) (w : zw_W) (b : Nat) : Prop := (∃ (ci : Nat) (fs : List Value), w b = some (.inr (ci, fs)) ∧ zco_at ci "java/lang/Object" = true) ∨ (∃ A : vp_A, w b = some (.inl (0, A))) ∨ (zcst (w b) ∧ ∃ r : String × Nat, K.find? (fun r => r.2 == b) = some r ∧ (r.1 = "java/lang/Boolean" ∨ r.1 = "java/lang/Integer"))
theorem wOb.el {K : List (String × Nat)} {σ : zS} {b : Nat} (h : wOb K σ.1 b) : za_el K "java/lang/Object" (.ref b) σ = some (some b) := by
  unfold za_el
  simp only
  rcases h with ⟨ci, fs, h1, h2⟩ | ⟨A, h1⟩ | ⟨h1, r, h2, h3⟩
  · rw [h1]; simp only; rw [if_pos h2]
  · rw [h1]; simp only; rw [if_pos ⟨trivial, trivial⟩]
  · have e : za_elK K "java/lang/Object" b = some (some b) := by
      unfold za_elK
      rw [h2]
      simp only
      rw [if_pos ⟨trivial, h3⟩]
    rcases h1 with h1 | ⟨kd, A, h1, hk⟩
    · rw [h1]; exact e
    · rw [h1]
      show (if kd = 0 ∧ True then some (some b) else za_elK K "java/lang/Object" b) = some (some b)
      rw [if_neg (fun q => absurd q.1 (by omega))]
      exact e
def wgood : va_E → Prop
  | .inr x => zco_at x.1 "java/lang/Object" = true
  | .inl x => x.1 = 0
theorem wOb.up {K : List (String × Nat)} {w : zw_W} {a b : Nat} {x : va_E} (h : wOb K w b) (hx : b = a → wgood x) : wOb K (zw_up w a x) b := by
  by_cases hb : b = a
  · have hg := hx hb
    subst hb
    match x, hg with
    | .inr (ci, fs), hg => exact Or.inl ⟨ci, fs, zw_up_same _ _ _, hg⟩
    | .inl (0, A), rfl => exact Or.inr (Or.inl ⟨A, zw_up_same _ _ _⟩)
  · rcases h with ⟨ci, fs, h1, h2⟩ | ⟨A, h1⟩ | ⟨h1, r, h2, h3⟩
    · exact Or.inl ⟨ci, fs, (zw_up_ne _ _ hb).trans h1, h2⟩
    · exact Or.inr (Or.inl ⟨A, (zw_up_ne _ _ hb).trans h1⟩)
    · exact Or.inr (Or.inr ⟨by rw [zw_up_ne _ _ hb]; exact h1, r, h2, h3⟩)
theorem wOb.arr {K : List (String × Nat)} {w : zw_W} {b r : Nat} {A : vp_A} (h : wOb K w b) (hr : w r = some (.inl (1, A))) : b ≠ r := by
  rintro rfl
  rcases h with ⟨ci, fs, h1, h2⟩ | ⟨A', h1⟩ | ⟨h1, _⟩
  · rw [hr] at h1; cases h1
  · rw [hr] at h1; cases h1
  · rcases h1 with h1 | ⟨kd, A2, h1, hk⟩
    · rw [hr] at h1; cases h1
    · rw [hr] at h1
      have := Option.some.inj h1
      cases this
      exact absurd hk (by decide)
/-- a new cell does not matter -/
theorem wOb.new {K : List (String × Nat)} {w : zw_W} {b q : Nat} {x : va_E} (h : wOb K w b) (hq : w q = none) (hk : ∀ r ∈ K, r.2 ≠ q) : wOb K (zw_up w q x) b := by
  refine h.up ?_
  rintro rfl
  exfalso
  rcases h with ⟨ci, fs, h1, h2⟩ | ⟨A', h1⟩ | ⟨h1, r, h2, h3⟩
  · rw [hq] at h1; cases h1
  · rw [hq] at h1; cases h1
  · have := List.find?_some h2
    exact hk r (List.mem_of_find?_eq_some h2) (by simpa using this)
/-- the constants' addresses lie below the run's cells -/
abbrev wK (g : zG) : Prop := ∀ r ∈ zg_k g, r.2 < zg_n g
theorem zs_fit_of {K : List (String × Nat)} {f : Nat → Option Nat} {sp n : Nat} {σ : zS} (h : ∀ i x : Nat, f i = some x → wOb K σ.1 x) : zs_fitB K "java/lang/Object" f sp n σ = true := by
  unfold zs_fitB
  rw [List.all_eq_true]
  intro i hi
  cases hf : f (sp + i) with
  | none => rfl
  | some y => simp only; rw [(h _ _ hf).el]; rfl
/-- the list's elements -/
abbrev wEl (g : zG) (w : zw_W) (n : Nat) (f : Nat → Option Nat) : Prop := (∀ i x : Nat, f i = some x → wOb (zg_k g) w x) ∧ ∀ i : Nat, n ≤ i → f i = none
section ZLA
variable {g : zG} {σ : zS} {a r cap n i b it E0 x m : Nat} {mc : Int32} {f : Nat → Option Nat}
theorem c_newLength {o mg pg : Nat} (h : o < 1000000) (h2 : mg < 1000000) (h3 : pg < 1000000) (h4 : 0 < o) : zEnd g 0 49 [iv o, iv mg, iv pg] σ (.inl (some (iv (o + (if mg < pg then pg else mg) : Nat)))) σ := zEnd_of (by
  refine zW_p 3 rfl ?_
  refine aW_max rfl rfl (Nat.le_of_ble_eq_true rfl) ?_
  have e : (if Int32.ofInt (mg : Int) < Int32.ofInt (pg : Int) then Int32.ofInt (pg : Int) else Int32.ofInt (mg : Int)) = Int32.ofInt ((if mg < pg then pg else mg : Nat) : Int) := by
    by_cases hc : mg < pg
    · rw [if_pos ((I_lt ⟨by omega, by omega⟩ ⟨by omega, by omega⟩).mpr (by omega)), if_pos hc]
    · rw [if_neg (fun q => hc (by have := (I_lt ⟨by omega, by omega⟩ ⟨by omega, by omega⟩).mp q; omega)), if_neg hc]
  rw [e]
  have hm : (if mg < pg then pg else mg) < 1000000 := by split <;> assumption
  generalize (if mg < pg then pg else mg) = M at hm
  refine zW_p 1 rfl ?_
  rw [I_add]
  refine zW_p 3 rfl ?_
  refine zW_br rfl rfl (fun hP => ?_) (fun hP => ?_)
  · rw [I_le ⟨by omega, by omega⟩ ⟨by decide, by decide⟩] at hP
    omega
  · refine zW_p 1 rfl ?_
    refine wW_ldcI rfl rfl ?_
    refine zW_br rfl rfl (fun hP => ?_) (fun hP => ?_)
    · rw [show (2147483639 : Int32) = Int32.ofInt 2147483639 from rfl, I_lt ⟨by decide, by decide⟩ ⟨by omega, by omega⟩] at hP
      omega
    · refine zW_p 1 rfl ?_
      exact zW_reti rfl rfl rfl ⟨by rw [show ((o + M : Nat) : Int) = (o : Int) + M from by omega], rfl⟩)
theorem c_copyOf2 (hr : σ.1 r = some (.inl (1, cap, .inr (.inr (.inr (.inr f)))))) (hel : wEl g σ.1 n f) (hn : n ≤ m) (hc : n ≤ cap) (hm : m ≤ 1000000) (hcap : cap ≤ 1000000) (hfr : wfr σ) (hz : zg_n g ≤ σ.2.1) (hk : wK g) :
    zEnd g 0 52 [.ref r, iv m, .ref (zg_m g)] σ (.inl (some (.ref σ.2.1))) (zw_up σ.1 σ.2.1 (.inl (1, m, .inr (.inr (.inr (.inr f))))), σ.2.1 + 1, σ.2.2 + m) := zEnd_of (by
  have hne : r ≠ σ.2.1 := fun e => by rw [e, hfr _ (Nat.le_refl _)] at hr; cases hr
  have hnn : ¬ Int32.ofInt (m : Int) < 0 := by rw [I_lt0 ⟨by omega, by omega⟩]; omega
  refine zW_p 1 rfl ?_
  refine wW_ldc rfl rfl ?_
  refine zW_br rfl rfl (fun hP => absurd rfl hP) (fun _ => ?_)
  refine zW_p 1 rfl ?_
  refine wW_anewa rfl ⟨hnn, by rw [I_cl (by omega)]; exact hm⟩ rfl rfl ?_
  rw [I_cl (by omega)]
  refine zW_p 7 rfl ?_
  refine wW_len rfl ((zw_up_ne _ _ hne).trans hr) rfl ?_
  refine zW_p 1 rfl ?_
  refine aW_min rfl rfl (Nat.le_of_ble_eq_true rfl) ?_
  have e : (if Int32.ofInt (m : Int) < Int32.ofInt (cap : Int) then Int32.ofInt (m : Int) else Int32.ofInt (cap : Int)) = Int32.ofInt ((if m < cap then m else cap : Nat) : Int) := by
    by_cases hc : m < cap
    · rw [if_pos ((I_lt ⟨by omega, by omega⟩ ⟨by omega, by omega⟩).mpr (by omega)), if_pos hc]
    · rw [if_neg (fun q => hc (by have := (I_lt ⟨by omega, by omega⟩ ⟨by omega, by omega⟩).mp q; omega)), if_neg hc]
  rw [e]
  have hL1 : (if m < cap then m else cap) ≤ m := by split <;> omega
  have hL2 : (if m < cap then m else cap) ≤ cap := by split <;> omega
  have hL3 : n ≤ (if m < cap then m else cap) := by split <;> omega
  generalize (if m < cap then m else cap) = L at hL1 hL2 hL3
  have hnL : ¬ Int32.ofInt (L : Int) < 0 := by rw [I_lt0 ⟨by omega, by omega⟩]; omega
  refine wW_copy rfl rfl (Or.inr ⟨rfl, rfl⟩) ((zw_up_ne _ _ hne).trans hr) (zw_up_same _ _ _) rfl rfl (by decide) (by decide) hnL ?_ ?_ hz (zs_fit_of (fun i x hx => (hel.1 i x hx).new (hfr _ (Nat.le_refl _)) (fun q hq e => by have := hk q hq; omega))) (by decide) ?_
  · rw [I_cl (by omega)]
    show 0 + L ≤ cap
    omega
  · rw [I_cl (by omega)]
    show 0 + L ≤ m
    omega
  rw [I_cl (by omega)]
  refine zW_p 1 rfl ?_
  refine wW_ret rfl rfl rfl rfl ⟨rfl, ?_⟩
  have ef : va_cpy f (fun _ => none) (Int32.ofInt 0).toNatClampNeg (Int32.ofInt 0).toNatClampNeg L = f := by
    funext i
    show (if 0 ≤ i ∧ i < 0 + L then f (0 + (i - 0)) else none) = f i
    by_cases hi : i < L
    · rw [if_pos ⟨by omega, by omega⟩]; congr 1; omega
    · rw [if_neg (by omega), hel.2 i (by omega)]
  rw [ef, zw_up_up])
theorem c_copyOf (hr : σ.1 r = some (.inl (1, cap, .inr (.inr (.inr (.inr f)))))) (hel : wEl g σ.1 n f) (hn : n ≤ m) (hc : n ≤ cap) (hm : m ≤ 1000000) (hcap : cap ≤ 1000000) (hfr : wfr σ) (hz : zg_n g ≤ σ.2.1) (hk : wK g) :
    zEnd g 1 51 [.ref r, iv m] σ (.inl (some (.ref σ.2.1))) (zw_up σ.1 σ.2.1 (.inl (1, m, .inr (.inr (.inr (.inr f))))), σ.2.1 + 1, σ.2.2 + m) := zEnd_of (by
  refine zW_p 3 rfl ?_
  refine wW_getC rfl rfl hr (Nat.le_of_ble_eq_true rfl) ?_
  refine wS rfl rfl rfl rfl rfl rfl rfl rfl rfl (c_copyOf2 hr hel hn hc hm hcap hfr hz hk) (by decide) ?_
  exact wW_ret rfl rfl rfl rfl ⟨rfl, rfl⟩)
theorem c_grow2 (h : wL σ.1 a mc r cap n f) (hel : wEl g σ.1 n f) (hE : zt_val (zg_s g) ("java/util/ArrayList", "DEFAULTCAPACITY_EMPTY_ELEMENTDATA", "[Ljava/lang/Object;") = some (.ref E0)) (hr0 : cap = 0 → r = E0) (hm : cap < m) (hm2 : m ≤ 400000) (hfr : wfr σ) (hz : zg_n g ≤ σ.2.1) (hna : zg_n g ≤ a) (hk : wK g) :
    ∃ C : Nat, m ≤ C ∧ C ≤ m + cap / 2 + 10 ∧ zEnd g 2 48 [.ref a, iv m] σ (.inl (some (.ref σ.2.1))) (zw_up (zw_up σ.1 σ.2.1 (.inl (1, C, .inr (.inr (.inr (.inr f)))))) a (.inr (16, [.int mc, .ref σ.2.1, iv n])), σ.2.1 + 1, σ.2.2 + C) := by
  have hc := h.2.2
  have hne : a ≠ σ.2.1 := fun e => by have := hfr a (Nat.le_of_eq e.symm); rw [h.1] at this; cases this
  by_cases h0 : cap = 0
  · have hf : f = fun _ => none := by funext i; exact hel.2 i (by omega)
    refine ⟨if 10 < m then m else 10, by split <;> omega, by split <;> omega, zEnd_of ?_⟩
    subst h0
    refine zW_p 1 rfl ?_
    refine wW_get rfl h.1 rfl rfl ?_
    refine wW_len rfl h.2.1 rfl ?_
    refine zW_p 4 rfl ?_
    refine wW_get rfl h.1 rfl rfl ?_
    refine aW_stat rfl rfl hE ?_
    refine zW_br rfl rfl (fun _ => ?_) (fun hP => absurd (hr0 rfl) hP)
    refine zW_p 3 rfl ?_
    refine aW_max rfl rfl (Nat.le_of_ble_eq_true rfl) ?_
    have e : (if (Int8.ofInt 10).toInt32 < Int32.ofInt (m : Int) then Int32.ofInt (m : Int) else (Int8.ofInt 10).toInt32) = Int32.ofInt ((if 10 < m then m else 10 : Nat) : Int) := by
      rw [show (Int8.ofInt 10).toInt32 = Int32.ofInt 10 from rfl]
      by_cases hc : 10 < m
      · rw [if_pos ((I_lt ⟨by decide, by decide⟩ ⟨by omega, by omega⟩).mpr (by omega)), if_pos hc]
      · rw [if_neg (fun q => hc (by have := (I_lt ⟨by decide, by decide⟩ ⟨by omega, by omega⟩).mp q; omega)), if_neg hc]; rfl
    rw [e]
    have hM : (if 10 < m then m else 10) ≤ 400000 := by split <;> omega
    generalize (if 10 < m then m else 10) = M at hM
    refine wW_anewa rfl ⟨by rw [I_lt0 ⟨by omega, by omega⟩]; omega, by rw [I_cl (by omega)]; omega⟩ rfl rfl ?_
    rw [I_cl (by omega)]
    refine zW_p 1 rfl ?_
    refine wW_put rfl ((zw_up_ne _ _ hne).trans h.1) rfl hna (Or.inl rfl) rfl rfl rfl ?_
    refine wW_ret rfl rfl rfl rfl ⟨rfl, ?_⟩
    rw [hf]; rfl
  · have hcap : 0 < cap := by omega
    have hM1 : m ≤ cap + (if m - cap < cap / 2 then cap / 2 else m - cap) := by split <;> omega
    have hM2 : cap + (if m - cap < cap / 2 then cap / 2 else m - cap) ≤ m + cap / 2 + 10 := by split <;> omega
    refine ⟨cap + (if m - cap < cap / 2 then cap / 2 else m - cap), hM1, hM2, zEnd_of ?_⟩
    refine zW_p 1 rfl ?_
    refine wW_get rfl h.1 rfl rfl ?_
    refine wW_len rfl h.2.1 rfl ?_
    refine zW_p 2 rfl ?_
    refine zW_br rfl rfl (fun _ => ?_) (fun hP => ?_)
    · refine zW_p 7 rfl ?_
      have e1 : Int32.ofInt (m : Int) - Int32.ofInt (cap : Int) = Int32.ofInt ((m - cap : Nat) : Int) := by rw [I_sub]; congr 1; omega
      have e2 : Int32.ofInt (cap : Int) >>> (Int32.ofInt 1 &&& 31) = Int32.ofInt ((cap / 2 : Nat) : Int) := by
        rw [Int32.ofInt_eq_ofNat, Int32.ofInt_eq_ofNat]
        exact pk_shrN (by omega) (Int32.ofInt 1 &&& 31) 1 (by decide)
      rw [e1, e2]
      refine wS rfl rfl rfl rfl rfl rfl rfl rfl rfl (c_newLength (by omega) (by omega) (by omega) hcap) (by decide) ?_
      generalize cap + (if m - cap < cap / 2 then cap / 2 else m - cap) = M at hM1 hM2
      refine zW_p 3 rfl ?_
      refine wW_get rfl h.1 rfl rfl ?_
      refine zW_p 1 rfl ?_
      refine wS rfl rfl rfl rfl rfl rfl rfl rfl rfl (c_copyOf (m := M) h.2.1 hel (by omega) hc.1 (by omega) (by omega) hfr hz hk) (by decide) ?_
      refine zW_p 1 rfl ?_
      refine wW_put rfl ((zw_up_ne _ _ hne).trans h.1) rfl hna (Or.inl rfl) rfl rfl rfl ?_
      exact wW_ret rfl rfl rfl rfl ⟨rfl, rfl⟩
    · rw [I_gt0 ⟨by omega, by omega⟩] at hP
      omega
end ZLA
