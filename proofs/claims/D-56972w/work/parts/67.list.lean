/-! THE JDK OVER THE WORLD: whole numbers; ArrayList and its iterator -/
set_option maxRecDepth 100000
abbrev iv (v : Int) : Value := .int (Int32.ofInt v)
/-- within an int's range -/
abbrev rg (v : Int) : Prop := -2147483648 ≤ v ∧ v < 2147483648
section ZII
variable {a b : Int} {n i : Nat}
theorem I_to (h : rg a) : (Int32.ofInt a).toInt = a := Int32.toInt_ofInt_of_le (by have := h.1; omega) (by have := h.2; omega)
theorem I_lt (ha : rg a) (hb : rg b) : Int32.ofInt a < Int32.ofInt b ↔ a < b := by rw [Int32.lt_iff_toInt_lt, I_to ha, I_to hb]
theorem I_le (ha : rg a) (hb : rg b) : Int32.ofInt a ≤ Int32.ofInt b ↔ a ≤ b := by rw [Int32.le_iff_toInt_le, I_to ha, I_to hb]
theorem I_eq (ha : rg a) (hb : rg b) : Int32.ofInt a = Int32.ofInt b ↔ a = b := by rw [← Int32.toInt_inj, I_to ha, I_to hb]
theorem I_0 : (0 : Int32) = Int32.ofInt 0 := rfl
theorem I_lt0 (ha : rg a) : Int32.ofInt a < 0 ↔ a < 0 := by rw [I_0]; exact I_lt ha ⟨by decide, by decide⟩
theorem I_gt0 (ha : rg a) : 0 < Int32.ofInt a ↔ 0 < a := by rw [I_0]; exact I_lt ⟨by decide, by decide⟩ ha
theorem I_le0 (ha : rg a) : Int32.ofInt a ≤ 0 ↔ a ≤ 0 := by rw [I_0]; exact I_le ha ⟨by decide, by decide⟩
theorem I_ge0 (ha : rg a) : 0 ≤ Int32.ofInt a ↔ 0 ≤ a := by rw [I_0]; exact I_le ⟨by decide, by decide⟩ ha
theorem I_eq0 (ha : rg a) : Int32.ofInt a = 0 ↔ a = 0 := by rw [I_0]; exact I_eq ha ⟨by decide, by decide⟩
theorem I_nat : Int32.ofNat n = Int32.ofInt n := Int32.ofInt_eq_ofNat.symm
theorem I_cl (h : n < 2147483648) : (Int32.ofInt (n : Int)).toNatClampNeg = n := by
  rw [← I_nat]
  exact Int32.toNatClampNeg_ofNat_of_lt h
theorem I_in (hi : i < n) (h : n < 2147483648) : za_in (Int32.ofInt (i : Int)) n = true := by
  unfold za_in
  refine decide_eq_true ?_
  rintro (h1 | h1)
  · rw [I_lt0 ⟨by omega, by omega⟩] at h1
    omega
  · rw [I_cl (by omega)] at h1
    omega
theorem I_out (hi : n ≤ i) (h : i < 2147483648) : za_in (Int32.ofInt (i : Int)) n = false := by
  unfold za_in
  refine decide_eq_false ?_
  intro h1
  refine h1 (Or.inr ?_)
  rw [I_cl h]
  exact hi
theorem I_add : Int32.ofInt a + Int32.ofInt b = Int32.ofInt (a + b) := (Int32.ofInt_add a b).symm
theorem I_sub : Int32.ofInt a - Int32.ofInt b = Int32.ofInt (a - b) := by
  rw [Int32.sub_eq_add_neg, ← Int32.ofInt_neg, I_add, Int.sub_eq_add_neg]
theorem I_mul : Int32.ofInt a * Int32.ofInt b = Int32.ofInt (a * b) := (Int32.ofInt_mul a b).symm
end ZII
theorem zEnd_of {g : zG} {d k : Nat} {As : List Value} {σ σ1 : zS} {o : Option Value ⊕ String} (h : zW g d k 0 (lv_args 0 As) [] σ (fun o' σ' => o' = o ∧ σ' = σ1)) : zEnd g d k As σ o σ1 := by
  obtain ⟨o', σ', h1, rfl, rfl⟩ := h
  exact h1
theorem zEnd.le {g : zG} {d d' k : Nat} {As : List Value} {σ σ1 : zS} {o : Option Value ⊕ String} (h : zEnd g d k As σ o σ1) (hd : d ≤ d') : zEnd g d' k As σ o σ1 := zR.deep h hd
theorem zw_up_up (w : zw_W) (a : Nat) (x y : va_E) : zw_up (zw_up w a x) a y = zw_up w a y := by
  funext b
  unfold zw_up
  by_cases h : b = a
  · rw [if_pos h, if_pos h]
  · rw [if_neg h, if_neg h, if_neg h]
theorem zw_up_comm (w : zw_W) {a b : Nat} (h : a ≠ b) (x y : va_E) : zw_up (zw_up w a x) b y = zw_up (zw_up w b y) a x := by
  funext c
  unfold zw_up
  by_cases h1 : c = b
  · rw [if_pos h1]
    by_cases h2 : c = a
    · exact absurd (h2.symm.trans h1) h
    · rw [if_neg h2, if_pos h1]
  · rw [if_neg h1, if_neg h1]
/-- a list in the world: its object, its array -/
def wL (w : zw_W) (a : Nat) (mc : Int32) (r cap n : Nat) (f : Nat → Option Nat) : Prop := w a = some (.inr (16, [.int mc, .ref r, iv n])) ∧ w r = some (.inl (1, cap, .inr (.inr (.inr (.inr f))))) ∧ n ≤ cap ∧ cap ≤ 600000
section ZLI
variable {g : zG} {σ : zS} {a r cap n i b it : Nat} {mc : Int32} {f : Nat → Option Nat}
theorem wL.rc (h : wL σ.1 a mc r cap n f) : zrc g σ a = some "java/util/ArrayList" := w_rc h.1 rfl
theorem c_size (h : wL σ.1 a mc r cap n f) : zEnd g 0 6 [.ref a] σ (.inl (some (iv n))) σ := zEnd_of (by
  refine zW_p 1 rfl ?_
  refine wW_get rfl h.1 rfl rfl ?_
  exact zW_reti rfl rfl rfl ⟨rfl, rfl⟩)
theorem c_isEmpty (h : wL σ.1 a mc r cap n f) : zEnd g 0 193 [.ref a] σ (.inl (some (iv (if n = 0 then 1 else 0)))) σ := zEnd_of (by
  have hc := h.2.2
  refine zW_p 1 rfl ?_
  refine wW_get rfl h.1 rfl rfl ?_
  refine zW_br rfl rfl (fun hP => ?_) (fun hP => ?_)
  · rw [I_eq0 ⟨by omega, by omega⟩] at hP
    rw [if_neg (by omega)]
    refine zW_p 1 rfl ?_
    exact zW_reti rfl rfl rfl ⟨rfl, rfl⟩
  · rw [I_eq0 ⟨by omega, by omega⟩] at hP
    rw [if_pos (by omega)]
    refine zW_p 2 rfl ?_
    exact zW_reti rfl rfl rfl ⟨rfl, rfl⟩)
theorem c_preCheck (hi : i < n) (hn : n < 2147483648) (x : Value) : zEnd g 0 26 [iv i, iv n, .null] σ (.inl (some (iv i))) σ := zEnd_of (by
  refine zW_p 1 rfl ?_
  refine zW_br rfl rfl (fun hP => ?_) (fun hP => ?_)
  · rw [I_lt0 ⟨by omega, by omega⟩] at hP
    omega
  · refine zW_p 2 rfl ?_
    refine zW_br rfl rfl (fun hP => ?_) (fun hP => ?_)
    · refine zW_p 1 rfl ?_
      exact zW_reti rfl rfl rfl ⟨rfl, rfl⟩
    · rw [I_lt ⟨by omega, by omega⟩ ⟨by omega, by omega⟩] at hP
      omega)
theorem c_checkIndex (hi : i < n) (hn : n < 2147483648) : zEnd g 1 25 [iv i, iv n] σ (.inl (some (iv i))) σ := zEnd_of (by
  refine zW_p 3 rfl ?_
  refine wS rfl rfl rfl rfl rfl rfl rfl rfl rfl (c_preCheck hi hn .null) (by decide) ?_
  exact zW_reti rfl rfl rfl ⟨rfl, rfl⟩)
theorem c_elem (h : wL σ.1 a mc r cap n f) (hi : i < n) (hf : f i = some b) : zEnd g 0 27 [.ref a, iv i] σ (.inl (some (.ref b))) σ := zEnd_of (by
  have hc := h.2.2
  refine zW_p 1 rfl ?_
  refine wW_get rfl h.1 rfl rfl ?_
  refine zW_p 1 rfl ?_
  refine wW_aald rfl h.2.1 rfl (I_in (by omega) (by omega)) ?_
  rw [I_cl (by omega), hf]
  exact wW_ret rfl rfl rfl rfl ⟨rfl, rfl⟩)
theorem c_get (h : wL σ.1 a mc r cap n f) (hi : i < n) (hf : f i = some b) : zEnd g 2 24 [.ref a, iv i] σ (.inl (some (.ref b))) σ := zEnd_of (by
  have hc := h.2.2
  refine zW_p 2 rfl ?_
  refine wW_get rfl h.1 rfl rfl ?_
  refine wS rfl rfl rfl rfl rfl rfl rfl rfl rfl (c_checkIndex hi (by omega)) (by decide) ?_
  refine zW_p 3 rfl ?_
  refine wV rfl rfl rfl rfl rfl rfl rfl h.rc (c_elem h hi hf) (by decide) ?_
  exact wW_ret rfl rfl rfl rfl ⟨rfl, rfl⟩)
theorem c_itrInit {x0 x1 x2 x3 : Value} {fs : List Value} (hit : σ.1 it = some (.inr (17, [x0, x1, x2, x3]))) (ha : σ.1 a = some (.inr (16, .int mc :: fs))) (hn : zg_n g ≤ it) : zEnd g 0 9 [.ref it, .ref a] σ (.inl none) (zw_up σ.1 it (.inr (17, [x0, iv (-1), .int mc, .ref a])), σ.2) := zEnd_of (by
  have hne : a ≠ it := fun e => by rw [e, hit] at ha; cases ha
  refine zW_p 2 rfl ?_
  refine wW_put rfl hit rfl hn (Or.inr ⟨rfl, rfl⟩) rfl rfl rfl ?_
  refine zW_p 1 rfl ?_
  refine aW_oinit rfl rfl (by decide) ?_
  refine zW_p 2 rfl ?_
  refine wW_put rfl (zw_up_same _ _ _) rfl hn (Or.inl rfl) rfl rfl rfl ?_
  refine zW_p 2 rfl ?_
  refine wW_get rfl (zw_up_same _ _ _) rfl rfl ?_
  refine wW_get rfl (((zw_up_ne _ _ hne).trans (zw_up_ne _ _ hne)).trans ha) rfl rfl ?_
  refine wW_put rfl (zw_up_same _ _ _) rfl hn (Or.inl rfl) rfl rfl rfl ?_
  rw [zw_up_up, zw_up_up]
  exact wW_ret rfl rfl rfl rfl ⟨rfl, rfl⟩)
/-- the iterator's cell -/
abbrev wIt (i l : Int) (mc : Int32) (a : Nat) : va_E := .inr (17, [iv i, iv l, .int mc, .ref a])
theorem c_iterator (h : wL σ.1 a mc r cap n f) (hfr : σ.1 σ.2.1 = none) (hn : zg_n g ≤ σ.2.1) : zEnd g 1 8 [.ref a] σ (.inl (some (.ref σ.2.1))) (zw_up σ.1 σ.2.1 (wIt 0 (-1) mc a), σ.2.1 + 1, σ.2.2 + 4) := zEnd_of (by
  have hne : a ≠ σ.2.1 := fun e => by rw [← e, h.1] at hfr; cases hfr
  refine wW_new rfl rfl rfl rfl ?_
  refine zW_p 2 rfl ?_
  refine wI rfl rfl rfl rfl rfl rfl rfl rfl rfl (c_itrInit (zw_up_same _ _ _) ((zw_up_ne _ _ hne).trans h.1) hn) (by decide) ?_
  rw [zw_up_up]
  exact wW_ret rfl rfl rfl rfl ⟨rfl, rfl⟩)
theorem c_hasNext {l : Int} (h : wL σ.1 a mc r cap n f) (hi : i ≤ n) (hit : σ.1 it = some (wIt i l mc a)) : zEnd g 0 10 [.ref it] σ (.inl (some (iv (if i < n then 1 else 0)))) σ := zEnd_of (by
  have hc := h.2.2
  refine zW_p 1 rfl ?_
  refine wW_get rfl hit rfl rfl ?_
  refine zW_p 1 rfl ?_
  refine wW_get rfl hit rfl rfl ?_
  refine wW_get rfl h.1 rfl rfl ?_
  refine zW_br rfl rfl (fun hP => ?_) (fun hP => ?_)
  · rw [I_eq ⟨by omega, by omega⟩ ⟨by omega, by omega⟩] at hP
    rw [if_neg (by omega)]
    refine zW_p 1 rfl ?_
    exact zW_reti rfl rfl rfl ⟨rfl, rfl⟩
  · rw [I_eq ⟨by omega, by omega⟩ ⟨by omega, by omega⟩] at hP
    rw [if_pos (by omega)]
    refine zW_p 2 rfl ?_
    exact zW_reti rfl rfl rfl ⟨rfl, rfl⟩)
theorem c_comod {l : Int} (h : wL σ.1 a mc r cap n f) (hit : σ.1 it = some (wIt i l mc a)) : zEnd g 0 12 [.ref it] σ (.inl none) σ := zEnd_of (by
  refine zW_p 1 rfl ?_
  refine wW_get rfl hit rfl rfl ?_
  refine wW_get rfl h.1 rfl rfl ?_
  refine zW_p 1 rfl ?_
  refine wW_get rfl hit rfl rfl ?_
  refine zW_br rfl rfl (fun hP => ?_) (fun hP => ?_)
  · exact wW_ret rfl rfl rfl rfl ⟨rfl, rfl⟩
  · exact absurd rfl hP)
theorem c_next {l : Int} (h : wL σ.1 a mc r cap n f) (hi : i < n) (hf : f i = some b) (hit : σ.1 it = some (wIt i l mc a)) (hn : zg_n g ≤ it) : zEnd g 1 11 [.ref it] σ (.inl (some (.ref b))) (zw_up σ.1 it (wIt ((i : Int) + 1) i mc a), σ.2) := zEnd_of (by
  have hc := h.2.2
  have hne : a ≠ it := fun e => by rw [← e, h.1] at hit; cases hit
  have hne2 : r ≠ it := fun e => by rw [← e, h.2.1] at hit; cases hit
  refine zW_p 1 rfl ?_
  refine wV rfl rfl rfl rfl rfl rfl rfl (w_rc hit rfl) (c_comod h hit) (by decide) ?_
  refine zW_p 1 rfl ?_
  refine wW_get rfl hit rfl rfl ?_
  refine zW_p 3 rfl ?_
  refine wW_get rfl hit rfl rfl ?_
  refine wW_get rfl h.1 rfl rfl ?_
  refine zW_br rfl rfl (fun hP => ?_) (fun hP => ?_)
  · refine zW_p 1 rfl ?_
    refine wW_get rfl hit rfl rfl ?_
    refine wW_get rfl h.1 rfl rfl ?_
    refine zW_p 3 rfl ?_
    refine wW_len rfl h.2.1 rfl ?_
    refine zW_br rfl rfl (fun hP => ?_) (fun hP => ?_)
    · refine zW_p 4 rfl ?_
      refine wW_put rfl hit rfl hn (Or.inl rfl) rfl rfl rfl ?_
      refine zW_p 4 rfl ?_
      refine wW_put rfl (zw_up_same _ _ _) rfl hn (Or.inl rfl) rfl rfl rfl ?_
      refine wW_aald rfl ((zw_up_ne _ _ hne2).trans ((zw_up_ne _ _ hne2).trans h.2.1)) rfl (I_in (by omega) (by omega)) ?_
      rw [I_cl (by omega), hf]
      exact wW_ret rfl rfl rfl rfl ⟨rfl, by rw [zw_up_up, I_add]; rfl⟩
    · rw [I_lt ⟨by omega, by omega⟩ ⟨by omega, by omega⟩] at hP
      omega
  · rw [I_lt ⟨by omega, by omega⟩ ⟨by omega, by omega⟩] at hP
    omega)
end ZLI
