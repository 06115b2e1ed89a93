/-! THE JDK OVER THE WORLD: ArrayList's add, clear, addAll, constructor; Boolean, Integer -/
set_option maxRecDepth 100000
abbrev wDef : String × String × String := ("java/util/ArrayList", "DEFAULTCAPACITY_EMPTY_ELEMENTDATA", "[Ljava/lang/Object;")
section ZLO
variable {g : zG} {σ : zS} {a r cap n i b it E0 x m : Nat} {mc : Int32} {f : Nat → Option Nat}
theorem c_grow (h : wL σ.1 a mc r cap n f) (hel : wEl g σ.1 n f) (hE : zt_val (zg_s g) wDef = some (.ref E0)) (hr0 : cap = 0 → r = E0) (hm : cap = n) (hm2 : n < 300000) (hfr : wfr σ) (hz : zg_n g ≤ σ.2.1) (hna : zg_n g ≤ a) (hk : wK g) :
    ∃ C : Nat, n < C ∧ C ≤ n + n / 2 + 11 ∧ zEnd g 3 47 [.ref a] σ (.inl (some (.ref σ.2.1))) (zw_up (zw_up σ.1 σ.2.1 (.inl (1, C, .inr (.inr (.inr (.inr f)))))) a (.inr (16, [.int mc, .ref σ.2.1, iv n])), σ.2.1 + 1, σ.2.2 + C) := by
  obtain ⟨C, h1, h2, h3⟩ := c_grow2 (m := n + 1) h hel hE hr0 (by omega) (by omega) hfr hz hna hk
  refine ⟨C, by omega, by omega, zEnd_of ?_⟩
  refine zW_p 2 rfl ?_
  refine wW_get rfl h.1 rfl rfl ?_
  refine zW_p 2 rfl ?_
  rw [I_add, show (n : Int) + 1 = ((n + 1 : Nat) : Int) from by omega]
  refine wV rfl rfl rfl rfl rfl rfl rfl h.rc h3 (by decide) ?_
  exact wW_ret rfl rfl rfl rfl ⟨rfl, rfl⟩
/-- what an add leaves -/
def wAdded (g : zG) (σ : zS) (a r cap n : Nat) (mc : Int32) (f : Nat → Option Nat) (σ' : zS) : Prop :=
  ∃ r' cap' : Nat, σ'.1 = zw_up (zw_up σ.1 r' (.inl (1, cap', .inr (.inr (.inr (.inr f)))))) a (.inr (16, [.int mc, .ref r', iv n])) ∧ n ≤ cap' ∧ cap' ≤ 600000 ∧ 0 < cap' ∧ ((r' = r ∧ cap' = cap ∧ σ'.2 = σ.2) ∨ (r' = σ.2.1 ∧ σ'.2.1 = σ.2.1 + 1 ∧ σ'.2.2 ≤ σ.2.2 + 2 * n + 10))
theorem c_add2 (h : wL σ.1 a mc r cap n f) (hel : wEl g σ.1 n f) (hE : zt_val (zg_s g) wDef = some (.ref E0)) (hr0 : cap = 0 → r = E0) (hr1 : cap ≠ 0 → zg_n g ≤ r) (hm2 : n < 300000) (hfr : wfr σ) (hz : zg_n g ≤ σ.2.1) (hna : zg_n g ≤ a) (hk : wK g) (hx : wOb (zg_k g) σ.1 x) :
    ∃ σ' : zS, zEnd g 4 46 [.ref a, .ref x, .ref r, iv n] σ (.inl none) σ' ∧ wAdded g σ a r cap (n + 1) mc (va_up f n (some x)) σ' := by
  have hc := h.2.2
  have hne : a ≠ σ.2.1 := fun e => by have := hfr a (Nat.le_of_eq e.symm); rw [h.1] at this; cases this
  have hne2 : r ≠ a := fun e => by have := h.2.1; rw [e, h.1] at this; cases this
  by_cases hg : n = cap
  · obtain ⟨C, h1, h2, h3⟩ := c_grow h hel hE hr0 hg.symm hm2 hfr hz hna hk
    refine ⟨_, zEnd_of (σ1 := (zw_up (zw_up (zw_up (zw_up σ.1 σ.2.1 (.inl (1, C, .inr (.inr (.inr (.inr f)))))) a (.inr (16, [.int mc, .ref σ.2.1, iv n]))) σ.2.1 (.inl (1, C, .inr (.inr (.inr (.inr (va_up f n (some x)))))))) a (.inr (16, [.int mc, .ref σ.2.1, iv ((n : Int) + 1)])), σ.2.1 + 1, σ.2.2 + C)) ?_, ?_⟩
    · refine zW_p 2 rfl ?_
      refine wW_len rfl h.2.1 rfl ?_
      refine zW_br rfl rfl (fun hP => absurd (by rw [hg]) hP) (fun hP => ?_)
      refine zW_p 1 rfl ?_
      refine wV rfl rfl rfl rfl rfl rfl rfl h.rc h3 (by decide) ?_
      refine zW_p 4 rfl ?_
      have hx2 : wOb (zg_k g) (zw_up (zw_up σ.1 σ.2.1 (.inl (1, C, .inr (.inr (.inr (.inr f)))))) a (.inr (16, [.int mc, .ref σ.2.1, iv n]))) x := (hx.new (hfr _ (Nat.le_refl _)) (fun q hq e => by have := hk q hq; omega)).up (fun _ => rfl)
      refine wW_aast rfl ((zw_up_ne _ _ hne.symm).trans (zw_up_same _ _ _)) rfl hx2.el (I_in (by omega) (by omega)) hz ?_
      rw [I_cl (by omega)]
      refine zW_p 4 rfl ?_
      refine wW_put rfl ((zw_up_ne _ _ hne).trans (zw_up_same _ _ _)) rfl hna (Or.inl rfl) rfl rfl rfl ?_
      exact wW_ret rfl rfl rfl rfl ⟨rfl, by rw [I_add]; rfl⟩
    · refine ⟨σ.2.1, C, ?_, by omega, by omega, by omega, Or.inr ⟨rfl, rfl, by show σ.2.2 + C ≤ _; omega⟩⟩
      show zw_up (zw_up (zw_up (zw_up _ _ _) _ _) _ _) _ _ = _
      rw [zw_up_comm _ hne _ _, zw_up_up, zw_up_up]
      rfl
  · refine ⟨_, zEnd_of (σ1 := (zw_up (zw_up σ.1 r (.inl (1, cap, .inr (.inr (.inr (.inr (va_up f n (some x)))))))) a (.inr (16, [.int mc, .ref r, iv ((n : Int) + 1)])), σ.2)) ?_, r, cap, rfl, by omega, by omega, by omega, Or.inl ⟨rfl, rfl, rfl⟩⟩
    refine zW_p 2 rfl ?_
    refine wW_len rfl h.2.1 rfl ?_
    refine zW_br rfl rfl (fun hP => ?_) (fun hP => ?_)
    · refine zW_p 3 rfl ?_
      refine wW_aast rfl h.2.1 rfl hx.el (I_in (by omega) (by omega)) (hr1 (by omega)) ?_
      rw [I_cl (by omega)]
      refine zW_p 4 rfl ?_
      refine wW_put rfl ((zw_up_ne _ _ hne2.symm).trans h.1) rfl hna (Or.inl rfl) rfl rfl rfl ?_
      exact wW_ret rfl rfl rfl rfl ⟨rfl, by rw [I_add]; rfl⟩
    · exfalso
      refine hP (fun e => ?_)
      rw [I_eq ⟨by omega, by omega⟩ ⟨by omega, by omega⟩] at e
      omega
theorem c_add (h : wL σ.1 a mc r cap n f) (hel : wEl g σ.1 n f) (hE : zt_val (zg_s g) wDef = some (.ref E0)) (hr0 : cap = 0 → r = E0) (hr1 : cap ≠ 0 → zg_n g ≤ r) (hm2 : n < 300000) (hfr : wfr σ) (hz : zg_n g ≤ σ.2.1) (hna : zg_n g ≤ a) (hk : wK g) (hx : wOb (zg_k g) σ.1 x) :
    ∃ σ' : zS, zEnd g 5 45 [.ref a, .ref x] σ (.inl (some (iv 1))) σ' ∧ wAdded g σ a r cap (n + 1) (mc + Int32.ofInt 1) (va_up f n (some x)) σ' := by
  have hne2 : r ≠ a := fun e => by have := h.2.1; rw [e, h.1] at this; cases this
  have hne : a ≠ σ.2.1 := fun e => by have := hfr a (Nat.le_of_eq e.symm); rw [h.1] at this; cases this
  have h' : wL (zw_up σ.1 a (.inr (16, [.int (mc + Int32.ofInt 1), .ref r, iv n]))) a (mc + Int32.ofInt 1) r cap n f := ⟨zw_up_same _ _ _, (zw_up_ne _ _ hne2).trans h.2.1, h.2.2⟩
  obtain ⟨σ', h1, h2⟩ := c_add2 (g := g) (σ := (zw_up σ.1 a (.inr (16, [.int (mc + Int32.ofInt 1), .ref r, iv n])), σ.2)) (x := x) (E0 := E0) h' ⟨fun i y hy => (hel.1 i y hy).up (fun _ => rfl), hel.2⟩ hE hr0 hr1 hm2 (fun q hq => (zw_up_ne _ _ (fun e => by rw [e] at hq; have := hfr a hq; rw [h.1] at this; cases this)).trans (hfr q hq)) hz hna hk (hx.up (fun _ => rfl))
  refine ⟨σ', zEnd_of ?_, ?_⟩
  · refine zW_p 2 rfl ?_
    refine wW_get rfl h.1 rfl rfl ?_
    refine zW_p 2 rfl ?_
    refine wW_put rfl h.1 rfl hna (Or.inl rfl) rfl rfl rfl ?_
    refine zW_p 3 rfl ?_
    refine wW_get rfl (zw_up_same _ _ _) rfl rfl ?_
    refine zW_p 1 rfl ?_
    refine wW_get rfl (zw_up_same _ _ _) rfl rfl ?_
    refine wV rfl rfl rfl rfl rfl rfl rfl h'.rc h1 (by decide) ?_
    refine zW_p 1 rfl ?_
    exact zW_reti rfl rfl rfl ⟨rfl, rfl⟩
  · obtain ⟨r', cap', q1, q2, q3, q4, q5⟩ := h2
    refine ⟨r', cap', ?_, q2, q3, q4, q5⟩
    rw [q1]
    show zw_up (zw_up (zw_up _ _ _) _ _) _ _ = _
    have hra : a ≠ r' := by
      rcases q5 with ⟨e, _⟩ | ⟨e, _⟩
      · rw [e]; exact hne2.symm
      · rw [e]; exact hne
    rw [zw_up_comm _ hra, zw_up_up]
/-- clear -/
theorem c_clear_loop (hr : ∀ i : Nat, i < cap → True) (k : Nat) : ∀ (j : Nat) (w : zw_W) (f : Nat → Option Nat) (lv : zp_L) (Q : Option Value ⊕ String → zS → Prop), j + k = n → w r = some (.inl (1, cap, .inr (.inr (.inr (.inr f))))) → n ≤ cap → cap ≤ 600000 → (n = 0 ∨ zg_n g ≤ r) → zp_ld lv 1 = some (.ref r) → zp_ld lv 2 = some (iv n) → zp_ld lv 3 = some (iv j) →
    Q (.inl none) (zw_up w r (.inl (1, cap, .inr (.inr (.inr (.inr (fun i => if j ≤ i ∧ i < n then none else f i)))))), σ.2) → zW g 0 84 27 [(3, iv j), (2, iv n), (1, .ref r), (0, .ref a)] [] (w, σ.2) Q := by
  induction k with
  | zero =>
    intro j w f lv Q hj hw hc1 hc2 hr2 h1 h2 h3 hQ
    refine zW_p 2 rfl ?_
    refine zW_br rfl rfl (fun _ => ?_) (fun hP => ?_)
    · refine wW_ret rfl rfl rfl rfl ?_
      have e : zw_up w r (.inl (1, cap, .inr (.inr (.inr (.inr (fun i => if j ≤ i ∧ i < n then none else f i)))))) = w := by
        have ef : (fun i => if j ≤ i ∧ i < n then none else f i) = f := by
          funext i
          rw [if_neg (by omega)]
        rw [ef]
        funext q
        unfold zw_up
        by_cases hq : q = r
        · rw [if_pos hq, hq, hw]
        · rw [if_neg hq]
      rw [e] at hQ
      exact hQ
    · rw [I_le ⟨by omega, by omega⟩ ⟨by omega, by omega⟩] at hP
      omega
  | succ k ih =>
    intro j w f lv Q hj hw hc1 hc2 hr2 h1 h2 h3 hQ
    refine zW_p 2 rfl ?_
    refine zW_br rfl rfl (fun hP => ?_) (fun hP => ?_)
    · rw [I_le ⟨by omega, by omega⟩ ⟨by omega, by omega⟩] at hP
      omega
    · refine zW_p 3 rfl ?_
      refine wW_aast rfl hw rfl rfl (I_in (by omega) (by omega)) (by omega) ?_
      rw [I_cl (by omega)]
      refine zW_p 2 (lv' := [(3, .int (Int32.ofInt j + Int32.ofInt 1)), (2, iv n), (1, .ref r), (0, .ref a)]) rfl ?_
      rw [I_add, show (j : Int) + 1 = ((j + 1 : Nat) : Int) from by omega]
      refine ih (j + 1) _ (va_up f j none) [(1, .ref r), (2, iv n), (3, iv (j + 1 : Nat))] Q (by omega) (zw_up_same _ _ _) hc1 hc2 hr2 rfl rfl rfl ?_
      show Q (.inl none) (zw_up (zw_up _ _ _) _ _, _)
      rw [zw_up_up]
      have ef : (fun i => if j + 1 ≤ i ∧ i < n then none else va_up f j none i) = (fun i => if j ≤ i ∧ i < n then none else f i) := by
        funext i
        by_cases e1 : i = j
        · rw [if_neg (by omega), if_pos (by omega), e1, va_up_self]
        · rw [va_up_ne _ _ e1]
          by_cases e2 : j ≤ i ∧ i < n
          · rw [if_pos (by omega), if_pos e2]
          · rw [if_neg (by omega), if_neg e2]
      rw [ef]
      exact hQ
theorem c_clear (h : wL σ.1 a mc r cap n f) (hel : wEl g σ.1 n f) (hr1 : cap ≠ 0 → zg_n g ≤ r) (hna : zg_n g ≤ a) :
    zEnd g 0 84 [.ref a] σ (.inl none) (zw_up (zw_up σ.1 a (.inr (16, [.int (mc + Int32.ofInt 1), .ref r, iv 0]))) r (.inl (1, cap, .inr (.inr (.inr (.inr (fun _ => none)))))), σ.2) := zEnd_of (by
  have hc := h.2.2
  have hne2 : r ≠ a := fun e => by have := h.2.1; rw [e, h.1] at this; cases this
  refine zW_p 2 rfl ?_
  refine wW_get rfl h.1 rfl rfl ?_
  refine zW_p 2 rfl ?_
  refine wW_put rfl h.1 rfl hna (Or.inl rfl) rfl rfl rfl ?_
  refine zW_p 1 rfl ?_
  refine wW_get rfl (zw_up_same _ _ _) rfl rfl ?_
  refine zW_p 2 rfl ?_
  refine wW_get rfl (zw_up_same _ _ _) rfl rfl ?_
  refine zW_p 4 rfl ?_
  refine wW_put rfl (zw_up_same _ _ _) rfl hna (Or.inl rfl) rfl rfl rfl ?_
  refine zW_p 1 (lv' := [(3, iv (0 : Nat)), (2, iv n), (1, .ref r), (0, .ref a)]) rfl ?_
  refine c_clear_loop (σ := σ) (n := n) (cap := cap) (fun _ _ => trivial) n 0 _ f [(1, .ref r), (2, iv n), (3, iv (0 : Nat))] _ (by omega) ?_ hc.1 hc.2 (by omega) rfl rfl rfl ?_
  · exact (zw_up_ne _ _ hne2).trans ((zw_up_ne _ _ hne2).trans h.2.1)
  · refine ⟨rfl, ?_⟩
    have ef : (fun i => if 0 ≤ i ∧ i < n then none else f i) = fun _ => none := by
      funext i
      by_cases hi : i < n
      · rw [if_pos ⟨by omega, hi⟩]
      · rw [if_neg (by omega), hel.2 i (by omega)]
    rw [ef, zw_up_up]
    rfl)
theorem c_colInit : zEnd g 0 3 [.ref a] σ (.inl none) σ := zEnd_of (by
  refine zW_p 1 rfl ?_
  refine aW_oinit rfl rfl (by decide) ?_
  exact wW_ret rfl rfl rfl rfl ⟨rfl, rfl⟩)
theorem c_alInit {x0 x1 x2 : Value} (ha : σ.1 a = some (.inr (16, [x0, x1, x2]))) (hna : zg_n g ≤ a) : zEnd g 1 2 [.ref a] σ (.inl none) (zw_up σ.1 a (.inr (16, [iv 0, x1, x2])), σ.2) := zEnd_of (by
  refine zW_p 1 rfl ?_
  refine wI rfl rfl rfl rfl rfl rfl rfl rfl rfl c_colInit (by decide) ?_
  refine zW_p 2 rfl ?_
  refine wW_put rfl ha rfl hna (Or.inl rfl) rfl rfl rfl ?_
  exact wW_ret rfl rfl rfl rfl ⟨rfl, rfl⟩)
theorem c_listInit {x0 x1 x2 : Value} (ha : σ.1 a = some (.inr (16, [x0, x1, x2]))) (hna : zg_n g ≤ a) (hE : zt_val (zg_s g) wDef = some (.ref E0)) : zEnd g 2 1 [.ref a] σ (.inl none) (zw_up σ.1 a (.inr (16, [iv 0, .ref E0, x2])), σ.2) := zEnd_of (by
  refine zW_p 1 rfl ?_
  refine wI rfl rfl rfl rfl rfl rfl rfl rfl rfl (c_alInit ha hna) (by decide) ?_
  refine zW_p 1 rfl ?_
  refine aW_stat rfl rfl hE ?_
  refine wW_put rfl (zw_up_same _ _ _) rfl hna (Or.inl rfl) rfl rfl rfl ?_
  exact wW_ret rfl rfl rfl rfl ⟨rfl, by rw [zw_up_up]; rfl⟩)
end ZLO
