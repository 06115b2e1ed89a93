/-! THE JDK OVER THE WORLD: PriorityQueue of orders -/
set_option maxRecDepth 100000
abbrev wArr (cap : Nat) (f : Nat → Option Nat) : va_E := .inl (1, cap, .inr (.inr (.inr (.inr f))))
/-- the queue's object and array -/
def wP (w : zw_W) (a : Nat) (mc : Int32) (r cap n : Nat) (f : Nat → Option Nat) : Prop := w a = some (.inr (18, [.ref r, iv n, .null, .int mc])) ∧ w r = some (wArr cap f) ∧ n ≤ cap ∧ cap ≤ 600000 ∧ 0 < cap
theorem wKey.ob {K : List (String × Nat)} {w : zw_W} {y : Nat} {k : Int} (h : wKey w y k) : wOb K w y := by
  obtain ⟨fs, du, nu, h1, _⟩ := h
  exact Or.inl ⟨8, fs, h1, rfl⟩
theorem wKey.ne {w : zw_W} {y r : Nat} {k : Int} {x : vp_A} {j : Nat} (h : wKey w y k) (hr : w r = some (.inl (j, x))) : y ≠ r := by
  obtain ⟨fs, du, nu, h1, _⟩ := h
  rintro rfl
  rw [hr] at h1
  cases h1
theorem wKey.up {w : zw_W} {y a : Nat} {k : Int} {x : va_E} (h : wKey w y k) (hne : y ≠ a) : wKey (zw_up w a x) y k := by
  obtain ⟨fs, du, nu, h1, h2⟩ := h
  exact ⟨fs, du, nu, (zw_up_ne _ _ hne).trans h1, h2⟩
theorem icmp_lt {x y : Int} : icmp x y < 0 ↔ x < y := by
  unfold icmp
  split
  · omega
  · split <;> omega
theorem icmp_gt {x y : Int} : 0 < icmp x y ↔ y < x := by
  unfold icmp
  split
  · omega
  · split <;> omega
theorem icmp_rg (x y : Int) : rg (icmp x y) := by
  unfold icmp
  split
  · exact ⟨by decide, by decide⟩
  · split <;> exact ⟨by decide, by decide⟩
theorem I_par {k : Nat} (hk : 0 < k) (h : k < 2147483648) : ((Int32.ofInt (k : Int) - Int32.ofInt 1).toUInt32 >>> ((Int32.ofInt 1).toUInt32 &&& Int32.toUInt32 31)).toInt32 = Int32.ofInt (((k - 1) / 2 : Nat) : Int) := by
  rw [I_sub, show (k : Int) - 1 = ((k - 1 : Nat) : Int) from by omega, Int32.ofInt_eq_ofNat, Int32.ofInt_eq_ofNat]
  exact pk_ushrN (by omega) (Int32.ofInt 1) 1 (by decide)
theorem I_half {k : Nat} (h : k < 2147483648) : ((Int32.ofInt (k : Int)).toUInt32 >>> ((Int32.ofInt 1).toUInt32 &&& Int32.toUInt32 31)).toInt32 = Int32.ofInt ((k / 2 : Nat) : Int) := by
  rw [Int32.ofInt_eq_ofNat, Int32.ofInt_eq_ofNat]
  exact pk_ushrN (by omega) (Int32.ofInt 1) 1 (by decide)
theorem I_dbl {k : Nat} (h : k < 1000000000) : Int32.ofInt (k : Int) <<< (Int32.ofInt 1 &&& 31) = Int32.ofInt ((k * 2 : Nat) : Int) := by
  rw [Int32.ofInt_eq_ofNat, Int32.ofInt_eq_ofNat]
  exact pk_shlN (Int32.ofInt 1 &&& 31) 1 (by decide) (by omega)
section ZPQ
variable {g : zG} {a r cap n x E0 : Nat} {mc : Int32} {key : Nat → Int} {Y : List Nat} {s2 : Nat × Nat} {Q : Option Value ⊕ String → zS → Prop}
theorem c_up : ∀ (m k : Nat) (f : Nat → Option Nat) (w : zw_W), k ≤ m → k < n → w r = some (wArr cap f) → n ≤ cap → cap ≤ 600000 → zg_n g ≤ r → (∀ y ∈ Y, wKey w y (key y)) → qHas (va_up f k (some x)) n Y → qUp (qk key (va_up f k (some x))) n k →
    (∀ f' : Nat → Option Nat, qHas f' n Y → qHeap (qk key f') n → (∀ i, n ≤ i → f' i = f i) → Q (.inl none) (zw_up w r (wArr cap f'), s2)) → zW g 3 136 5 [(0, iv k), (2, .ref r), (3, .ref x)] [] (w, s2) Q := by
  intro m
  induction m with
  | zero =>
    intro k f w hkm hkn hw hc1 hc2 hr hK hY hU hQ
    obtain rfl : k = 0 := by omega
    have hx : wKey w x (key x) := hK x ((hY.1 x).mpr ⟨0, hkn, va_up_self _ _ _⟩)
    refine zW_p 5 rfl ?_
    refine wW_aast rfl hw rfl (hx.ob.el) (I_in (by omega) (by omega)) hr ?_
    rw [I_cl (by omega)]
    refine wW_ret rfl rfl rfl rfl ?_
    exact hQ _ hY (qUp_done hU (Or.inl rfl)) (fun i hi => va_up_ne _ _ (by omega))
  | succ m ih =>
    intro k f w hkm hkn hw hc1 hc2 hr hK hY hU hQ
    have hx : wKey w x (key x) := hK x ((hY.1 x).mpr ⟨k, hkn, va_up_self _ _ _⟩)
    have hend : qHeap (qk key (va_up f k (some x))) n → zW g 3 136 47 [(0, iv k), (2, .ref r), (3, .ref x)] [] (w, s2) Q := by
      intro hH
      refine zW_p 3 rfl ?_
      refine wW_aast rfl hw rfl (hx.ob.el) (I_in (by omega) (by omega)) hr ?_
      rw [I_cl (by omega)]
      refine wW_ret rfl rfl rfl rfl ?_
      exact hQ _ hY hH (fun i hi => va_up_ne _ _ (by omega))
    refine zW_p 1 rfl ?_
    refine zW_br rfl rfl (fun hP => ?_) (fun hP => ?_)
    · rw [I_le0 ⟨by omega, by omega⟩] at hP
      exact hend (qUp_done hU (Or.inl (by omega)))
    · rw [I_le0 ⟨by omega, by omega⟩] at hP
      have hk0 : 0 < k := by omega
      have hp : (k - 1) / 2 < k := by omega
      obtain ⟨e, he⟩ := hY.2.1 ((k - 1) / 2) (by omega)
      have hfe : f ((k - 1) / 2) = some e := by rw [← he]; exact (va_up_ne _ _ (by omega)).symm
      have hEk : wKey w e (key e) := hK e ((hY.1 e).mpr ⟨_, by omega, he⟩)
      refine zW_p 5 rfl ?_
      rw [I_par hk0 (by omega)]
      refine zW_p 3 rfl ?_
      refine wW_aald rfl hw rfl (I_in (by omega) (by omega)) ?_
      rw [I_cl (by omega), hfe]
      refine zW_p 3 rfl ?_
      have hcmp := c_cmpO (g := g) (σ := (w, s2)) (x := x) (y := e) hx hEk
      obtain ⟨fx, dx, nx, hwx, _⟩ := hx
      refine wF rfl rfl rfl hwx rfl rfl rfl rfl rfl hcmp (by decide) ?_
      refine zW_br rfl rfl (fun hP2 => ?_) (fun hP2 => ?_)
      · rw [I_lt0 (icmp_rg _ _), icmp_lt] at hP2
        refine zW_p 3 rfl ?_
        refine wW_aast rfl hw rfl (hEk.ob.el) (I_in (by omega) (by omega)) hr ?_
        rw [I_cl (n := k) (by omega)]
        refine zW_p 3 rfl ?_
        refine zW_lv [(0, iv ((k - 1) / 2 : Nat)), (2, .ref r), (3, .ref x)] rfl ⟨rfl, rfl, rfl, trivial⟩ ?_
        have eF : ∀ i, va_up (va_up f k (some e)) ((k - 1) / 2) (some x) i = if i = (k - 1) / 2 then some x else if i = k then some e else f i := by
          intro i
          unfold va_up
          rfl
        have eG : ∀ i, va_up f k (some x) i = if i = k then some x else f i := fun i => rfl
        refine ih ((k - 1) / 2) (va_up f k (some e)) _ (by omega) (by omega) (zw_up_same _ _ _) hc1 hc2 hr (fun y hy => (hK y hy).up ((hK y hy).ne hw)) ?_ ?_ ?_
        · refine qHas_swap hY hkn (show (k - 1) / 2 < n by omega) ?_ ?_ ?_
          · rw [va_up_self, va_up_self]
          · rw [eF, if_neg (by omega), if_pos rfl, eG, if_neg (by omega), hfe]
          · intro i h1 h2
            rw [eF, if_neg h2, if_neg h1, eG, if_neg h1]
        · have k1 : qk key (va_up f k (some x)) k = key x := by unfold qk; rw [va_up_self]
          have k2 : qk key (va_up f k (some x)) ((k - 1) / 2) = key e := by unfold qk; rw [he]
          refine qUp_step hU hk0 hkn (by rw [k1, k2]; exact hP2) ?_ ?_ ?_
          · unfold qk
            rw [va_up_self, va_up_self]
          · unfold qk
            rw [eF, if_neg (by omega), if_pos rfl, he]
          · intro i h1 h2
            unfold qk
            rw [eF, if_neg h2, if_neg h1, eG, if_neg h1]
        · intro f' q1 q2 q3
          rw [zw_up_up]
          exact hQ f' q1 q2 (fun i hi => (q3 i hi).trans (va_up_ne _ _ (by omega)))
      · rw [I_lt0 (icmp_rg _ _), icmp_lt] at hP2
        refine zW_p 1 rfl ?_
        refine zW_lv [(0, iv k), (2, .ref r), (3, .ref x)] rfl ⟨rfl, rfl, rfl, trivial⟩ ?_
        refine hend (qUp_done hU (Or.inr ?_))
        have k1 : qk key (va_up f k (some x)) k = key x := by unfold qk; rw [va_up_self]
        have k2 : qk key (va_up f k (some x)) ((k - 1) / 2) = key e := by unfold qk; rw [he]
        rw [k1, k2]
        omega
variable {σ : zS} {f : Nat → Option Nat}
theorem c_siftUpC (hw : σ.1 r = some (wArr cap f)) (hn : n < cap) (hcap : cap ≤ 600000) (hr : zg_n g ≤ r) (hK : ∀ y ∈ x :: Y, wKey σ.1 y (key y)) (hY : qHas f n Y) (hx : x ∉ Y) (hH : qHeap (qk key f) n) :
    ∃ f' : Nat → Option Nat, qHas f' (n + 1) (x :: Y) ∧ qHeap (qk key f') (n + 1) ∧ (∀ i, n + 1 ≤ i → f' i = f i) ∧ zEnd g 3 136 [iv n, .ref x, .ref r] σ (.inl none) (zw_up σ.1 r (wArr cap f'), σ.2) := by
  have hP := qHas_push hY hx
  have hk : ∀ i, i < n → qk key (va_up f n (some x)) i = qk key f i := fun i hi => by unfold qk; rw [va_up_ne _ _ (by omega)]
  have hU : qUp (qk key (va_up f n (some x))) (n + 1) n := by
    refine ⟨fun i hi hin hne => ?_, fun i hi hin hip _ => by omega⟩
    rw [hk i (by omega), hk _ (by omega)]
    exact hH i hi (by omega)
  have main : zW g 3 136 0 (lv_args 0 [iv n, .ref x, .ref r]) [] σ (fun o σ' => o = .inl none ∧ ∃ f' : Nat → Option Nat, qHas f' (n + 1) (x :: Y) ∧ qHeap (qk key f') (n + 1) ∧ (∀ i, n + 1 ≤ i → f' i = f i) ∧ σ' = (zw_up σ.1 r (wArr cap f'), σ.2)) := by
    obtain ⟨fx, dx, nx, hwx, _⟩ := hK x List.mem_cons_self
    refine zW_p 1 rfl ?_
    refine wW_cast rfl hwx rfl rfl ?_
    refine zW_p 1 rfl ?_
    refine zW_lv [(0, iv n), (2, .ref r), (3, .ref x)] rfl ⟨rfl, rfl, rfl, trivial⟩ ?_
    exact c_up n n f σ.1 (Nat.le_refl _) (by omega) hw (by omega) hcap hr hK hP hU (fun f' q1 q2 q3 => ⟨rfl, f', q1, q2, fun i hi => q3 i hi, rfl⟩)
  obtain ⟨o, σ', h1, rfl, f', h2, h3, h4, rfl⟩ := main
  exact ⟨f', h2, h3, h4, h1⟩
theorem wP.rc (h : wP σ.1 a mc r cap n f) : zrc g σ a = some "java/util/PriorityQueue" := w_rc h.1 rfl
theorem c_qsize (h : wP σ.1 a mc r cap n f) : zEnd g 0 130 [.ref a] σ (.inl (some (iv n))) σ := zEnd_of (by
  refine zW_p 1 rfl ?_
  refine wW_get rfl h.1 rfl rfl ?_
  exact zW_reti rfl rfl rfl ⟨rfl, rfl⟩)
theorem c_qempty (h : wP σ.1 a mc r cap n f) : zEnd g 1 150 [.ref a] σ (.inl (some (iv (if n = 0 then 1 else 0)))) σ := zEnd_of (by
  have hc := h.2.2
  refine zW_p 1 rfl ?_
  refine wU rfl rfl rfl rfl rfl h.rc rfl rfl rfl rfl (c_qsize h) (by decide) ?_
  refine zW_br rfl rfl (fun hP => ?_) (fun hP => ?_)
  · rw [I_eq0 ⟨by omega, by omega⟩] at hP
    rw [if_neg (by omega)]
    refine zW_p 1 rfl ?_
    exact zW_reti rfl rfl rfl ⟨rfl, rfl⟩
  · rw [I_eq0 ⟨by omega, by omega⟩] at hP
    rw [if_pos (by omega)]
    refine zW_p 2 rfl ?_
    exact zW_reti rfl rfl rfl ⟨rfl, rfl⟩)
theorem c_siftUp (h : wP σ.1 a mc r cap n f) (hn : n < cap) (hr : zg_n g ≤ r) (hK : ∀ y ∈ x :: Y, wKey σ.1 y (key y)) (hY : qHas f n Y) (hx : x ∉ Y) (hH : qHeap (qk key f) n) :
    ∃ f' : Nat → Option Nat, qHas f' (n + 1) (x :: Y) ∧ qHeap (qk key f') (n + 1) ∧ (∀ i, n + 1 ≤ i → f' i = f i) ∧ zEnd g 4 134 [.ref a, iv n, .ref x] σ (.inl none) (zw_up σ.1 r (wArr cap f'), σ.2) := by
  obtain ⟨f', h1, h2, h3, h4⟩ := c_siftUpC (g := g) h.2.1 hn h.2.2.2.1 hr hK hY hx hH
  refine ⟨f', h1, h2, h3, zEnd_of ?_⟩
  refine zW_p 1 rfl ?_
  refine wW_get rfl h.1 rfl rfl ?_
  refine zW_p 4 rfl ?_
  refine wW_get rfl h.1 rfl rfl ?_
  refine wS rfl rfl rfl rfl rfl rfl rfl rfl rfl h4 (by decide) ?_
  exact wW_ret rfl rfl rfl rfl ⟨rfl, rfl⟩
theorem c_qgrow (h : wP σ.1 a mc r cap n f) (hn : n = cap) (hn2 : n < 300000) (hel : wEl g σ.1 n f) (hfr : wfr σ) (hz : zg_n g ≤ σ.2.1) (hna : zg_n g ≤ a) (hk : wK g) :
    ∃ C : Nat, n < C ∧ C ≤ 2 * n + 64 ∧ C ≤ 600000 ∧ zEnd g 2 133 [.ref a, iv (n + 1 : Nat)] σ (.inl none) (zw_up (zw_up σ.1 σ.2.1 (wArr C f)) a (.inr (18, [.ref σ.2.1, iv n, .null, .int mc])), σ.2.1 + 1, σ.2.2 + C) := by
  have hc := h.2.2
  have hne : a ≠ σ.2.1 := fun e => by have := hfr a (Nat.le_of_eq e.symm); rw [h.1] at this; cases this
  have hP1 : ∀ P : Nat, cap + (if 1 < P then P else 1) ≤ 2 * n + 64 → P ≤ 300000 → ∃ C : Nat, n < C ∧ C ≤ 2 * n + 64 ∧ C ≤ 600000 ∧ zW g 2 133 25 [(0, .ref a), (2, iv cap)] [iv P, iv 1, iv cap] σ (fun o' σ' => o' = .inl none ∧ σ' = (zw_up (zw_up σ.1 σ.2.1 (wArr C f)) a (.inr (18, [.ref σ.2.1, iv n, .null, .int mc])), σ.2.1 + 1, σ.2.2 + C)) := by
    intro P hP hP2
    have hM0 : (if 1 < P then P else 1) ≤ 300000 := by split <;> omega
    have hM1 : 1 ≤ (if 1 < P then P else 1) := by split <;> omega
    refine ⟨cap + (if 1 < P then P else 1), by omega, hP, by omega, ?_⟩
    refine wS rfl rfl rfl rfl rfl rfl rfl rfl rfl (c_newLength (o := cap) (mg := 1) (pg := P) (by omega) (by omega) (by omega) hc.2.2) (by decide) ?_
    generalize hMe : cap + (if 1 < P then P else 1) = M
    refine zW_p 3 rfl ?_
    refine wW_get rfl h.1 rfl rfl ?_
    refine zW_p 1 rfl ?_
    refine wS rfl rfl rfl rfl rfl rfl rfl rfl rfl (c_copyOf (m := M) h.2.1 hel (by omega) hc.1 (by omega) (by omega) hfr hz hk) (by decide) ?_
    refine wW_put rfl ((zw_up_ne _ _ hne).trans h.1) rfl hna (Or.inl rfl) rfl rfl rfl ?_
    exact wW_ret rfl rfl rfl rfl ⟨rfl, rfl⟩
  by_cases h64 : cap < 64
  · obtain ⟨C, c1, c2, c3, c4⟩ := hP1 (cap + 2) (by split <;> omega) (by omega)
    refine ⟨C, c1, c2, c3, zEnd_of ?_⟩
    refine zW_p 1 rfl ?_
    refine wW_get rfl h.1 rfl rfl ?_
    refine wW_len rfl h.2.1 rfl ?_
    refine zW_p 7 rfl ?_
    rw [I_sub, show ((n + 1 : Nat) : Int) - (cap : Int) = 1 from by omega]
    refine zW_br rfl rfl (fun hP => ?_) (fun hP => ?_)
    · rw [show (Int8.ofInt 64).toInt32 = Int32.ofInt 64 from rfl, I_le ⟨by decide, by decide⟩ ⟨by omega, by omega⟩] at hP
      omega
    · refine zW_p 4 rfl ?_
      rw [I_add, show (cap : Int) + 2 = ((cap + 2 : Nat) : Int) from by omega]
      exact zW_lv [(0, .ref a), (2, iv cap)] rfl ⟨rfl, rfl, trivial⟩ c4
  · obtain ⟨C, c1, c2, c3, c4⟩ := hP1 (cap / 2) (by split <;> omega) (by omega)
    refine ⟨C, c1, c2, c3, zEnd_of ?_⟩
    refine zW_p 1 rfl ?_
    refine wW_get rfl h.1 rfl rfl ?_
    refine wW_len rfl h.2.1 rfl ?_
    refine zW_p 7 rfl ?_
    rw [I_sub, show ((n + 1 : Nat) : Int) - (cap : Int) = 1 from by omega]
    refine zW_br rfl rfl (fun hP => ?_) (fun hP => ?_)
    · refine zW_p 3 rfl ?_
      have e2 : Int32.ofInt (cap : Int) >>> (Int32.ofInt 1 &&& 31) = Int32.ofInt ((cap / 2 : Nat) : Int) := by
        rw [Int32.ofInt_eq_ofNat, Int32.ofInt_eq_ofNat]
        exact pk_shrN (by omega) (Int32.ofInt 1 &&& 31) 1 (by decide)
      rw [e2]
      exact zW_lv [(0, .ref a), (2, iv cap)] rfl ⟨rfl, rfl, trivial⟩ c4
    · rw [show (Int8.ofInt 64).toInt32 = Int32.ofInt 64 from rfl, I_le ⟨by decide, by decide⟩ ⟨by omega, by omega⟩] at hP
      omega
end ZPQ
