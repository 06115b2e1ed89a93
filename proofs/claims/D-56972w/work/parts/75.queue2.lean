/-! THE JDK OVER THE WORLD: PriorityQueue's add and poll, its constructor -/
set_option maxRecDepth 100000
section ZPR
variable {g : zG} {a r cap n x E0 : Nat} {mc : Int32} {key : Nat → Int} {Y : List Nat} {s2 : Nat × Nat} {Q : Option Value ⊕ String → zS → Prop} {σ : zS} {f : Nat → Option Nat}
/-- a queue that is in order: what its array holds beyond its end is null -/
abbrev wPQ (key : Nat → Int) (n : Nat) (f : Nat → Option Nat) (Y : List Nat) : Prop := qHas f n Y ∧ qHeap (qk key f) n ∧ ∀ i, n ≤ i → f i = none
theorem wPQ.el {w : zw_W} (h : wPQ key n f Y) (hK : ∀ y ∈ Y, wKey w y (key y)) : wEl g w n f := by
  refine ⟨fun i y hy => ?_, h.2.2⟩
  have hin : i < n := by
    rcases Nat.lt_or_ge i n with q | q
    · exact q
    · rw [h.2.2 i q] at hy; cases hy
  exact (hK y ((h.1.1 y).mpr ⟨i, hin, hy⟩)).ob
theorem c_qoffer (h : wP σ.1 a mc r cap n f) (hq : wPQ key n f Y) (hn2 : n < 300000) (hfr : wfr σ) (hz : zg_n g ≤ σ.2.1) (hna : zg_n g ≤ a) (hr : zg_n g ≤ r) (hk : wK g) (hK : ∀ y ∈ x :: Y, wKey σ.1 y (key y)) (hx : x ∉ Y) :
    ∃ (f' : Nat → Option Nat) (r' cap' : Nat) (σ' : zS), zEnd g 5 132 [.ref a, .ref x] σ (.inl (some (iv 1))) σ' ∧ wPQ key (n + 1) f' (x :: Y) ∧ n + 1 ≤ cap' ∧ cap' ≤ 600000 ∧ σ'.1 = zw_up (zw_up σ.1 r' (wArr cap' f')) a (.inr (18, [.ref r', iv (n + 1 : Nat), .null, .int (mc + Int32.ofInt 1)])) ∧
      ((r' = r ∧ cap' = cap ∧ σ'.2 = σ.2) ∨ (r' = σ.2.1 ∧ σ'.2.1 = σ.2.1 + 1 ∧ σ'.2.2 ≤ σ.2.2 + 2 * n + 64)) := by
  have hc := h.2.2
  have hra : r ≠ a := fun e => by have := h.2.1; rw [e, h.1] at this; cases this
  have hsz : a < σ.2.1 := by
    rcases Nat.lt_or_ge a σ.2.1 with q | q
    · exact q
    · have := hfr a q; rw [h.1] at this; cases this
  have hya : ∀ y ∈ x :: Y, y ≠ a := by
    intro y hy e
    obtain ⟨fs, du, nu, h1, _⟩ := hK y hy
    rw [e, h.1] at h1
    cases h1
  have hys : ∀ y ∈ x :: Y, y ≠ σ.2.1 := by
    intro y hy e
    obtain ⟨fs, du, nu, h1, _⟩ := hK y hy
    rw [e, hfr _ (Nat.le_refl _)] at h1
    cases h1
  obtain ⟨fx, dx, nx, hwx, _⟩ := hK x List.mem_cons_self
  -- the world behind modCount
  have hW1 : wP (zw_up σ.1 a (.inr (18, [.ref r, iv n, .null, .int (mc + Int32.ofInt 1)]))) a (mc + Int32.ofInt 1) r cap n f := ⟨zw_up_same _ _ _, (zw_up_ne _ _ hra).trans h.2.1, hc⟩
  have hK1 : ∀ y ∈ x :: Y, wKey (zw_up σ.1 a (.inr (18, [.ref r, iv n, .null, .int (mc + Int32.ofInt 1)]))) y (key y) := fun y hy => (hK y hy).up (hya y hy)
  by_cases hg : n = cap
  · obtain ⟨C, c1, c2, c3, c4⟩ := c_qgrow (g := g) (σ := (zw_up σ.1 a (.inr (18, [.ref r, iv n, .null, .int (mc + Int32.ofInt 1)])), σ.2)) hW1 hg hn2 (hq.el (fun y hy => hK1 y (List.mem_cons_of_mem _ hy))) (fun q hq => (zw_up_ne _ _ (by have hq2 : σ.2.1 ≤ q := hq; omega)).trans (hfr q hq)) hz hna hk
    dsimp only at c4
    have hW2 : wP (zw_up (zw_up (zw_up σ.1 a (.inr (18, [.ref r, iv n, .null, .int (mc + Int32.ofInt 1)]))) σ.2.1 (wArr C f)) a (.inr (18, [.ref σ.2.1, iv n, .null, .int (mc + Int32.ofInt 1)]))) a (mc + Int32.ofInt 1) σ.2.1 C n f := ⟨zw_up_same _ _ _, (zw_up_ne _ _ (by omega)).trans (zw_up_same _ _ _), by omega, c3, by omega⟩
    obtain ⟨f', f1, f2, f3, f4⟩ := c_siftUp (g := g) (σ := (zw_up (zw_up (zw_up σ.1 a (.inr (18, [.ref r, iv n, .null, .int (mc + Int32.ofInt 1)]))) σ.2.1 (wArr C f)) a (.inr (18, [.ref σ.2.1, iv n, .null, .int (mc + Int32.ofInt 1)])), σ.2.1 + 1, σ.2.2 + C)) hW2 c1 hz (fun y hy => ((hK1 y hy).up (hys y hy)).up (hya y hy)) hq.1 hx hq.2.1
    dsimp only at f4
    refine ⟨f', σ.2.1, C, _, zEnd_of (σ1 := (zw_up (zw_up (zw_up (zw_up (zw_up σ.1 a (.inr (18, [.ref r, iv n, .null, .int (mc + Int32.ofInt 1)]))) σ.2.1 (wArr C f)) a (.inr (18, [.ref σ.2.1, iv n, .null, .int (mc + Int32.ofInt 1)]))) σ.2.1 (wArr C f')) a (.inr (18, [.ref σ.2.1, iv (n + 1 : Nat), .null, .int (mc + Int32.ofInt 1)])), σ.2.1 + 1, σ.2.2 + C)) ?_, ⟨f1, f2, fun i hi => (f3 i hi).trans (hq.2.2 i (by omega))⟩, c1, c3, ?_, Or.inr ⟨rfl, rfl, by show σ.2.2 + C ≤ _; omega⟩⟩
    · refine zW_p 4 rfl ?_
      refine wW_get rfl h.1 rfl rfl ?_
      refine zW_p 2 rfl ?_
      refine wW_put rfl h.1 rfl hna (Or.inl rfl) rfl rfl rfl ?_
      refine zW_p 1 rfl ?_
      refine wW_get rfl (zw_up_same _ _ _) rfl rfl ?_
      refine zW_p 3 rfl ?_
      refine wW_get rfl (zw_up_same _ _ _) rfl rfl ?_
      refine wW_len rfl ((zw_up_ne _ _ hra).trans h.2.1) rfl ?_
      refine zW_br rfl rfl (fun hP => ?_) (fun _ => ?_)
      · rw [I_lt ⟨by omega, by omega⟩ ⟨by omega, by omega⟩] at hP
        omega
      · refine zW_p 4 rfl ?_
        rw [I_add, show (n : Int) + 1 = ((n + 1 : Nat) : Int) from by omega]
        refine wV rfl rfl rfl rfl rfl rfl rfl hW1.rc c4 (by decide) ?_
        refine zW_p 3 rfl ?_
        refine wV rfl rfl rfl rfl rfl rfl rfl hW2.rc f4 (by decide) ?_
        refine zW_p 4 rfl ?_
        rw [I_add, show (n : Int) + 1 = ((n + 1 : Nat) : Int) from by omega]
        refine wW_put rfl ((zw_up_ne _ _ (by omega)).trans (zw_up_same _ _ _)) rfl hna (Or.inl rfl) rfl rfl rfl ?_
        refine zW_p 1 rfl ?_
        exact zW_reti rfl rfl rfl ⟨rfl, rfl⟩
    · have e1 : ∀ (w : zw_W) (X Z U V U2 : va_E), zw_up (zw_up (zw_up (zw_up (zw_up w a X) σ.2.1 U) a Z) σ.2.1 U2) a V = zw_up (zw_up w σ.2.1 U2) a V := by
        intro w X Z U V U2
        funext q
        unfold zw_up
        by_cases h1 : q = a
        · rw [if_pos h1, if_pos h1]
        · by_cases h2 : q = σ.2.1
          · rw [if_neg h1, if_pos h2, if_neg h1, if_pos h2]
          · simp only [if_neg h1, if_neg h2]
      exact e1 _ _ _ _ _ _
  · obtain ⟨f', f1, f2, f3, f4⟩ := c_siftUp (g := g) (σ := (zw_up σ.1 a (.inr (18, [.ref r, iv n, .null, .int (mc + Int32.ofInt 1)])), σ.2)) hW1 (by omega) hr hK1 hq.1 hx hq.2.1
    dsimp only at f4
    refine ⟨f', r, cap, _, zEnd_of (σ1 := (zw_up (zw_up (zw_up σ.1 a (.inr (18, [.ref r, iv n, .null, .int (mc + Int32.ofInt 1)]))) r (wArr cap f')) a (.inr (18, [.ref r, iv (n + 1 : Nat), .null, .int (mc + Int32.ofInt 1)])), σ.2)) ?_, ⟨f1, f2, fun i hi => (f3 i hi).trans (hq.2.2 i (by omega))⟩, by omega, hc.2.1, ?_, Or.inl ⟨rfl, rfl, rfl⟩⟩
    · refine zW_p 4 rfl ?_
      refine wW_get rfl h.1 rfl rfl ?_
      refine zW_p 2 rfl ?_
      refine wW_put rfl h.1 rfl hna (Or.inl rfl) rfl rfl rfl ?_
      refine zW_p 1 rfl ?_
      refine wW_get rfl (zw_up_same _ _ _) rfl rfl ?_
      refine zW_p 3 rfl ?_
      refine wW_get rfl (zw_up_same _ _ _) rfl rfl ?_
      refine wW_len rfl ((zw_up_ne _ _ hra).trans h.2.1) rfl ?_
      refine zW_br rfl rfl (fun _ => ?_) (fun hP => ?_)
      · refine zW_p 3 rfl ?_
        refine wV rfl rfl rfl rfl rfl rfl rfl hW1.rc f4 (by decide) ?_
        refine zW_p 4 rfl ?_
        rw [I_add, show (n : Int) + 1 = ((n + 1 : Nat) : Int) from by omega]
        refine wW_put rfl ((zw_up_ne _ _ hra.symm).trans (zw_up_same _ _ _)) rfl hna (Or.inl rfl) rfl rfl rfl ?_
        refine zW_p 1 rfl ?_
        exact zW_reti rfl rfl rfl ⟨rfl, rfl⟩
      · rw [I_lt ⟨by omega, by omega⟩ ⟨by omega, by omega⟩] at hP
        omega
    · show zw_up (zw_up (zw_up _ _ _) _ _) _ _ = _
      rw [zw_up_comm _ hra.symm, zw_up_up]
theorem c_qadd (h : wP σ.1 a mc r cap n f) (hq : wPQ key n f Y) (hn2 : n < 300000) (hfr : wfr σ) (hz : zg_n g ≤ σ.2.1) (hna : zg_n g ≤ a) (hr : zg_n g ≤ r) (hk : wK g) (hK : ∀ y ∈ x :: Y, wKey σ.1 y (key y)) (hx : x ∉ Y) :
    ∃ (f' : Nat → Option Nat) (r' cap' : Nat) (σ' : zS), zEnd g 6 131 [.ref a, .ref x] σ (.inl (some (iv 1))) σ' ∧ wPQ key (n + 1) f' (x :: Y) ∧ n + 1 ≤ cap' ∧ cap' ≤ 600000 ∧ σ'.1 = zw_up (zw_up σ.1 r' (wArr cap' f')) a (.inr (18, [.ref r', iv (n + 1 : Nat), .null, .int (mc + Int32.ofInt 1)])) ∧
      ((r' = r ∧ cap' = cap ∧ σ'.2 = σ.2) ∨ (r' = σ.2.1 ∧ σ'.2.1 = σ.2.1 + 1 ∧ σ'.2.2 ≤ σ.2.2 + 2 * n + 64)) := by
  obtain ⟨f', r', cap', σ', h1, h2⟩ := c_qoffer (g := g) h hq hn2 hfr hz hna hr hk hK hx
  refine ⟨f', r', cap', σ', zEnd_of ?_, h2⟩
  refine zW_p 2 rfl ?_
  refine wV rfl rfl rfl rfl rfl rfl rfl h.rc h1 (by decide) ?_
  exact zW_reti rfl rfl rfl ⟨rfl, rfl⟩
/-! down -/
theorem c_dn (hx : ∀ y : Nat, y = x → y ∈ Y) : ∀ (m k : Nat) (f : Nat → Option Nat) (w : zw_W), n - k ≤ m → k < n → w r = some (wArr cap f) → n ≤ cap → cap ≤ 600000 → zg_n g ≤ r → (∀ y ∈ Y, wKey w y (key y)) → qHas (va_up f k (some x)) n Y → qDn (qk key (va_up f k (some x))) n k →
    (∀ f' : Nat → Option Nat, qHas f' n Y → qHeap (qk key f') n → (∀ i, n ≤ i → f' i = f i) → Q (.inl none) (zw_up w r (wArr cap f'), s2)) → zW g 3 153 11 [(0, iv k), (2, .ref r), (3, iv n), (4, .ref x), (5, iv (n / 2 : Nat))] [] (w, s2) Q := by
  intro m
  induction m with
  | zero => intro k f w hkm hkn; omega
  | succ m ih =>
    intro k f w hkm hkn hw hc1 hc2 hr hK hY hU hQ
    have hxk : wKey w x (key x) := hK x ((hY.1 x).mpr ⟨k, hkn, va_up_self _ _ _⟩)
    have eG : ∀ i, va_up f k (some x) i = if i = k then some x else f i := fun i => rfl
    have k1 : qk key (va_up f k (some x)) k = key x := by unfold qk; rw [va_up_self]
    have hend : qHeap (qk key (va_up f k (some x))) n → zW g 3 153 94 [(0, iv k), (2, .ref r), (4, .ref x)] [] (w, s2) Q := by
      intro hH
      refine zW_p 3 rfl ?_
      refine wW_aast rfl hw rfl (hxk.ob.el) (I_in (by omega) (by omega)) hr ?_
      rw [I_cl (by omega)]
      refine wW_ret rfl rfl rfl rfl ?_
      exact hQ _ hY hH (fun i hi => va_up_ne _ _ (by omega))
    refine zW_p 2 rfl ?_
    refine zW_br rfl rfl (fun hP => ?_) (fun hP => ?_)
    · rw [I_le ⟨by omega, by omega⟩ ⟨by omega, by omega⟩] at hP
      refine zW_lv [(0, iv k), (2, .ref r), (4, .ref x)] rfl ⟨rfl, rfl, rfl, trivial⟩ ?_
      exact hend (qDn_done hU (fun i h1 h2 h3 => by omega))
    · rw [I_le ⟨by omega, by omega⟩ ⟨by omega, by omega⟩] at hP
      have hkid : ∀ c : Nat, k < c → c < n → ∃ e, f c = some e ∧ va_up f k (some x) c = some e ∧ wKey w e (key e) := by
        intro c h1 h2
        obtain ⟨e, he⟩ := hY.2.1 c h2
        exact ⟨e, by rw [← he, eG, if_neg (by omega)], he, hK e ((hY.1 e).mpr ⟨c, h2, he⟩)⟩
      -- behind the choice of the child c
      have hstep : ∀ (c e : Nat), k < c → (c - 1) / 2 = k → c < n → f c = some e → wKey w e (key e) → (∀ i : Nat, 0 < i → i < n → (i - 1) / 2 = k → key e ≤ qk key (va_up f k (some x)) i) →
          zW g 3 153 68 [(0, iv k), (2, .ref r), (3, iv n), (4, .ref x), (5, iv (n / 2 : Nat)), (6, iv c), (7, .ref e)] [] (w, s2) Q := by
        intro c e hkc hck hcn hfc hke hmin
        have k2 : qk key (va_up f k (some x)) c = key e := by unfold qk; rw [eG, if_neg (by omega), hfc]
        refine zW_p 2 rfl ?_
        have hcmp := c_cmpO (g := g) (σ := (w, s2)) (x := x) (y := e) hxk hke
        obtain ⟨fx, dx, nx, hwx, _⟩ := hxk
        refine wF rfl rfl rfl hwx rfl rfl rfl rfl rfl hcmp (by decide) ?_
        refine zW_br rfl rfl (fun hP2 => ?_) (fun hP2 => ?_)
        · rw [I_gt0 (icmp_rg _ _), icmp_gt] at hP2
          refine zW_p 3 rfl ?_
          refine wW_aast rfl hw rfl (hke.ob.el) (I_in (by omega) (by omega)) hr ?_
          rw [I_cl (n := k) (by omega)]
          refine zW_p 3 rfl ?_
          refine zW_lv [(0, iv c), (2, .ref r), (3, iv n), (4, .ref x), (5, iv (n / 2 : Nat))] rfl ⟨rfl, rfl, rfl, rfl, rfl, trivial⟩ ?_
          have eF : ∀ i, va_up (va_up f k (some e)) c (some x) i = if i = c then some x else if i = k then some e else f i := fun i => rfl
          refine ih c (va_up f k (some e)) _ (by omega) hcn (zw_up_same _ _ _) hc1 hc2 hr (fun y hy => (hK y hy).up ((hK y hy).ne hw)) ?_ ?_ ?_
          · refine qHas_swap hY hkn hcn ?_ ?_ ?_
            · rw [va_up_self, va_up_self]
            · rw [eF, if_neg (by omega), if_pos rfl, eG, if_neg (by omega), hfc]
            · intro i h1 h2
              rw [eF, if_neg h2, if_neg h1, eG, if_neg h1]
          · refine qDn_step hU hck (by omega) hcn (by rw [k1, k2]; exact hP2) (fun i h1 h2 h3 => by rw [k2]; exact hmin i h1 h2 h3) ?_ ?_ ?_
            · unfold qk
              rw [va_up_self, va_up_self]
            · rw [k2]
              unfold qk
              rw [eF, if_neg (by omega), if_pos rfl]
            · intro i h1 h2
              unfold qk
              rw [eF, if_neg h2, if_neg h1, eG, if_neg h1]
          · intro f' q1 q2 q3
            rw [zw_up_up]
            exact hQ f' q1 q2 (fun i hi => (q3 i hi).trans (va_up_ne _ _ (by omega)))
        · rw [I_gt0 (icmp_rg _ _), icmp_gt] at hP2
          refine zW_p 1 rfl ?_
          refine zW_lv [(0, iv k), (2, .ref r), (4, .ref x)] rfl ⟨rfl, rfl, rfl, trivial⟩ ?_
          refine hend (qDn_done hU (fun i h1 h2 h3 => ?_))
          rw [k1]
          have := hmin i h1 h2 h3
          omega
      obtain ⟨e1, c1, c2, c3⟩ := hkid (2 * k + 1) (by omega) (by omega)
      refine zW_p 3 rfl ?_
      rw [I_dbl (by omega)]
      refine zW_p 2 rfl ?_
      rw [I_add, show ((k * 2 : Nat) : Int) + 1 = ((2 * k + 1 : Nat) : Int) from by omega]
      refine zW_p 3 rfl ?_
      refine wW_aald rfl hw rfl (I_in (by omega) (by omega)) ?_
      rw [I_cl (n := 2 * k + 1) (by omega), c1]
      refine zW_p 4 rfl ?_
      rw [I_add, show ((2 * k + 1 : Nat) : Int) + 1 = ((2 * k + 2 : Nat) : Int) from by omega]
      refine zW_p 3 rfl ?_
      have kq1 : qk key (va_up f k (some x)) (2 * k + 1) = key e1 := by unfold qk; rw [c2]
      refine zW_br rfl rfl (fun hP3 => ?_) (fun hP3 => ?_)
      · rw [I_le ⟨by omega, by omega⟩ ⟨by omega, by omega⟩] at hP3
        refine zW_lv [(0, iv k), (2, .ref r), (3, iv n), (4, .ref x), (5, iv (n / 2 : Nat)), (6, iv (2 * k + 1 : Nat)), (7, .ref e1)] rfl ⟨rfl, rfl, rfl, rfl, rfl, rfl, rfl, trivial⟩ ?_
        refine hstep (2 * k + 1) e1 (by omega) (by omega) (by omega) c1 c3 (fun i h1 h2 h3 => ?_)
        obtain rfl : i = 2 * k + 1 := by omega
        rw [kq1]
        exact Int.le_refl _
      · rw [I_le ⟨by omega, by omega⟩ ⟨by omega, by omega⟩] at hP3
        obtain ⟨e2, d1, d2, d3⟩ := hkid (2 * k + 2) (by omega) (by omega)
        have kq2 : qk key (va_up f k (some x)) (2 * k + 2) = key e2 := by unfold qk; rw [d2]
        have hcmp := c_cmpO (g := g) (σ := (w, s2)) (x := e1) (y := e2) c3 d3
        obtain ⟨fx, dx, nx, hwx, _⟩ := id c3
        refine zW_p 1 rfl ?_
        refine wW_cast rfl hwx rfl rfl ?_
        refine zW_p 2 rfl ?_
        refine wW_aald rfl hw rfl (I_in (by omega) (by omega)) ?_
        rw [I_cl (n := 2 * k + 2) (by omega), d1]
        refine wF rfl rfl rfl hwx rfl rfl rfl rfl rfl hcmp (by decide) ?_
        refine zW_br rfl rfl (fun hP4 => ?_) (fun hP4 => ?_)
        · rw [I_le0 (icmp_rg _ _)] at hP4
          have hle : key e1 ≤ key e2 := by
            have := (icmp_gt (x := key e1) (y := key e2))
            omega
          refine zW_lv [(0, iv k), (2, .ref r), (3, iv n), (4, .ref x), (5, iv (n / 2 : Nat)), (6, iv (2 * k + 1 : Nat)), (7, .ref e1)] rfl ⟨rfl, rfl, rfl, rfl, rfl, rfl, rfl, trivial⟩ ?_
          refine hstep (2 * k + 1) e1 (by omega) (by omega) (by omega) c1 c3 (fun i h1 h2 h3 => ?_)
          rcases (show i = 2 * k + 1 ∨ i = 2 * k + 2 by omega) with rfl | rfl
          · rw [kq1]; exact Int.le_refl _
          · rw [kq2]; exact hle
        · rw [I_le0 (icmp_rg _ _)] at hP4
          have hle : key e2 ≤ key e1 := by
            have := (icmp_gt (x := key e1) (y := key e2))
            omega
          refine zW_p 4 rfl ?_
          refine wW_aald rfl hw rfl (I_in (by omega) (by omega)) ?_
          rw [I_cl (n := 2 * k + 2) (by omega), d1]
          refine zW_p 1 rfl ?_
          refine zW_lv [(0, iv k), (2, .ref r), (3, iv n), (4, .ref x), (5, iv (n / 2 : Nat)), (6, iv (2 * k + 2 : Nat)), (7, .ref e2)] rfl ⟨rfl, rfl, rfl, rfl, rfl, rfl, rfl, trivial⟩ ?_
          refine hstep (2 * k + 2) e2 (by omega) (by omega) (by omega) d1 d3 (fun i h1 h2 h3 => ?_)
          rcases (show i = 2 * k + 1 ∨ i = 2 * k + 2 by omega) with rfl | rfl
          · rw [kq1]; exact hle
          · rw [kq2]; exact Int.le_refl _
end ZPR
