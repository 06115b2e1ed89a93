/-! THE JDK OVER THE WORLD: PriorityQueue's poll, its constructor -/
set_option maxRecDepth 100000
section ZPL
variable {g : zG} {a r cap n x E0 : Nat} {mc : Int32} {key : Nat → Int} {Y : List Nat} {σ : zS} {f : Nat → Option Nat}
theorem c_siftDn (hw : σ.1 r = some (wArr cap f)) (hn : 0 < n) (hc : n ≤ cap) (hcap : cap ≤ 600000) (hr : zg_n g ≤ r) (hK : ∀ y ∈ Y, wKey σ.1 y (key y)) (hx : x ∈ Y) (hY : qHas (va_up f 0 (some x)) n Y) (hD : qDn (qk key (va_up f 0 (some x))) n 0) :
    ∃ f' : Nat → Option Nat, qHas f' n Y ∧ qHeap (qk key f') n ∧ (∀ i, n ≤ i → f' i = f i) ∧ zEnd g 3 153 [iv (0 : Nat), .ref x, .ref r, iv n] σ (.inl none) (zw_up σ.1 r (wArr cap f'), σ.2) := by
  have main : zW g 3 153 0 (lv_args 0 [iv (0 : Nat), .ref x, .ref r, iv n]) [] σ (fun o σ' => o = .inl none ∧ ∃ f' : Nat → Option Nat, qHas f' n Y ∧ qHeap (qk key f') n ∧ (∀ i, n ≤ i → f' i = f i) ∧ σ' = (zw_up σ.1 r (wArr cap f'), σ.2)) := by
    obtain ⟨fx, dx, nx, hwx, _⟩ := hK x hx
    refine zW_p 1 rfl ?_
    refine wW_cast rfl hwx rfl rfl ?_
    refine zW_p 4 rfl ?_
    rw [I_half (by omega)]
    refine zW_p 1 rfl ?_
    refine zW_lv [(0, iv (0 : Nat)), (2, .ref r), (3, iv n), (4, .ref x), (5, iv (n / 2 : Nat))] rfl ⟨rfl, rfl, rfl, rfl, rfl, trivial⟩ ?_
    exact c_dn (fun y e => e ▸ hx) n 0 f σ.1 (by omega) hn hw hc hcap hr hK hY hD (fun f' q1 q2 q3 => ⟨rfl, f', q1, q2, q3, rfl⟩)
  obtain ⟨o, σ', h1, rfl, f', h2, h3, h4, rfl⟩ := main
  exact ⟨f', h2, h3, h4, h1⟩
theorem c_qpoll (h : wP σ.1 a mc r cap (n + 1) f) (hq : wPQ key (n + 1) f Y) (hna : zg_n g ≤ a) (hr : zg_n g ≤ r) (hK : ∀ y ∈ Y, wKey σ.1 y (key y)) :
    ∃ (y0 : Nat) (f' : Nat → Option Nat), y0 ∈ Y ∧ (∀ y ∈ Y, key y0 ≤ key y) ∧ wPQ key n f' (Y.erase y0) ∧ zEnd g 4 152 [.ref a] σ (.inl (some (.ref y0))) (zw_up (zw_up σ.1 a (.inr (18, [.ref r, iv n, .null, .int (mc + Int32.ofInt 1)]))) r (wArr cap f'), σ.2) := by
  have hc := h.2.2
  have hra : r ≠ a := fun e => by have := h.2.1; rw [e, h.1] at this; cases this
  obtain ⟨y0, h0⟩ := hq.1.2.1 0 (by omega)
  obtain ⟨x, hxn⟩ := hq.1.2.1 n (by omega)
  have hy0 : y0 ∈ Y := (hq.1.1 y0).mpr ⟨0, by omega, h0⟩
  have hxY : x ∈ Y := (hq.1.1 x).mpr ⟨n, by omega, hxn⟩
  have hmin : ∀ y ∈ Y, key y0 ≤ key y := by
    intro y hy
    obtain ⟨i, hi, hy2⟩ := (hq.1.1 y).mp hy
    have := qHeap_min hq.2.1 i i (Nat.le_refl _) hi
    unfold qk at this
    rw [h0, hy2] at this
    exact this
  have hpop := qHas_pop hq.1 h0 hxn
  have hya : ∀ y ∈ Y, y ≠ a := by
    intro y hy e
    obtain ⟨fs, du, nu, h1, _⟩ := hK y hy
    rw [e, h.1] at h1
    cases h1
  -- the walk up to the branch on the new size
  have walk : ∀ Q, zW g 4 152 44 [(0, .ref a), (1, .ref r), (2, .ref y0), (3, iv n), (4, .ref x)] [] (zw_up (zw_up σ.1 a (.inr (18, [.ref r, iv n, .null, .int (mc + Int32.ofInt 1)]))) r (wArr cap (va_up f n none)), σ.2) Q → zW g 4 152 0 (lv_args 0 [.ref a]) [] σ Q := by
    intro Q hQ
    refine zW_p 1 rfl ?_
    refine wW_get rfl h.1 rfl rfl ?_
    refine zW_p 3 rfl ?_
    refine wW_aald rfl h.2.1 rfl (I_in (i := 0) (by omega) (by omega)) ?_
    rw [show (Int32.ofInt 0).toNatClampNeg = 0 from rfl, h0]
    refine zW_p 5 rfl ?_
    refine wW_get rfl h.1 rfl rfl ?_
    refine zW_p 2 rfl ?_
    refine wW_put rfl h.1 rfl hna (Or.inl rfl) rfl rfl rfl ?_
    refine zW_p 3 rfl ?_
    refine wW_get rfl (zw_up_same _ _ _) rfl rfl ?_
    refine zW_p 2 rfl ?_
    rw [I_sub, show ((n + 1 : Nat) : Int) - 1 = ((n : Nat) : Int) from by omega]
    refine zW_p 1 rfl ?_
    refine wW_put rfl (zw_up_same _ _ _) rfl hna (Or.inl rfl) rfl rfl rfl ?_
    refine zW_p 2 rfl ?_
    refine wW_aald rfl ((zw_up_ne _ _ hra).trans ((zw_up_ne _ _ hra).trans h.2.1)) rfl (I_in (by omega) (by omega)) ?_
    rw [I_cl (n := n) (by omega), hxn]
    refine zW_p 4 rfl ?_
    refine wW_aast rfl ((zw_up_ne _ _ hra).trans ((zw_up_ne _ _ hra).trans h.2.1)) rfl rfl (I_in (by omega) (by omega)) hr ?_
    rw [I_cl (n := n) (by omega), zw_up_up]
    exact zW_lv [(0, .ref a), (1, .ref r), (2, .ref y0), (3, iv n), (4, .ref x)] rfl ⟨rfl, rfl, rfl, rfl, rfl, trivial⟩ hQ
  by_cases hn : n = 0
  · subst hn
    rw [if_pos rfl] at hpop
    refine ⟨y0, va_up f 0 none, hy0, hmin, ⟨?_, fun i h1 h2 => by omega, fun i hi => ?_⟩, zEnd_of (walk _ ?_)⟩
    · have e : va_up (va_up f 0 none) 0 none = va_up f 0 none := by
        funext i
        unfold va_up
        by_cases hi : i = 0
        · rw [if_pos hi, if_pos hi]
        · rw [if_neg hi, if_neg hi]
      rw [e] at hpop
      exact hpop
    · by_cases hi : i = 0
      · rw [hi, va_up_self]
      · rw [va_up_ne _ _ hi]
        exact hq.2.2 i (by omega)
    · refine zW_p 3 rfl ?_
      exact wW_ret rfl rfl rfl rfl ⟨rfl, rfl⟩
  · rw [if_neg hn] at hpop
    have hxe : x ∈ Y.erase y0 := by
      refine (hpop.1 x).mpr ⟨0, by omega, va_up_self _ _ _⟩
    have hF : ∀ i : Nat, 0 < i → i < n → qk key (va_up (va_up f n none) 0 (some x)) i = qk key f i := by
      intro i h1 h2
      unfold qk
      rw [va_up_ne _ _ (by omega), va_up_ne _ _ (by omega)]
    have hD : qDn (qk key (va_up (va_up f n none) 0 (some x))) n 0 := by
      refine ⟨fun i h1 h2 h3 => ?_, fun i h1 h2 h3 h4 => by omega⟩
      rw [hF i h1 h2, hF _ (by omega) (by omega)]
      exact hq.2.1 i h1 (by omega)
    have hK2 : ∀ y ∈ Y.erase y0, wKey (zw_up (zw_up σ.1 a (.inr (18, [.ref r, iv n, .null, .int (mc + Int32.ofInt 1)]))) r (wArr cap (va_up f n none))) y (key y) := by
      intro y hy
      have hy2 := List.mem_of_mem_erase hy
      exact ((hK y hy2).up (hya y hy2)).up ((hK y hy2).ne h.2.1)
    obtain ⟨f', f1, f2, f3, f4⟩ := c_siftDn (g := g) (σ := (zw_up (zw_up σ.1 a (.inr (18, [.ref r, iv n, .null, .int (mc + Int32.ofInt 1)]))) r (wArr cap (va_up f n none)), σ.2)) (zw_up_same _ _ _) (by omega) (by omega) hc.2.1 hr hK2 hxe hpop hD
    dsimp only at f4
    refine ⟨y0, f', hy0, hmin, ⟨f1, f2, fun i hi => ?_⟩, zEnd_of (walk _ ?_)⟩
    · rw [f3 i hi]
      by_cases hi2 : i = n
      · rw [hi2, va_up_self]
      · rw [va_up_ne _ _ hi2]
        exact hq.2.2 i (by omega)
    · refine zW_p 1 rfl ?_
      refine zW_br rfl rfl (fun hP => ?_) (fun _ => ?_)
      · rw [I_le0 ⟨by omega, by omega⟩] at hP
        omega
      · refine zW_p 1 rfl ?_
        refine wW_get rfl ((zw_up_ne _ _ hra.symm).trans (zw_up_same _ _ _)) rfl rfl ?_
        refine zW_p 7 rfl ?_
        refine wS rfl rfl rfl rfl rfl rfl rfl rfl rfl f4 (by decide) ?_
        refine zW_p 2 rfl ?_
        exact wW_ret rfl rfl rfl rfl ⟨rfl, by rw [zw_up_up]⟩
theorem c_aqInit : zEnd g 1 44 [.ref a] σ (.inl none) σ := zEnd_of (by
  refine zW_p 1 rfl ?_
  refine wI rfl rfl rfl rfl rfl rfl rfl rfl rfl c_colInit (by decide) ?_
  exact wW_ret rfl rfl rfl rfl ⟨rfl, rfl⟩)
theorem c_qInit2 {x0 x1 x2 x3 : Value} (h : σ.1 a = some (.inr (18, [x0, x1, x2, x3]))) (hfr : wfr σ) (hna : zg_n g ≤ a) :
    zEnd g 2 43 [.ref a, iv 11, .null] σ (.inl none) (zw_up (zw_up σ.1 σ.2.1 (wArr 11 (fun _ => none))) a (.inr (18, [.ref σ.2.1, x1, .null, x3])), σ.2.1 + 1, σ.2.2 + 11) := zEnd_of (by
  have hne : a ≠ σ.2.1 := fun e => by have := hfr a (Nat.le_of_eq e.symm); rw [h] at this; cases this
  refine zW_p 1 rfl ?_
  refine wI rfl rfl rfl rfl rfl rfl rfl rfl rfl c_aqInit (by decide) ?_
  refine zW_p 5 rfl ?_
  refine wW_anewa rfl ⟨by decide, by decide⟩ rfl rfl ?_
  refine wW_put rfl ((zw_up_ne _ _ hne).trans h) rfl hna (Or.inl rfl) rfl rfl rfl ?_
  refine zW_p 2 rfl ?_
  refine wW_put rfl (zw_up_same _ _ _) rfl hna (Or.inr ⟨rfl, rfl⟩) rfl rfl rfl ?_
  exact wW_ret rfl rfl rfl rfl ⟨rfl, by rw [zw_up_up]; rfl⟩)
theorem c_qInit {x0 x1 x2 x3 : Value} (h : σ.1 a = some (.inr (18, [x0, x1, x2, x3]))) (hfr : wfr σ) (hna : zg_n g ≤ a) :
    zEnd g 3 42 [.ref a] σ (.inl none) (zw_up (zw_up σ.1 σ.2.1 (wArr 11 (fun _ => none))) a (.inr (18, [.ref σ.2.1, x1, .null, x3])), σ.2.1 + 1, σ.2.2 + 11) := zEnd_of (by
  refine zW_p 3 rfl ?_
  refine wI rfl rfl rfl rfl rfl rfl rfl rfl rfl (c_qInit2 h hfr hna) (by decide) ?_
  exact wW_ret rfl rfl rfl rfl ⟨rfl, rfl⟩)
end ZPL
