/-! LOOPS over lists by an iterator: one rule -/
set_option maxRecDepth 100000
/-- costs, by the sizes alone -/
def kd (a b : Nat × Nat) (m s : Nat) : Prop := a.1 ≤ b.1 ∧ b.1 ≤ a.1 + m ∧ a.2 ≤ b.2 ∧ b.2 ≤ a.2 + s
theorem kd.rfl' {a : Nat × Nat} : kd a a 0 0 := ⟨Nat.le_refl _, Nat.le_refl _, Nat.le_refl _, Nat.le_refl _⟩
theorem kd.trans {a b c : Nat × Nat} {m s m2 s2 : Nat} (h : kd a b m s) (h2 : kd b c m2 s2) : kd a c (m + m2) (s + s2) := by
  obtain ⟨a1, a2, a3, a4⟩ := h
  obtain ⟨b1, b2, b3, b4⟩ := h2
  exact ⟨by omega, by omega, by omega, by omega⟩
theorem kd.mono {a b : Nat × Nat} {m s m2 s2 : Nat} (h : kd a b m s) (hm : m ≤ m2) (hs : s ≤ s2) : kd a b m2 s2 := by
  obtain ⟨a1, a2, a3, a4⟩ := h
  exact ⟨a1, by omega, a3, by omega⟩
theorem kc.kd {σ σ' : zS} {m s : Nat} (h : kc σ σ' m s) : kd σ.2 σ'.2 m s := h
theorem kd.kc {σ σ' : zS} {m s : Nat} (h : kd σ.2 σ'.2 m s) : kc σ σ' m s := h
section ZLOOP
variable {g : zG} {w0 : hG} {d k : Nat} {J : zw_W} {Q : Option Value ⊕ String → zS → Prop}
theorem hW_loop {c i b it j n h h1 e nx idx1 idx2 cnt1 cnt2 : Nat} {mc : Int32} {xs : List Int}
    (I : Nat → zp_L → Nat × Nat → (Nat → Nat → Nat) → hS → Prop) (hJ : J it = none) (c1 : Nat.ble 20 c = true) (c2 : Nat.blt c 45 = true) (hn : elk c = n + 40)
    (e1 : ∀ lv : zp_L, zpt k 1 h ((j, .ref it) :: lv) [] = some (h1, (j, .ref it) :: lv, [.ref it]))
    (e2 : r_i k h1 = some (.invokeinterface idx1 cnt1, 5)) (e3 : zjn (r_o k) idx1 = some 0) (e4 : zj_at (r_o k) idx1 17 = some (10, 0))
    (e5 : ∀ lv : zp_L, zpt k 1 (h1 + 5) ((j, .ref it) :: lv) [iv 0] = some (e, (j, .ref it) :: lv, []))
    (e6 : ∀ lv : zp_L, zpt k 2 (h1 + 5) ((j, .ref it) :: lv) [iv 1] = some (nx, (j, .ref it) :: lv, [.ref it]))
    (e7 : r_i k nx = some (.invokeinterface idx2 cnt2, 5)) (e8 : zjn (r_o k) idx2 = some 0) (e9 : zj_at (r_o k) idx2 17 = some (11, 0)) (hd : 1 < d)
    (hI : ∀ (p : Nat) (lv : zp_L) (κ : Nat × Nat) (gh : Nat → Nat → Nat) (S : hS), I p lv κ gh S → hat gh S c i b ∧ sE S c i = xs ∧ Int32.ofInt (sM S c i) = mc)
    (body : ∀ (p y : Nat) (lv : zp_L) (σ : zS) (gh : Nat → Nat → Nat) (S : hS) (J2 : zw_W) (o : Nat), p < xs.length → xs[p]? = some (y : Int) → I p lv σ.2 gh S → hRep g w0 σ gh S J2 → (∀ (σ' : zS) (gh' : Nat → Nat → Nat) (S' : hS), hRep g w0 σ' gh' S' J2 → hRep g w0 σ' gh' S' J) → hat gh S n y o →
      (∀ (lv' : zp_L) (σ' : zS) (gh' : Nat → Nat → Nat) (S' : hS), hRep g w0 σ' gh' S' J2 → I (p + 1) lv' σ'.2 gh' S' → zW g d k h ((j, .ref it) :: lv') [] σ' Q) → zW g d k (nx + 5) ((j, .ref it) :: lv) [.ref o] σ Q)
    (fin : ∀ (lv : zp_L) (σ : zS) (gh : Nat → Nat → Nat) (S : hS), hRep g w0 σ gh S J → I xs.length lv σ.2 gh S → zW g d k e ((j, .ref it) :: lv) [] σ Q) :
    ∀ (lv : zp_L) (σ : zS) (gh : Nat → Nat → Nat) (S : hS), hRep g w0 σ gh S (zw_up J it (wIt 0 (-1) mc b)) → I 0 lv σ.2 gh S → zW g d k h ((j, .ref it) :: lv) [] σ Q := by
  have dropJ : ∀ (p : Nat) (l : Int) (σ' : zS) (gh' : Nat → Nat → Nat) (S' : hS), hRep g w0 σ' gh' S' (zw_up J it (wIt p l mc b)) → hRep g w0 σ' gh' S' J := fun p l σ' gh' S' H => H.drop (fun x y hx => by
    rw [zw_up_ne _ _ (fun q => by rw [q, hJ] at hx; cases hx)]
    exact hx)
  have main : ∀ (q p : Nat) (l : Int) (lv : zp_L) (σ : zS) (gh : Nat → Nat → Nat) (S : hS), p + q = xs.length → hRep g w0 σ gh S (zw_up J it (wIt p l mc b)) → I p lv σ.2 gh S → zW g d k h ((j, .ref it) :: lv) [] σ Q := by
    intro q
    induction q with
    | zero =>
      intro p l lv σ gh S hp H hi
      obtain ⟨b1, b2, b3⟩ := hI _ _ _ _ _ hi
      refine zW_p 1 (e1 lv) ?_
      refine hW_hasNext (p := p) (l := l) H e2 e3 e4 b1 c1 c2 (by rw [b3]; exact zw_up_same _ _ _) (by rw [b2]; omega) rfl (by omega) ?_
      rw [b2, if_neg (by omega)]
      refine zW_p 1 (e5 lv) ?_
      rw [show p = xs.length by omega] at hi
      exact fin lv σ gh S (dropJ _ _ _ _ _ H) hi
    | succ q ih =>
      intro p l lv σ gh S hp H hi
      obtain ⟨b1, b2, b3⟩ := hI _ _ _ _ _ hi
      have hlt : p < xs.length := by omega
      refine zW_p 1 (e1 lv) ?_
      refine hW_hasNext (p := p) (l := l) H e2 e3 e4 b1 c1 c2 (by rw [b3]; exact zw_up_same _ _ _) (by rw [b2]; omega) rfl (by omega) ?_
      rw [b2, if_pos hlt]
      refine zW_p 2 (e6 lv) ?_
      have h0 : 0 ≤ xs[p] := by
        obtain ⟨r, cap, f, q1, q2, _⟩ := H.lst b1 (Nat.le_of_ble_eq_true c1) (Nat.le_of_ble_eq_true c2)
        exact (q2 p xs[p] (by rw [b2]; exact List.getElem?_eq_getElem hlt)).1
      obtain ⟨y, hy⟩ : ∃ y : Nat, xs[p] = y := ⟨xs[p].toNat, (Int.toNat_of_nonneg h0).symm⟩
      have hye : xs[p]? = some (y : Int) := by rw [List.getElem?_eq_getElem hlt, hy]
      refine hW_next (p := p) (l := l) H e7 e8 e9 b1 c1 c2 hn (by rw [b3]; exact zw_up_same _ _ _) (by rw [b2]; exact hye) rfl hd (fun σ2 o ho H2 hs2 => ?_)
      rw [b3, zw_up_up] at H2
      rw [← hs2] at hi
      exact body p y lv σ2 gh S _ o hlt hye hi H2 (dropJ _ _) ho (fun lv' σ' gh' S' H' hi' => ih (p + 1) _ lv' σ' gh' S' (by omega) H' hi')
  exact fun lv σ gh S H hi => main xs.length 0 (-1) lv σ gh S (by omega) H hi
end ZLOOP
