/-! addAll of an empty list: nothing is added -/
set_option maxRecDepth 100000
section ZAZ
variable {g : zG} {w0 : hG} {σ : zS} {gh : Nat → Nat → Nat} {S : hS} {J : zw_W} {d k pc idx i a r rc c cap capc : Nat} {mc mcc : Int32} {f fc : Nat → Option Nat} {lv : zp_L} {st : List Value} {Q : Option Value ⊕ String → zS → Prop}
theorem c_addAllZ (h : wL σ.1 a mc r cap 0 f) (hc : wL σ.1 c mcc rc capc 0 fc) (hel : wEl g σ.1 0 fc) (hne : a ≠ c) (hfr : wfr σ) (hz : zg_n g ≤ σ.2.1) (hna : zg_n g ≤ a) (hk : wK g) :
    zEnd g 3 164 [.ref a, .ref c] σ (.inl (some (iv 0))) (zw_up (zw_up σ.1 σ.2.1 (.inl (1, 0, .inr (.inr (.inr (.inr fc)))))) a (.inr (16, [.int (mc + Int32.ofInt 1), .ref r, iv (0 : Nat)])), σ.2.1 + 1, σ.2.2 + 0) := by
  have hcc := hc.2.2
  have hh2 := h.2.2
  have hsz : a < σ.2.1 := by
    rcases Nat.lt_or_ge a σ.2.1 with q | q
    · exact q
    · have := hfr a q; rw [h.1] at this; cases this
  have hT := c_toArray hc hel hfr hz hk
  refine zEnd_of ?_
  refine zW_p 1 rfl ?_
  refine wF rfl rfl rfl hc.1 rfl rfl rfl rfl rfl hT (by decide) ?_
  refine zW_p 3 rfl ?_
  refine wW_get rfl ((zw_up_ne _ _ (by omega)).trans h.1) rfl rfl ?_
  refine zW_p 2 rfl ?_
  refine wW_put rfl ((zw_up_ne _ _ (by omega)).trans h.1) rfl hna (Or.inl rfl) rfl rfl rfl ?_
  refine zW_p 1 rfl ?_
  refine wW_len rfl ((zw_up_ne _ _ (by omega)).trans (zw_up_same _ _ _)) rfl ?_
  refine zW_p 4 rfl ?_
  exact zW_reti rfl rfl rfl ⟨rfl, rfl⟩
theorem hW_addAllZ {c2 i2 a2 : Nat} (H : hRep g w0 σ gh S J) (hx : r_i k pc = some (.invokevirtual idx, 3)) (hno : (r_o k == 22 && idx == 86) = false) (hV : zcV_at (r_o k) idx = some (164, 1)) (ha : hat gh S c i a) (hc1 : Nat.ble 20 c = true) (hc2 : Nat.blt c 45 = true) (ha2 : hat gh S c2 i2 a2) (hd1 : Nat.ble 20 c2 = true) (hd2 : Nat.blt c2 45 = true) (hko : kobj (elk c2) = true)
    (hemp : sE S c i = []) (hemp2 : sE S c2 i2 = []) (hne : a ≠ a2) (h6 : zc6 st = true) (hd : 3 < d)
    (hr : ∀ σ' : zS, hRep g w0 σ' gh (ssE S c i []) J → kc σ σ' 2 10 → zW g d k (pc + 3) lv (iv 0 :: st) σ' Q) : zW g d k pc lv (.ref a2 :: .ref a :: st) σ Q := by
  have e1 := Nat.le_of_ble_eq_true hc1
  have e2 : c < 45 := Nat.le_of_ble_eq_true hc2
  have f1 := Nat.le_of_ble_eq_true hd1
  have f2 : c2 < 45 := Nat.le_of_ble_eq_true hd2
  obtain ⟨r, cap, f, q1, q2, q3, q4, q5, q6⟩ := H.lst ha e1 e2
  obtain ⟨r2, cap2, fc, p1, p2, p3, p4, p5, p6⟩ := H.lst ha2 f1 f2
  have hw2 := H.wel ha2 f1 hko p2 p3
  rw [hemp] at q1 q3
  rw [hemp2] at p1 hw2
  have hfn : f = fun _ => none := by funext j; exact q3 j (Nat.zero_le _)
  have K1 := H.keep (e := wArr 0 fc) (m := σ.2.2 + 0)
  have K2 := K1.drop (J' := J) (fun b e hb => by
    have := (H.jat hb).2.2.1
    exact (zw_up_ne _ _ (by omega)).trans hb)
  have hsa : a < σ.2.1 := by
    rcases Nat.lt_or_ge a σ.2.1 with q | q
    · exact q
    · have := H.2.1 a q; rw [q1.1] at this; cases this
  have hsr : r < σ.2.1 := by
    rcases Nat.lt_or_ge r σ.2.1 with q | q
    · exact q
    · have := H.2.1 r q; rw [q1.2.1] at this; cases this
  have g3 := c_addAllZ (g := g) (σ := σ) q1 p1 hw2 hne H.2.1 H.2.2.1 q6 H.1.1
  refine wV hx hno hV rfl rfl h6 rfl q1.rc g3 hd ?_
  have hh2 : hhead c (Int32.ofInt (sM S c i + 1)) r 0 = .inr (16, [.int (Int32.ofInt (sM S c i) + Int32.ofInt 1), .ref r, iv (0 : Nat)]) := by
    unfold hhead
    rw [if_pos e2, I_add]
  have hwL : wL (zw_up σ.1 σ.2.1 (wArr 0 fc)) a (Int32.ofInt (sM S c i)) r cap 0 f := ⟨(zw_up_ne _ _ (by omega)).trans q1.1, (zw_up_ne _ _ (by omega)).trans q1.2.1, q1.2.2⟩
  by_cases hcn : cap = 0
  · have H2 := K2.rehead ha e1 e2 hwL hcn
    have hrE : r = w0.2 := (q4 hcn).1
    rw [← hrE] at H2
    refine hr _ ?_ ⟨Nat.le_add_right _ 1, by show σ.2.1 + 1 ≤ σ.2.1 + 2; omega, by show σ.2.2 ≤ σ.2.2 + 0; omega, by show σ.2.2 + 0 ≤ _; omega⟩
    rw [show (iv (sM S c i + 1)) = Value.int (Int32.ofInt (sM S c i) + Int32.ofInt 1) from by rw [I_add]] at H2
    exact H2
  · have hc6 := q1.2.2.2
    have H2 := K2.relist (xs := []) (r' := r) (cap' := cap) (m1 := σ.2.1 + 1) (m2 := σ.2.2 + 0) (f' := fun _ => none) (mc := Int32.ofInt (sM S c i)) (r := r) (n := 0) (cap := cap) (f := f) ha e1 (by omega) (by
        unfold hhead
        rw [if_pos e2]
        exact hwL.1) hwL.2.1 (Or.inl ⟨rfl, hcn, rfl, Nat.le_refl _⟩) (Nat.zero_le _) (by omega) (by omega) (fun _ => ⟨fun j x hx => by simp at hx, fun j _ => rfl⟩) (fun x hx => by simp at hx) (fun e => by omega)
    refine hr _ ?_ ⟨Nat.le_add_right _ 1, by show σ.2.1 + 1 ≤ σ.2.1 + 2; omega, by show σ.2.2 ≤ σ.2.2 + 0; omega, by show σ.2.2 + 0 ≤ _; omega⟩
    have e3 : zw_up (zw_up σ.1 σ.2.1 (wArr 0 fc)) r (wArr cap (fun _ => none)) = zw_up σ.1 σ.2.1 (wArr 0 fc) := by
      funext b
      by_cases hb : b = r
      · subst hb
        rw [zw_up_same, hwL.2.1, hfn]
      · exact zw_up_ne _ _ hb
    rw [show ([] : List Int).length = 0 from rfl, hh2] at H2
    exact e3 ▸ H2
end ZAZ
