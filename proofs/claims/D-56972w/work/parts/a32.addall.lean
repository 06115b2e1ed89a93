/-! addAll into an empty list of any capacity -/
set_option maxRecDepth 100000
section ZAA
variable {g : zG} {σ : zS} {a r cap E0 c rc capc nc : Nat} {mc mcc : Int32} {f fc : Nat → Option Nat}
theorem c_addAllG (h : wL σ.1 a mc r cap 0 f) (hc : wL σ.1 c mcc rc capc nc fc) (hel : wEl g σ.1 nc fc) (hE : zt_val (zg_s g) wDef = some (.ref E0)) (hr0 : cap = 0 → r = E0) (hcap : cap < nc) (hnc2 : nc ≤ 200000) (hne : a ≠ c) (hf : f = fun _ => none) (hfr : wfr σ) (hz : zg_n g ≤ σ.2.1) (hna : zg_n g ≤ a) (hk : wK g) :
    ∃ C : Nat, nc ≤ C ∧ C ≤ 2 * nc + 10 ∧ zEnd g 3 164 [.ref a, .ref c] σ (.inl (some (iv 1))) (zw_up (zw_up (zw_up σ.1 σ.2.1 (.inl (1, nc, .inr (.inr (.inr (.inr fc)))))) (σ.2.1 + 1) (.inl (1, C, .inr (.inr (.inr (.inr fc)))))) a (.inr (16, [.int (mc + Int32.ofInt 1), .ref (σ.2.1 + 1), iv nc])), σ.2.1 + 2, σ.2.2 + nc + C) := by
  have hcc := hc.2.2
  have hsz : a < σ.2.1 := by
    rcases Nat.lt_or_ge a σ.2.1 with q | q
    · exact q
    · have := hfr a q; rw [h.1] at this; cases this
  have hsr : r < σ.2.1 := by
    rcases Nat.lt_or_ge r σ.2.1 with q | q
    · exact q
    · have := hfr r q; rw [h.2.1] at this; cases this
  have hra : r ≠ a := fun e => by have := h.2.1; rw [e, h.1] at this; cases this
  have hT := c_toArray hc hel hfr hz hk
  have hL1 : wL (zw_up (zw_up σ.1 σ.2.1 (.inl (1, nc, .inr (.inr (.inr (.inr fc)))))) a (.inr (16, [.int (mc + Int32.ofInt 1), .ref r, iv (0 : Nat)]))) a (mc + Int32.ofInt 1) r cap 0 f := ⟨zw_up_same _ _ _, (zw_up_ne _ _ hra).trans ((zw_up_ne _ _ (by omega)).trans h.2.1), by omega, by omega⟩
  obtain ⟨C, h1, h2, h3⟩ := c_grow2 (g := g) (m := nc) (E0 := E0) (σ := (zw_up (zw_up σ.1 σ.2.1 (.inl (1, nc, .inr (.inr (.inr (.inr fc)))))) a (.inr (16, [.int (mc + Int32.ofInt 1), .ref r, iv (0 : Nat)])), σ.2.1 + 1, σ.2.2 + nc)) hL1 ⟨fun i y hy => (by rw [hf] at hy; cases hy), fun i _ => (by rw [hf])⟩ hE hr0 hcap (by omega) (fun q hq => by
    have hq2 : σ.2.1 + 1 ≤ q := hq
    exact (zw_up_ne _ _ (by omega)).trans ((zw_up_ne _ _ (by omega)).trans (hfr q (by omega)))) (by show zg_n g ≤ σ.2.1 + 1; omega) hna hk
  dsimp only at h3
  refine ⟨C, h1, by omega, zEnd_of ?_⟩
  refine zW_p 1 rfl ?_
  refine wF rfl rfl rfl hc.1 rfl rfl rfl rfl rfl hT (by decide) ?_
  refine zW_p 3 rfl ?_
  refine wW_get rfl ((zw_up_ne _ _ (by omega)).trans h.1) rfl rfl ?_
  refine zW_p 2 rfl ?_
  refine wW_put rfl ((zw_up_ne _ _ (by omega)).trans h.1) rfl hna (Or.inl rfl) rfl rfl rfl ?_
  refine zW_p 1 rfl ?_
  refine wW_len rfl ((zw_up_ne _ _ (by omega)).trans (zw_up_same _ _ _)) rfl ?_
  refine zW_p 2 rfl ?_
  refine zW_br rfl rfl (fun _ => ?_) (fun hP => ?_)
  · refine zW_p 2 rfl ?_
    refine wW_get rfl (zw_up_same _ _ _) rfl rfl ?_
    refine zW_p 2 rfl ?_
    refine wW_len rfl ((zw_up_ne _ _ hra).trans ((zw_up_ne _ _ (by omega)).trans h.2.1)) rfl ?_
    refine zW_p 1 rfl ?_
    refine wW_get rfl (zw_up_same _ _ _) rfl rfl ?_
    refine zW_p 3 rfl ?_
    rw [I_sub]
    refine zW_br rfl rfl (fun hP => ?_) (fun hP => ?_)
    · rw [I_le ⟨by omega, by omega⟩ ⟨by omega, by omega⟩] at hP
      omega
    · refine zW_p 4 rfl ?_
      rw [I_add, show ((0 : Nat) : Int) + (nc : Int) = ((nc : Nat) : Int) from by omega]
      refine wV rfl rfl rfl rfl rfl rfl rfl hL1.rc h3 (by decide) ?_
      refine zW_p 6 rfl ?_
      have hnn : ¬ Int32.ofInt (nc : Int) < 0 := by rw [I_lt0 ⟨by omega, by omega⟩]; omega
      have hel2 : ∀ i y : Nat, fc i = some y → wOb (zg_k g) (zw_up (zw_up (zw_up (zw_up σ.1 σ.2.1 (.inl (1, nc, .inr (.inr (.inr (.inr fc)))))) a (.inr (16, [.int (mc + Int32.ofInt 1), .ref r, iv (0 : Nat)]))) (σ.2.1 + 1) (.inl (1, C, .inr (.inr (.inr (.inr f)))))) a (.inr (16, [.int (mc + Int32.ofInt 1), .ref (σ.2.1 + 1), iv (0 : Nat)]))) y := by
        intro i y hy
        refine wOb.up ?_ (fun _ => rfl)
        refine wOb.new ?_ ((zw_up_ne _ _ (by omega)).trans ((zw_up_ne _ _ (by omega)).trans (hfr _ (by omega)))) (fun q hq e => by have := hk q hq; omega)
        refine wOb.up ?_ (fun _ => rfl)
        exact (hel.1 i y hy).new (hfr _ (Nat.le_refl _)) (fun q hq e => by have := hk q hq; omega)
      refine wW_copy rfl rfl (Or.inl ⟨rfl, rfl⟩) ((zw_up_ne _ _ (by omega)).trans ((zw_up_ne _ _ (by show σ.2.1 ≠ σ.2.1 + 1; omega)).trans ((zw_up_ne _ _ (by omega)).trans (zw_up_same _ _ _)))) ((zw_up_ne _ _ (by omega)).trans (zw_up_same _ _ _)) rfl rfl (by decide) (by decide) hnn ?_ ?_ (by omega) (zs_fit_of hel2) (by decide) ?_
      · rw [I_cl (n := nc) (by omega)]
        show 0 + nc ≤ nc
        omega
      · rw [I_cl (n := nc) (by omega)]
        show 0 + nc ≤ C
        omega
      rw [I_cl (n := nc) (by omega)]
      refine zW_p 4 rfl ?_
      refine wW_put rfl ((zw_up_ne _ _ (by omega)).trans (zw_up_same _ _ _)) rfl hna (Or.inl rfl) rfl rfl rfl ?_
      refine zW_p 1 rfl ?_
      refine zW_reti rfl rfl rfl ⟨rfl, ?_⟩
      have ef : va_cpy fc f (Int32.ofInt 0).toNatClampNeg (Int32.ofInt (0 : Nat)).toNatClampNeg nc = fc := by
        funext i
        show (if 0 ≤ i ∧ i < 0 + nc then fc (0 + (i - 0)) else f i) = fc i
        by_cases hi : i < nc
        · rw [if_pos ⟨by omega, by omega⟩]; congr 1; omega
        · rw [if_neg (by omega), hel.2 i (by omega), hf]
      rw [ef, I_add, show ((0 : Nat) : Int) + (nc : Int) = ((nc : Nat) : Int) from by omega]
      have e1 : ∀ (w : zw_W) (X Y Z U V : va_E), zw_up (zw_up (zw_up (zw_up (zw_up w a X) (σ.2.1 + 1) Y) a Z) (σ.2.1 + 1) U) a V = zw_up (zw_up w (σ.2.1 + 1) U) a V := by
        intro w X Y Z U V
        rw [zw_up_comm _ (show a ≠ σ.2.1 + 1 by omega), zw_up_up, zw_up_up, zw_up_comm _ (show a ≠ σ.2.1 + 1 by omega), zw_up_up]
      show (zw_up (zw_up (zw_up (zw_up (zw_up (zw_up σ.1 σ.2.1 _) a _) (σ.2.1 + 1) _) a _) (σ.2.1 + 1) _) a _, _, _) = _
      rw [e1]
      rfl
  · exact absurd (fun e => by rw [I_eq0 ⟨by omega, by omega⟩] at e; omega) hP
theorem c_addAllP (h : wL σ.1 a mc r cap 0 f) (hc : wL σ.1 c mcc rc capc nc fc) (hel : wEl g σ.1 nc fc) (hr0 : zg_n g ≤ r) (hnc : 0 < nc) (hcap : nc ≤ cap) (hnc2 : nc ≤ 200000) (hne : a ≠ c) (hf : f = fun _ => none) (hfr : wfr σ) (hz : zg_n g ≤ σ.2.1) (hna : zg_n g ≤ a) (hk : wK g) :
    zEnd g 3 164 [.ref a, .ref c] σ (.inl (some (iv 1))) (zw_up (zw_up (zw_up σ.1 σ.2.1 (.inl (1, nc, .inr (.inr (.inr (.inr fc)))))) r (.inl (1, cap, .inr (.inr (.inr (.inr fc)))))) a (.inr (16, [.int (mc + Int32.ofInt 1), .ref r, iv nc])), σ.2.1 + 1, σ.2.2 + nc) := by
  have hcc := hc.2.2
  have hh2 := h.2.2
  have hsz : a < σ.2.1 := by
    rcases Nat.lt_or_ge a σ.2.1 with q | q
    · exact q
    · have := hfr a q; rw [h.1] at this; cases this
  have hsr : r < σ.2.1 := by
    rcases Nat.lt_or_ge r σ.2.1 with q | q
    · exact q
    · have := hfr r q; rw [h.2.1] at this; cases this
  have hra : r ≠ a := fun e => by have := h.2.1; rw [e, h.1] at this; cases this
  have hT := c_toArray hc hel hfr hz hk
  refine zEnd_of ?_
  refine zW_p 1 rfl ?_
  refine wF rfl rfl rfl hc.1 rfl rfl rfl rfl rfl hT (by decide) ?_
  refine zW_p 3 rfl ?_
  refine wW_get rfl ((zw_up_ne _ _ (by omega)).trans h.1) rfl rfl ?_
  refine zW_p 2 rfl ?_
  refine wW_put rfl ((zw_up_ne _ _ (by omega)).trans h.1) rfl hna (Or.inl rfl) rfl rfl rfl ?_
  refine zW_p 1 rfl ?_
  refine wW_len rfl ((zw_up_ne _ _ (by omega)).trans (zw_up_same _ _ _)) rfl ?_
  refine zW_p 2 rfl ?_
  refine zW_br rfl rfl (fun _ => ?_) (fun hP => ?_)
  · refine zW_p 2 rfl ?_
    refine wW_get rfl (zw_up_same _ _ _) rfl rfl ?_
    refine zW_p 2 rfl ?_
    refine wW_len rfl ((zw_up_ne _ _ hra).trans ((zw_up_ne _ _ (by omega)).trans h.2.1)) rfl ?_
    refine zW_p 1 rfl ?_
    refine wW_get rfl (zw_up_same _ _ _) rfl rfl ?_
    refine zW_p 3 rfl ?_
    rw [I_sub]
    refine zW_br rfl rfl (fun _ => ?_) (fun hP => ?_)
    · refine zW_p 5 rfl ?_
      have hnn : ¬ Int32.ofInt (nc : Int) < 0 := by rw [I_lt0 ⟨by omega, by omega⟩]; omega
      have hel2 : ∀ i y : Nat, fc i = some y → wOb (zg_k g) (zw_up (zw_up σ.1 σ.2.1 (.inl (1, nc, .inr (.inr (.inr (.inr fc)))))) a (.inr (16, [.int (mc + Int32.ofInt 1), .ref r, iv (0 : Nat)]))) y := by
        intro i y hy
        refine wOb.up ?_ (fun _ => rfl)
        exact (hel.1 i y hy).new (hfr _ (Nat.le_refl _)) (fun q hq e => by have := hk q hq; omega)
      refine wW_copy rfl rfl (Or.inl ⟨rfl, rfl⟩) ((zw_up_ne _ _ (by omega)).trans (zw_up_same _ _ _)) ((zw_up_ne _ _ hra).trans ((zw_up_ne _ _ (by omega)).trans h.2.1)) rfl rfl (by decide) (by decide) hnn ?_ ?_ hr0 (zs_fit_of hel2) (by decide) ?_
      · rw [I_cl (n := nc) (by omega)]
        show 0 + nc ≤ nc
        omega
      · rw [I_cl (n := nc) (by omega)]
        show 0 + nc ≤ cap
        omega
      rw [I_cl (n := nc) (by omega)]
      refine zW_p 4 rfl ?_
      refine wW_put rfl ((zw_up_ne _ _ (fun e => hra e.symm)).trans (zw_up_same _ _ _)) rfl hna (Or.inl rfl) rfl rfl rfl ?_
      refine zW_p 1 rfl ?_
      refine zW_reti rfl rfl rfl ⟨rfl, ?_⟩
      have ef : va_cpy fc f (Int32.ofInt 0).toNatClampNeg (Int32.ofInt (0 : Nat)).toNatClampNeg nc = fc := by
        funext i
        show (if 0 ≤ i ∧ i < 0 + nc then fc (0 + (i - 0)) else f i) = fc i
        by_cases hi : i < nc
        · rw [if_pos ⟨by omega, by omega⟩]; congr 1; omega
        · rw [if_neg (by omega), hel.2 i (by omega), hf]
      rw [ef, I_add, show ((0 : Nat) : Int) + (nc : Int) = ((nc : Nat) : Int) from by omega]
      have e1 : ∀ (w : zw_W) (X U V : va_E), zw_up (zw_up (zw_up w a X) r U) a V = zw_up (zw_up w r U) a V := by
        intro w X U V
        rw [zw_up_comm _ (fun e : a = r => hra e.symm), zw_up_up]
      show (zw_up (zw_up (zw_up (zw_up σ.1 σ.2.1 _) a _) r _) a _, _, _) = _
      rw [e1]
      rfl
    · exfalso
      exact hP ((I_le ⟨by omega, by omega⟩ ⟨by omega, by omega⟩).mpr (by omega))
  · exact absurd (fun e => by rw [I_eq0 ⟨by omega, by omega⟩] at e; omega) hP
end ZAA
section ZAA2
variable {g : zG} {w0 : hG} {σ : zS} {gh : Nat → Nat → Nat} {S : hS} {J : zw_W} {d k pc idx c i a : Nat} {lv : zp_L} {st : List Value} {Q : Option Value ⊕ String → zS → Prop}
theorem hW_addAllG {c2 i2 a2 : Nat} (H : hRep g w0 σ gh S J) (hx : r_i k pc = some (.invokevirtual idx, 3)) (hno : (r_o k == 22 && idx == 86) = false) (hV : zcV_at (r_o k) idx = some (164, 1)) (ha : hat gh S c i a) (hc1 : Nat.ble 20 c = true) (hc2 : Nat.blt c 45 = true) (ha2 : hat gh S c2 i2 a2) (hd1 : Nat.ble 20 c2 = true) (hd2 : Nat.blt c2 45 = true) (hek : elk c2 = elk c) (hko : kobj (elk c2) = true)
    (hemp : sE S c i = []) (hpos : sE S c2 i2 ≠ []) (hlen : (sE S c2 i2).length ≤ 200000) (hne : a ≠ a2) (h6 : zc6 st = true) (hd : 3 < d)
    (hr : ∀ σ' : zS, hRep g w0 σ' gh (ssE S c i (sE S c2 i2)) J → kc σ σ' 2 (3 * (sE S c2 i2).length + 10) → zW g d k (pc + 3) lv (iv 1 :: st) σ' Q) : zW g d k pc lv (.ref a2 :: .ref a :: st) σ Q := by
  have e1 := Nat.le_of_ble_eq_true hc1
  have e2 : c < 45 := Nat.le_of_ble_eq_true hc2
  have f1 := Nat.le_of_ble_eq_true hd1
  have f2 : c2 < 45 := Nat.le_of_ble_eq_true hd2
  obtain ⟨r, cap, f, q1, q2, q3, q4, q5, q6⟩ := H.lst ha e1 e2
  obtain ⟨r2, cap2, fc, p1, p2, p3, p4, p5, p6⟩ := H.lst ha2 f1 f2
  have hw2 := H.wel ha2 f1 hko p2 p3
  rw [hemp] at q1 q3
  have hfn : f = fun _ => none := by funext j; exact q3 j (Nat.zero_le _)
  have hpl := List.length_pos_iff.mpr hpos
  have K1 := H.keep (e := wArr (sE S c2 i2).length fc) (m := σ.2.2 + (sE S c2 i2).length)
  have K2 := K1.drop (J' := J) (fun b e hb => by
    have := (H.jat hb).2.2.1
    exact (zw_up_ne _ _ (by omega)).trans hb)
  have hsa : a < σ.2.1 := by
    rcases Nat.lt_or_ge a σ.2.1 with q | q
    · exact q
    · have := H.2.1 a q; rw [q1.1] at this; cases this
  have hsr : r < σ.2.1 := by
    rcases Nat.lt_or_ge r σ.2.1 with q | q
    · exact q
    · have := H.2.1 r q; rw [q1.2.1] at this; cases this
  by_cases hcap : cap < (sE S c2 i2).length
  · obtain ⟨C, g1, g2, g3⟩ := c_addAllG (g := g) (E0 := w0.2) (σ := σ) q1 p1 hw2 H.1.2.2.2 (fun h => (q4 h).1) hcap hlen hne hfn H.2.1 H.2.2.1 q6 H.1.1
    refine wV hx hno hV rfl rfl h6 rfl q1.rc g3 hd ?_
    have H2 := K2.relist (xs := sE S c2 i2) (r' := σ.2.1 + 1) (cap' := C) (m1 := σ.2.1 + 2) (m2 := σ.2.2 + (sE S c2 i2).length + C) (f' := fc) (mc := Int32.ofInt (sM S c i)) (r := r) (n := 0) (cap := cap) (f := f) ha e1 (by omega) (by
        unfold hhead
        rw [if_pos e2]
        exact (zw_up_ne _ _ (by omega)).trans q1.1) ((zw_up_ne _ _ (by omega)).trans q1.2.1) (Or.inr ⟨rfl, Nat.lt_succ_self _⟩) g1 (by omega) (by omega) (fun _ => ⟨fun j x hx => by rw [← hek]; exact p2 j x hx, p3⟩) (fun x hx => by rw [← hek]; exact H.2.2.2.2.2.1 c2 i2 f1 ha2.1 x hx) (fun e => by omega)
    have hh2 : hhead c (Int32.ofInt (sM S c i + 1)) (σ.2.1 + 1) (sE S c2 i2).length = .inr (16, [.int (Int32.ofInt (sM S c i) + Int32.ofInt 1), .ref (σ.2.1 + 1), iv (sE S c2 i2).length]) := by
      unfold hhead
      rw [if_pos e2, I_add]
    rw [hh2] at H2
    exact hr _ H2 ⟨Nat.le_add_right _ 2, Nat.le_refl _, by show σ.2.2 ≤ σ.2.2 + _ + C; omega, by show σ.2.2 + _ + C ≤ _; omega⟩
  · have hcn : cap ≠ 0 := by omega
    have g3 := c_addAllP (g := g) (σ := σ) q1 p1 hw2 (q5 hcn) hpl (by omega) hlen hne hfn H.2.1 H.2.2.1 q6 H.1.1
    refine wV hx hno hV rfl rfl h6 rfl q1.rc g3 hd ?_
    have hc6 := q1.2.2.2
    have H2 := K2.relist (xs := sE S c2 i2) (r' := r) (cap' := cap) (m1 := σ.2.1 + 1) (m2 := σ.2.2 + (sE S c2 i2).length) (f' := fc) (mc := Int32.ofInt (sM S c i)) (r := r) (n := 0) (cap := cap) (f := f) ha e1 (by omega) (by
        unfold hhead
        rw [if_pos e2]
        exact (zw_up_ne _ _ (by omega)).trans q1.1) ((zw_up_ne _ _ (by omega)).trans q1.2.1) (Or.inl ⟨rfl, hcn, rfl, Nat.le_refl _⟩) (by omega) (by omega) (by omega) (fun _ => ⟨fun j x hx => by rw [← hek]; exact p2 j x hx, p3⟩) (fun x hx => by rw [← hek]; exact H.2.2.2.2.2.1 c2 i2 f1 ha2.1 x hx) (fun e => by omega)
    have hh2 : hhead c (Int32.ofInt (sM S c i + 1)) r (sE S c2 i2).length = .inr (16, [.int (Int32.ofInt (sM S c i) + Int32.ofInt 1), .ref r, iv (sE S c2 i2).length]) := by
      unfold hhead
      rw [if_pos e2, I_add]
    rw [hh2] at H2
    exact hr _ H2 ⟨Nat.le_add_right _ 1, by show σ.2.1 + 1 ≤ σ.2.1 + 2; omega, by show σ.2.2 ≤ σ.2.2 + _; omega, by show σ.2.2 + _ ≤ _; omega⟩
end ZAA2
