/-! THE MODEL: advance whole -/
set_option maxRecDepth 100000
section ZMAD
variable {g : zG} {w0 : hG} {σ : zS} {gh : Nat → Nat → Nat} {S T : hS} {J : zw_W} {a b o m : Nat} {u v : Int} {Q : Option Value ⊕ String → zS → Prop}
theorem M_tick (H : hRep g w0 σ gh S J) (hK : mTickOk S) (ha : hat gh S 11 0 a)
    (hQ : ∀ (σ' : zS) (ghx : Nat → Nat → Nat), gext S gh ghx → hRep g w0 σ' ghx (mTick (S, 0, 0)).1 J → (∀ c, sn S c ≤ sn (mTick (S, 0, 0)).1 c) → kc σ σ' (mTick (S, 0, 0)).2.1 (mTick (S, 0, 0)).2.2 → zW g 20 242 66 [(0, .ref a), (1, iv u), (2, iv v)] [] σ' Q) :
    zW g 20 242 48 [(0, .ref a), (1, iv u), (2, iv v)] [] σ Q := by
  obtain ⟨hF, hE, hJ2⟩ := hK
  refine zW_p 2 rfl ?_
  refine hW_get H rfl ha rfl rfl rfl ?_
  refine zW_p 2 rfl ?_
  rw [I_add]
  refine hW_put (v := sT S 11 8 0 + 1) H rfl ha rfl rfl rfl (Or.inl rfl) rfl rfl rfl alv0 (fun e => absurd e (by decide)) (fun σ0 H0 e0 => ?_)
  have hF0 : mFix (sset S 11 8 0 (sT S 11 8 0 + 1)) := hF
  have ha0 : hat gh (sset S 11 8 0 (sT S 11 8 0 + 1)) 11 0 a := ha
  have eT : mTick (S, 0, 0) = (mBegL (sn (mEndN (sset S 11 8 0 (sT S 11 8 0 + 1)) (sn S 12)).1 12) (mEndN (sset S 11 8 0 (sT S 11 8 0 + 1)) (sn S 12)).1 0,
    0 + ((mEndN (sset S 11 8 0 (sT S 11 8 0 + 1)) (sn S 12)).2.1 + sn (mEndN (sset S 11 8 0 (sT S 11 8 0 + 1)) (sn S 12)).1 12),
    0 + ((mEndN (sset S 11 8 0 (sT S 11 8 0 + 1)) (sn S 12)).2.2 + 4 * sn (mEndN (sset S 11 8 0 (sT S 11 8 0 + 1)) (sn S 12)).1 12)) := rfl
  obtain ⟨σ1, g1, ghx, x1, H1, k1⟩ := M_end H0 hF0 hE ha0
  have sn1 : sn (sset S 11 8 0 (sT S 11 8 0 + 1)) 12 = sn S 12 := rfl
  rw [sn1] at H1 k1
  have ha1 : hat ghx (mEndN (sset S 11 8 0 (sT S 11 8 0 + 1)) (sn S 12)).1 11 0 a := x1.hat (fun c => mEndN_le _) ha0
  obtain ⟨σ2, g2, H2, k2⟩ := M_begin H1 hJ2 ha1
  refine zW_p 1 rfl ?_
  refine wV rfl rfl rfl rfl rfl rfl rfl (H0.rc ha0 rfl rfl) g1 (by omega) ?_
  refine zW_p 1 rfl ?_
  refine wV rfl rfl rfl rfl rfl rfl rfl (H1.rc ha1 rfl rfl) g2 (by omega) ?_
  refine hQ σ2 ghx x1 (by rw [eT]; exact H2) (fun c => ?_) ?_
  · rw [eT]
    show sn S c ≤ sn (mBegL _ _ 0) c
    rw [mBegL_sn]
    exact mEndN_le (S := sset S 11 8 0 (sT S 11 8 0 + 1)) _
  · rw [eT]
    exact ((kc.of e0).trans (k1.trans k2)).mono (by simp only; omega) (by simp only; omega)
theorem mTick_add {S : hS} {c s : Nat} : mTick (S, c, s) = ((mTick (S, 0, 0)).1, c + (mTick (S, 0, 0)).2.1, s + (mTick (S, 0, 0)).2.2) := by
  unfold mTick
  simp only [Nat.zero_add]
theorem M_advance (H : hRep g w0 σ gh S J) (hv : rg v) (hnow : 0 ≤ sT S 11 8 0 ∧ sT S 11 8 0 ≤ 5000) (ha : hat gh S 11 0 a) (hK : mAdvCode S v = 0 → ∀ k : Nat, k < v.toNat → mTickOk (mTicks (mt S 0) k).1) :
    zM g 20 242 [.ref a, iv v] σ (fun r σ' => (mAdvCode S v ≠ 0 ∧ r = .inl (some (iv 0)) ∧ hRep g w0 σ' gh (mt S (mAdvCode S v)) J ∧ kc σ σ' 0 0) ∨
      (mAdvCode S v = 0 ∧ r = .inl (some (iv (sT (mTicks (mt S 0) v.toNat).1 11 8 0))) ∧ ∃ ghx, gext S gh ghx ∧ hRep g w0 σ' ghx (mTicks (mt S 0) v.toNat).1 J ∧ (∀ c, sn S c ≤ sn (mTicks (mt S 0) v.toNat).1 c) ∧ kc σ σ' (mTicks (mt S 0) v.toNat).2.1 (mTicks (mt S 0) v.toNat).2.2)) := by
  generalize hQQ : (fun (r : Option Value ⊕ String) (σ' : zS) => (mAdvCode S v ≠ 0 ∧ r = .inl (some (iv 0)) ∧ hRep g w0 σ' gh (mt S (mAdvCode S v)) J ∧ kc σ σ' 0 0) ∨
      (mAdvCode S v = 0 ∧ r = .inl (some (iv (sT (mTicks (mt S 0) v.toNat).1 11 8 0))) ∧ ∃ ghx, gext S gh ghx ∧ hRep g w0 σ' ghx (mTicks (mt S 0) v.toNat).1 J ∧ (∀ c, sn S c ≤ sn (mTicks (mt S 0) v.toNat).1 c) ∧ kc σ σ' (mTicks (mt S 0) v.toNat).2.1 (mTicks (mt S 0) v.toNat).2.2)) = QQ
  have fin : ∀ (n : Int) (lv : zp_L), n = mAdvCode S v → lvok [(0, .ref a), (1, iv v)] lv → zW g 20 242 33 lv [iv n, .ref a] σ QQ := by
    intro n lv hn hlv
    refine zW_ly hlv rfl ?_
    have hr : rg n := by rw [hn]; unfold mAdvCode; repeat' split
                         all_goals exact ⟨by decide, by decide⟩
    have hge : 0 ≤ n := by rw [hn]; unfold mAdvCode; repeat' split
                           all_goals decide
    obtain ⟨σ2, g2, H2, k2⟩ := M_fails (v := n) H ha hr
    refine wV rfl rfl rfl rfl rfl rfl rfl (H.rc ha rfl rfl) g2 (by omega) ?_
    by_cases h0 : n = 0
    · have hc0 : mAdvCode S v = 0 := by rw [← hn]; exact h0
      rw [h0] at H2 ⊢
      have hK' := hK hc0
      have hv1 : 1 ≤ v := by
        unfold mAdvCode at hc0
        split at hc0
        · omega
        · rename_i h; omega
      obtain ⟨N, hN⟩ : ∃ N : Nat, v = N := ⟨v.toNat, (Int.toNat_of_nonneg (by omega)).symm⟩
      have loop : ∀ (q k : Nat) (σ1 : zS) (gh1 : Nat → Nat → Nat), k + q = N → gext S gh gh1 → hRep g w0 σ1 gh1 (mTicks (mt S 0) k).1 J → (∀ c, sn S c ≤ sn (mTicks (mt S 0) k).1 c) → kc σ σ1 (mTicks (mt S 0) k).2.1 (mTicks (mt S 0) k).2.2 →
          zW g 20 242 43 [(0, .ref a), (1, iv v), (2, iv k)] [] σ1 QQ := by
        intro q
        induction q with
        | zero =>
          intro k σ1 gh1 hk hx H1 hl kk
          have hkn : v.toNat = k := by omega
          have hax : hat gh1 (mTicks (mt S 0) k).1 11 0 a := hx.hat hl ha
          refine zW_p 2 rfl ?_
          refine zW_t rfl rfl ((I_le hv ⟨by omega, by omega⟩).mpr (by omega)) ?_
          refine zW_p 1 rfl ?_
          refine hW_get H1 rfl hax rfl rfl rfl ?_
          refine zW_reti rfl rfl rfl ?_
          rw [← hQQ, hkn]
          exact Or.inr ⟨hc0, rfl, gh1, hx, H1, hl, kk⟩
        | succ q ih =>
          intro k σ1 gh1 hk hx H1 hl kk
          have hax : hat gh1 (mTicks (mt S 0) k).1 11 0 a := hx.hat hl ha
          refine zW_p 2 rfl ?_
          refine zW_f rfl rfl (fun e => by have := (I_le hv ⟨by omega, by omega⟩).mp e; omega) ?_
          have eK : mTicks (mt S 0) (k + 1) = ((mTick ((mTicks (mt S 0) k).1, 0, 0)).1, (mTicks (mt S 0) k).2.1 + (mTick ((mTicks (mt S 0) k).1, 0, 0)).2.1, (mTicks (mt S 0) k).2.2 + (mTick ((mTicks (mt S 0) k).1, 0, 0)).2.2) := mTick_add (S := (mTicks (mt S 0) k).1) (c := (mTicks (mt S 0) k).2.1) (s := (mTicks (mt S 0) k).2.2)
          refine M_tick H1 (hK' k (by omega)) hax (fun σ2 gh2 x2 H2 l2 k2 => ?_)
          refine zW_p 1 rfl ?_
          rw [I_add]
          refine zW_p 1 rfl ?_
          refine zW_lv [(0, .ref a), (1, iv v), (2, iv ((k + 1 : Nat) : Int))] rfl ⟨rfl, rfl, rfl, trivial⟩ ?_
          refine ih (k + 1) σ2 gh2 (by omega) (gext.trans hx x2 hl) (by rw [eK]; exact H2) (fun c => by rw [eK]; exact Nat.le_trans (hl c) (l2 c)) ?_
          rw [eK]
          exact kk.trans k2
      refine zW_p 3 rfl ?_
      refine zW_lv [(0, .ref a), (1, iv v), (2, iv (0 : Nat))] rfl ⟨rfl, rfl, rfl, trivial⟩ ?_
      exact loop N 0 σ2 gh (by omega) gext_rfl H2 (fun c => Nat.le_refl _) (kc.of k2)
    · have hcn : mAdvCode S v ≠ 0 := by rw [← hn]; exact h0
      rw [decide_eq_true (show 0 < n by omega)]
      refine zW_p 2 rfl ?_
      refine zW_reti rfl rfl rfl ?_
      rw [← hQQ]
      exact Or.inl ⟨hcn, rfl, by rw [← hn]; exact H2, kc.of k2⟩
  refine zW_p 4 rfl ?_
  refine wS rfl rfl rfl rfl rfl rfl rfl rfl rfl (M_in (lo := 1) (hi := 500) hv ⟨by decide, by decide⟩ ⟨by decide, by decide⟩) (by omega) ?_
  by_cases h1 : 1 ≤ v ∧ v ≤ 500
  · rw [decide_eq_true h1]
    have hc1 : mAdvCode S v = if 5000 < sT S 11 8 0 + v then 2 else 0 := by unfold mAdvCode; rw [if_neg (fun q => q h1)]
    refine zW_p 2 rfl ?_
    refine hW_get H rfl ha rfl rfl rfl ?_
    refine zW_p 2 rfl ?_
    rw [I_add]
    refine zW_p 1 rfl ?_
    by_cases h2 : 5000 < sT S 11 8 0 + v
    · rw [if_pos h2] at hc1
      refine zW_f rfl rfl (fun q => by have := (I_le (b := 5000) ⟨by omega, by omega⟩ ⟨by decide, by decide⟩).mp q; omega) ?_
      refine zW_p 2 rfl ?_
      exact fin 2 _ hc1.symm ⟨rfl, rfl, trivial⟩
    · rw [if_neg h2] at hc1
      refine zW_t rfl rfl ((I_le (b := 5000) ⟨by omega, by omega⟩ ⟨by decide, by decide⟩).mpr (by omega)) ?_
      refine zW_p 1 rfl ?_
      exact fin 0 _ hc1.symm ⟨rfl, rfl, trivial⟩
  · rw [decide_eq_false h1]
    have hc1 : mAdvCode S v = 1 := by unfold mAdvCode; rw [if_pos h1]
    refine zW_p 3 rfl ?_
    exact fin 1 _ hc1.symm ⟨rfl, rfl, trivial⟩
end ZMAD
