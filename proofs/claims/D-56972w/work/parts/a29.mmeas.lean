/-! THE MODEL: measure -/
set_option maxRecDepth 100000
def mAbove (S : hS) (i : Nat) (v : Int) : Int := if sT S 13 4 i < v then sT S 13 6 i + 1 else 0
def mBelow (S : hS) (i : Nat) (v : Int) : Int := if v < sT S 13 4 i then sT S 13 7 i + 1 else 0
def mOut (S : hS) (i : Nat) (v : Int) : Bool := decide (sT S 13 5 i < iabs (v - sT S 13 4 i)) || (decide (4 ≤ mAbove S i v) || decide (4 ≤ mBelow S i v))
def mOutS (S : hS) (i : Nat) (v : Int) : hS := sset (sset (sset S 13 8 i (sT S 13 8 i + 1)) 13 6 i (mAbove S i v)) 13 7 i (mBelow S i v)
def mMeasB (S : hS) (x p : Nat) (v : Int) : Bool := mOut S p v && decide (sT S 14 5 x = 0)
def mMeasS (S : hS) (x p : Nat) (v : Int) : hS × Nat × Nat := if mMeasB S x p v = true then mLoseN (sset (mOutS S p v) 14 5 x (bi true)) (sn S 15) else (mOutS S p v, 0, 0)
def mMeasC (S : hS) (v w : Int) : Int := if ¬ (0 ≤ v ∧ v < sn S 14) then 1 else if ¬ (0 ≤ w ∧ w ≤ 2000) then 2 else 0
section ZMME
variable {g : zG} {w0 : hG} {z : Nat → Nat} {σ : zS} {gh : Nat → Nat → Nat} {S T : hS} {J : zw_W} {a x p xb pb : Nat} {v w : Int} {Q : Option Value ⊕ String → zS → Prop}
theorem M_measX (H : hRep g w0 σ gh T J) (hF : mFix T) (hW : mW T) (hO : mOrd T) (hO2 : mOrd2 T) (q4 : 0 ≤ sT T 13 4 p ∧ sT T 13 4 p ≤ 1000) (q5 : 0 ≤ sT T 13 5 p ∧ sT T 13 5 p ≤ 500) (q6 : 0 ≤ sT T 13 6 p ∧ sT T 13 6 p ≤ 1000) (q7 : 0 ≤ sT T 13 7 p ∧ sT T 13 7 p ≤ 1000) (ha : hat gh T 11 0 a) (hx : hat gh T 14 x xb) (hp : hat gh T 13 p pb) (hw : 0 ≤ w ∧ w ≤ 2000)
    (hQ : ∀ σ' : zS, hRep g w0 σ' gh (mMeasS T x p w).1 J → kc σ σ' (mMeasS T x p w).2.2 (4 * (mMeasS T x p w).2.2) → Q (.inl (some (iv (bi (mMeasB T x p w))))) σ') :
    zW g 106 219 61 [(0, .ref a), (2, iv w), (3, .ref xb), (4, .ref pb)] [] σ Q := by
  obtain ⟨x5, -, -⟩ := hW x hx.1
  refine zW_p 2 rfl ?_
  refine hW_get H rfl hp rfl rfl rfl ?_
  refine zW_p 2 rfl ?_
  rw [I_add]
  refine hW_put (v := sT T 13 8 p + 1) H rfl hp rfl rfl rfl (Or.inl rfl) rfl rfl rfl alv0 (fun e => absurd e (by decide)) (fun σ1 H1 e1 => ?_)
  have c1 : sT (sset T 13 8 p (sT T 13 8 p + 1)) 13 4 p = sT T 13 4 p := by rw [sT_set, if_neg (by omega)]
  have J1 : ∀ r : Int, r = mAbove T p w → zW g 106 219 94 [(0, .ref a), (2, iv w), (3, .ref xb), (4, .ref pb)] [iv r, .ref pb] σ1 Q := by
    intro r hr
    have hr1 : 0 ≤ r ∧ r ≤ 1001 := by rw [hr]; unfold mAbove; split <;> omega
    refine hW_put (v := r) H1 rfl hp rfl rfl rfl (Or.inl rfl) rfl rfl rfl alv0 (fun e => absurd e (by decide)) (fun σ2 H2 e2 => ?_)
    have c2 : sT (sset (sset T 13 8 p (sT T 13 8 p + 1)) 13 6 p r) 13 4 p = sT T 13 4 p := by rw [sT_set, if_neg (by omega), c1]
    have J2 : ∀ u : Int, u = mBelow T p w → zW g 106 219 119 [(0, .ref a), (2, iv w), (3, .ref xb), (4, .ref pb)] [iv u, .ref pb] σ2 Q := by
      intro u hu
      have hu1 : 0 ≤ u ∧ u ≤ 1001 := by rw [hu]; unfold mBelow; split <;> omega
      refine hW_put (v := u) H2 rfl hp rfl rfl rfl (Or.inl rfl) rfl rfl rfl alv0 (fun e => absurd e (by decide)) (fun σ3 H3 e3 => ?_)
      have eS : mOutS T p w = sset (sset (sset T 13 8 p (sT T 13 8 p + 1)) 13 6 p r) 13 7 p u := by unfold mOutS; rw [hr, hu]
      have k3 : kc σ σ3 0 0 := kc.of (e3.trans (e2.trans e1))
      rw [← eS] at H3
      have tM : ∀ c k i : Nat, c ≠ 13 → sT (mOutS T p w) c k i = sT T c k i := fun c k i hc => by unfold mOutS; rw [sT_set, if_neg (by omega), sT_set, if_neg (by omega), sT_set, if_neg (by omega)]
      have hx3 : hat gh (mOutS T p w) 14 x xb := hx
      have ha3 : hat gh (mOutS T p w) 11 0 a := ha
      have J4 : ∀ s : Bool, s = mMeasB T x p w → zW g 106 219 182 [(0, .ref a), (3, .ref xb)] [iv (bi s)] σ3 Q := by
        intro s hs
        cases s with
        | false =>
          have eR : mMeasS T x p w = (mOutS T p w, 0, 0) := by unfold mMeasS; rw [← hs, if_neg (by decide)]
          rw [← hs, eR] at hQ
          refine zW_p 4 rfl ?_
          exact zW_reti rfl rfl rfl (hQ σ3 H3 k3)
        | true =>
          have eR : mMeasS T x p w = mLoseN (sset (mOutS T p w) 14 5 x (bi true)) (sn T 15) := by unfold mMeasS; rw [← hs, if_pos rfl]
          rw [← hs, eR] at hQ
          refine zW_p 5 rfl ?_
          refine hW_put (v := bi true) H3 rfl hx3 rfl rfl rfl (Or.inl rfl) rfl rfl rfl alv0 (fun e => absurd e (by decide)) (fun σ4 H4 e4 => ?_)
          have hF4 : mFix (sset (mOutS T p w) 14 5 x (bi true)) := hF
          have hW4 : mW (sset (mOutS T p w) 14 5 x (bi true)) := mW_hold (show mW (mOutS T p w) from fun i hi => by
            rw [tM _ _ _ (by decide), tM _ _ _ (by decide)]
            exact hW i hi)
          refine zW_p 1 rfl ?_
          obtain ⟨σ5, g5, H5, k5⟩ := M_lose H4 hF4 hW4 (mOrd_of hO rfl (fun _ => rfl) (fun _ => rfl)) (mOrd2_of hO2 (fun _ => rfl) (fun k o hk => by rw [sT_set, if_neg (by omega), tM _ _ _ (by decide)]) (fun _ _ _ => rfl)) (show hat gh _ 11 0 a from ha)
          refine wV rfl rfl rfl rfl rfl rfl rfl (H4.rc (show hat gh _ 11 0 a from ha) rfl rfl) g5 (by omega) ?_
          refine zW_p 2 rfl ?_
          exact zW_reti rfl rfl rfl (hQ σ5 H5 (kc.same (e4.trans (e3.trans (e2.trans e1))) k5))
      have J3 : ∀ r : Bool, r = mOut T p w → zW g 106 219 163 [(0, .ref a), (2, iv w), (3, .ref xb), (4, .ref pb)] [iv (bi r)] σ3 Q := by
        intro r hr
        have x5' : sT (mOutS T p w) 14 5 x = sT T 14 5 x := tM _ _ _ (by decide)
        cases r with
        | false =>
          refine zW_p 4 rfl ?_
          exact zW_lx (J4 false (by unfold mMeasB; rw [← hr]; rfl)) rfl ⟨rfl, rfl, trivial⟩
        | true =>
          refine zW_p 4 rfl ?_
          refine hW_get H3 rfl hx3 rfl rfl rfl ?_
          rw [x5']
          rcases x5 with x5 | x5
          · rw [x5]
            refine zW_p 3 rfl ?_
            exact zW_lx (J4 true (by unfold mMeasB; rw [← hr, x5]; rfl)) rfl ⟨rfl, rfl, trivial⟩
          · rw [x5]
            refine zW_p 2 rfl ?_
            exact zW_lx (J4 false (by unfold mMeasB; rw [← hr, x5]; rfl)) rfl ⟨rfl, rfl, trivial⟩
      have c3 : sT (mOutS T p w) 13 4 p = sT T 13 4 p := by rw [eS, sT_set, if_neg (by omega), c2]
      have c5 : sT (mOutS T p w) 13 5 p = sT T 13 5 p := by rw [eS, sT_set, if_neg (by omega), sT_set, if_neg (by omega), sT_set, if_neg (by omega)]
      have c6 : sT (mOutS T p w) 13 6 p = r := by rw [eS, sT_set, if_neg (by omega), sT_set, if_pos ⟨rfl, rfl, rfl⟩]
      have c7 : sT (mOutS T p w) 13 7 p = u := by rw [eS, sT_set, if_pos ⟨rfl, rfl, rfl⟩]
      have hp3 : hat gh (mOutS T p w) 13 p pb := hp
      refine zW_p 2 rfl ?_
      refine hW_get H3 rfl hp3 rfl rfl rfl ?_
      rw [c3]
      refine zW_p 1 rfl ?_
      rw [I_sub]
      refine aW_absI rfl rfl (Nat.le_of_ble_eq_true rfl) ⟨by omega, by omega⟩ ?_
      refine zW_p 1 rfl ?_
      refine hW_get H3 rfl hp3 rfl rfl rfl ?_
      rw [c5]
      unfold mOut at J3
      rw [← hr, ← hu] at J3
      have rab : rg (iabs (w - sT T 13 4 p)) := by unfold iabs; split <;> exact ⟨by omega, by omega⟩
      by_cases q1 : sT T 13 5 p < iabs (w - sT T 13 4 p)
      · refine zW_t rfl rfl ((I_lt ⟨by omega, by omega⟩ rab).mpr q1) ?_
        refine zW_p 2 rfl ?_
        exact zW_lx (J3 true (by rw [decide_eq_true q1]; rfl)) rfl ⟨rfl, rfl, rfl, rfl, trivial⟩
      · refine zW_f rfl rfl (fun e => q1 ((I_lt ⟨by omega, by omega⟩ rab).mp e)) ?_
        refine zW_p 1 rfl ?_
        refine hW_get H3 rfl hp3 rfl rfl rfl ?_
        rw [c6]
        refine zW_p 1 rfl ?_
        by_cases q2 : 4 ≤ r
        · refine zW_t rfl rfl ((I_le ⟨by decide, by decide⟩ ⟨by omega, by omega⟩).mpr q2) ?_
          refine zW_p 2 rfl ?_
          exact zW_lx (J3 true (by rw [decide_eq_false q1, decide_eq_true q2]; rfl)) rfl ⟨rfl, rfl, rfl, rfl, trivial⟩
        · refine zW_f rfl rfl (fun e => q2 ((I_le ⟨by decide, by decide⟩ ⟨by omega, by omega⟩).mp e)) ?_
          refine zW_p 1 rfl ?_
          refine hW_get H3 rfl hp3 rfl rfl rfl ?_
          rw [c7]
          refine zW_p 1 rfl ?_
          by_cases q3 : 4 ≤ u
          · refine zW_f rfl rfl (fun e => by have := (I_lt ⟨by omega, by omega⟩ ⟨by decide, by decide⟩).mp e; omega) ?_
            refine zW_p 2 rfl ?_
            exact zW_lx (J3 true (by rw [decide_eq_false q1, decide_eq_false q2, decide_eq_true q3]; rfl)) rfl ⟨rfl, rfl, rfl, rfl, trivial⟩
          · refine zW_t rfl rfl ((I_lt ⟨by omega, by omega⟩ ⟨by decide, by decide⟩).mpr (by omega)) ?_
            refine zW_p 1 rfl ?_
            exact zW_lx (J3 false (by rw [decide_eq_false q1, decide_eq_false q2, decide_eq_false q3]; rfl)) rfl ⟨rfl, rfl, rfl, rfl, trivial⟩
    refine zW_p 3 rfl ?_
    refine hW_get H2 rfl hp rfl rfl rfl ?_
    rw [c2]
    by_cases d1 : w < sT T 13 4 p
    · refine zW_f rfl rfl (fun e => by have := (I_le ⟨by omega, by omega⟩ ⟨by omega, by omega⟩).mp e; omega) ?_
      refine zW_p 1 rfl ?_
      refine hW_get H2 rfl hp rfl rfl rfl ?_
      rw [sT_set, if_neg (by omega), sT_set, if_neg (by omega)]
      refine zW_p 2 rfl ?_
      rw [I_add]
      refine zW_p 1 rfl ?_
      exact zW_lx (J2 _ (by unfold mBelow; rw [if_pos d1])) rfl ⟨rfl, rfl, rfl, rfl, trivial⟩
    · refine zW_t rfl rfl ((I_le ⟨by omega, by omega⟩ ⟨by omega, by omega⟩).mpr (by omega)) ?_
      refine zW_p 1 rfl ?_
      exact zW_lx (J2 0 (by unfold mBelow; rw [if_neg d1])) rfl ⟨rfl, rfl, rfl, rfl, trivial⟩
  refine zW_p 3 rfl ?_
  refine hW_get H1 rfl hp rfl rfl rfl ?_
  rw [c1]
  by_cases d1 : sT T 13 4 p < w
  · refine zW_f rfl rfl (fun e => by have := (I_le ⟨by omega, by omega⟩ ⟨by omega, by omega⟩).mp e; omega) ?_
    refine zW_p 1 rfl ?_
    refine hW_get H1 rfl hp rfl rfl rfl ?_
    rw [sT_set, if_neg (by omega)]
    refine zW_p 2 rfl ?_
    rw [I_add]
    refine zW_p 1 rfl ?_
    exact zW_lx (J1 _ (by unfold mAbove; rw [if_pos d1])) rfl ⟨rfl, rfl, rfl, rfl, trivial⟩
  · refine zW_t rfl rfl ((I_le ⟨by omega, by omega⟩ ⟨by omega, by omega⟩).mpr (by omega)) ?_
    refine zW_p 1 rfl ?_
    exact zW_lx (J1 0 (by unfold mAbove; rw [if_neg d1])) rfl ⟨rfl, rfl, rfl, rfl, trivial⟩
theorem M_measure (H : hRep g w0 σ gh S J) (hF : mFix S) (hW : mW S) (hO : mOrd S) (hO2 : mOrd2 S) (hL : ∀ x : Nat, x < sn S 14 → 0 ≤ sT S 14 1 x ∧ sT S 14 1 x < sn S 13) (hCh : ∀ p : Nat, p < sn S 13 → (0 ≤ sT S 13 4 p ∧ sT S 13 4 p ≤ 1000) ∧ (0 ≤ sT S 13 5 p ∧ sT S 13 5 p ≤ 500) ∧ (0 ≤ sT S 13 6 p ∧ sT S 13 6 p ≤ 1000) ∧ (0 ≤ sT S 13 7 p ∧ sT S 13 7 p ≤ 1000)) (ha : hat gh S 11 0 a) (hv : rg v) (hw : rg w) :
    zM g 106 219 [.ref a, iv v, iv w] σ (fun r σ' => (mMeasC S v w ≠ 0 ∧ r = .inl (some (iv 0)) ∧ hRep g w0 σ' gh (mt S (mMeasC S v w)) J ∧ kc σ σ' 0 0) ∨ (mMeasC S v w = 0 ∧ r = .inl (some (iv (bi (mMeasB (mt S 0) v.toNat (sT S 14 1 v.toNat).toNat w)))) ∧ hRep g w0 σ' gh (mMeasS (mt S 0) v.toNat (sT S 14 1 v.toNat).toNat w).1 J ∧ kc σ σ' (mMeasS (mt S 0) v.toNat (sT S 14 1 v.toNat).toNat w).2.2 (4 * (mMeasS (mt S 0) v.toNat (sT S 14 1 v.toNat).toNat w).2.2))) := by
  obtain ⟨σ1, g1, H1, k1⟩ := M_failsLot H hF ha hv
  have hFx := hF
  obtain ⟨f0, f1, f2, f3, f4, f5, f6, f7, f8, f9, fa, fb, fc, fd, fe⟩ := hF
  refine zW_p 2 rfl ?_
  refine wV rfl rfl rfl rfl rfl rfl rfl (H.rc ha rfl rfl) g1 (by omega) ?_
  unfold mMeasC
  by_cases hc : 0 ≤ v ∧ v < sn S 14
  · rw [decide_eq_true hc] at H1 ⊢
    have hqq : ¬ ¬ (0 ≤ v ∧ v < sn S 14) := fun q => q hc
    rw [if_neg hqq]
    obtain ⟨i, rfl⟩ : ∃ i : Nat, v = i := ⟨v.toNat, (Int.toNat_of_nonneg hc.1).symm⟩
    rw [Int.toNat_natCast]
    have hi : i < sn S 14 := by omega
    have H1' : hRep g w0 σ1 gh (mt S 0) J := H1
    obtain ⟨l1, l2⟩ := hL i hi
    obtain ⟨pi, hpi⟩ : ∃ p : Nat, sT S 14 1 i = p := ⟨(sT S 14 1 i).toNat, (Int.toNat_of_nonneg l1).symm⟩
    have hpl : pi < sn S 13 := by omega
    obtain ⟨q4, q5, q6, q7⟩ := hCh pi hpl
    rw [hpi, Int.toNat_natCast]
    have ha1 : hat gh (mt S 0) 11 0 a := ha
    refine zW_p 5 rfl ?_
    refine wS rfl rfl rfl rfl rfl rfl rfl rfl rfl (M_in (lo := 0) (hi := 2000) hw ⟨by decide, by decide⟩ ⟨by decide, by decide⟩) (by omega) ?_
    by_cases hcw : 0 ≤ w ∧ w ≤ 2000
    · have hqw : ¬ ¬ (0 ≤ w ∧ w ≤ 2000) := fun q => q hcw
      rw [decide_eq_true hcw, if_neg hqw]
      refine zW_p 3 rfl ?_
      obtain ⟨σ2, g2, H2, k2⟩ := M_fails (v := 0) H1' ha1 ⟨by decide, by decide⟩
      refine wV rfl rfl rfl rfl rfl rfl rfl (H1'.rc ha1 rfl rfl) g2 (by omega) ?_
      have em : sset (mt S 0) 11 0 0 0 = mt S 0 := mt_mt
      rw [em] at H2
      refine zW_p 2 rfl ?_
      refine hW_getr (j := 0) H2 rfl ha1 rfl rfl rfl f3 (fun b2 hb2 => ?_)
      refine zW_p 1 rfl ?_
      refine hW_lget (y := i) H2 rfl rfl rfl hb2 rfl rfl rfl (show (sE S 32 0)[i]? = _ by rw [f9]; exact idl_at hi) rfl (by omega) (fun xb hxb => ?_)
      refine hW_cast H2 rfl hxb rfl rfl rfl ?_
      refine zW_p 2 rfl ?_
      refine hW_getr (j := 0) H2 rfl ha1 rfl rfl rfl f2 (fun b4 hb4 => ?_)
      refine zW_p 1 rfl ?_
      refine hW_get H2 rfl hxb rfl rfl rfl ?_
      rw [show sT (mt S 0) 14 1 i = pi from hpi]
      refine hW_lget (y := pi) H2 rfl rfl rfl hb4 rfl rfl rfl (show (sE S 31 0)[pi]? = _ by rw [f8]; exact idl_at hpl) rfl (by omega) (fun pb hpb => ?_)
      refine hW_cast H2 rfl hpb rfl rfl rfl ?_
      refine zW_p 1 rfl ?_
      refine zW_lv [(0, .ref a), (2, iv w), (3, .ref xb), (4, .ref pb)] rfl ⟨rfl, rfl, rfl, rfl, trivial⟩ ?_
      exact M_measX H2 (show mFix (mt S 0) from hFx) (show mW (mt S 0) from hW) (show mOrd (mt S 0) from hO) (show mOrd2 (mt S 0) from hO2) q4 q5 q6 q7 ha1 hxb hpb hcw (fun σ' h1 h2 => Or.inr ⟨rfl, rfl, h1, kc.same (k2.trans k1) h2⟩)
    · rw [decide_eq_false hcw, if_pos hcw]
      refine zW_p 2 rfl ?_
      obtain ⟨σ2, g2, H2, k2⟩ := M_fails (v := 2) H1' ha1 ⟨by decide, by decide⟩
      refine wV rfl rfl rfl rfl rfl rfl rfl (H1'.rc ha1 rfl rfl) g2 (by omega) ?_
      have em : sset (mt S 0) 11 0 0 2 = mt S 2 := mt_mt
      rw [em] at H2
      refine zW_p 2 rfl ?_
      exact zW_reti rfl rfl rfl (Or.inl ⟨by decide, rfl, H2, kc.of (k2.trans k1)⟩)
  · rw [decide_eq_false hc] at H1 ⊢
    rw [if_pos hc]
    refine zW_p 2 rfl ?_
    exact zW_reti rfl rfl rfl (Or.inl ⟨by decide, rfl, H1, kc.of k1⟩)
end ZMME
