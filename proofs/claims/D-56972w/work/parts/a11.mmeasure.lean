/-! THE MODEL: hold, setChart, measure -/
set_option maxRecDepth 100000
theorem kc.same {σ σ1 σ2 : zS} {m s : Nat} (e : σ1.2 = σ.2) (h : kc σ1 σ2 m s) : kc σ σ2 m s := by
  unfold kc at h ⊢
  rw [e] at h
  exact h
section ZMM
variable {g : zG} {w0 : hG} {z : Nat → Nat} {σ : zS} {gh : Nat → Nat → Nat} {S : hS} {J : zw_W} {a : Nat}
theorem mW_hold {i : Nat} {on : Bool} (h : mW S) : mW (sset S 14 5 i (bi on)) := by
  intro j hj
  obtain ⟨w1, w2, w3⟩ := h j hj
  refine ⟨?_, by rw [sT_set, if_neg (by omega)]; exact w2, ?_⟩
  · rw [sT_set]
    split
    · cases on
      · exact Or.inl rfl
      · exact Or.inr rfl
    · exact w1
  · intro t ht
    rw [sT_set, if_neg (by omega)] at ht
    exact w3 t ht
theorem mOrd_of {S' : hS} (h : mOrd S) (hn : sn S' 15 = sn S 15) (h5 : ∀ o, sT S' 15 5 o = sT S 15 5 o) (h10 : ∀ o, sT S' 15 10 o = sT S 15 10 o) : mOrd S' := fun o ho => by
  rw [hn] at ho
  rw [h5, h10]
  exact h o ho
theorem mOrd2_of {S' : hS} (h : mOrd2 S) (hn : ∀ c, sn S' c = sn S c) (h6 : ∀ k o, k = 6 ∨ k = 7 ∨ k = 16 → sT S' 15 k o = sT S 15 k o) (hE : ∀ c o, c = 38 ∨ c = 39 → sE S' c o = sE S c o) : mOrd2 S' := fun o ho => by
  rw [hn] at ho
  rw [h6 6 o (by omega), h6 7 o (by omega), h6 16 o (by omega), hE 38 o (by omega), hE 39 o (by omega), hn, hn, hn]
  exact h o ho
def mHoldS (S : hS) (i : Nat) (on : Bool) : hS × Nat × Nat := if on then mLoseN (sset (mt S 0) 14 5 i (bi on)) (sn S 15) else (sset (mt S 0) 14 5 i (bi on), 0, 0)
theorem M_hold {v : Int} {on : Bool} (H : hRep g w0 σ gh S J) (hF : mFix S) (hW : mW S) (hO : mOrd S) (hO2 : mOrd2 S) (ha : hat gh S 11 0 a) (hv : rg v) :
    ∃ σ' : zS, zEnd g 106 211 [.ref a, iv v, iv (bi on)] σ (.inl (some (iv (if 0 ≤ v ∧ v < sn S 14 then (mHoldS S v.toNat on).2.1 else 0)))) σ' ∧ hRep g w0 σ' gh (if 0 ≤ v ∧ v < sn S 14 then (mHoldS S v.toNat on).1 else mt S 1) J ∧ kc σ σ' (if 0 ≤ v ∧ v < sn S 14 then (mHoldS S v.toNat on).2.2 else 0) (4 * (if 0 ≤ v ∧ v < sn S 14 then (mHoldS S v.toNat on).2.2 else 0)) := by
  obtain ⟨σ1, g1, g2, g3⟩ := M_failsLot H hF ha hv
  have main : zW g 106 211 0 (lv_args 0 [.ref a, iv v, iv (bi on)]) [] σ (fun r σ' => r = .inl (some (iv (if 0 ≤ v ∧ v < sn S 14 then (mHoldS S v.toNat on).2.1 else 0))) ∧ hRep g w0 σ' gh (if 0 ≤ v ∧ v < sn S 14 then (mHoldS S v.toNat on).1 else mt S 1) J ∧ kc σ σ' (if 0 ≤ v ∧ v < sn S 14 then (mHoldS S v.toNat on).2.2 else 0) (4 * (if 0 ≤ v ∧ v < sn S 14 then (mHoldS S v.toNat on).2.2 else 0))) := by
    refine zW_p 2 rfl ?_
    refine wV rfl rfl rfl rfl rfl rfl rfl (H.rc ha rfl rfl) g1 (by omega) ?_
    by_cases hc : 0 ≤ v ∧ v < sn S 14
    · rw [decide_eq_true hc] at g2 ⊢
      rw [if_pos hc, if_pos hc, if_pos hc]
      obtain ⟨i, rfl⟩ : ∃ i : Nat, v = i := ⟨v.toNat, (Int.toNat_of_nonneg hc.1).symm⟩
      rw [Int.toNat_natCast]
      have hF2 := hF
      obtain ⟨f0, f1, f2, f3, f4, f5, f6, f7, f8, f9, fa, fb, fc, fd, fe⟩ := hF
      have g2' : hRep g w0 σ1 gh (mt S 0) J := g2
      refine zW_p 2 rfl ?_
      refine hW_getr (j := 0) g2' rfl ha rfl rfl rfl f3 (fun b2 hb2 => ?_)
      refine zW_p 1 rfl ?_
      refine hW_lget (y := i) g2' rfl rfl rfl hb2 rfl rfl rfl (show (sE S 32 0)[i]? = _ by rw [f9]; exact idl_at (by omega)) rfl (by omega) (fun b3 hb3 => ?_)
      refine hW_cast g2' rfl hb3 rfl rfl rfl ?_
      refine zW_p 1 rfl ?_
      refine hW_put (v := bi on) g2' rfl hb3 rfl rfl rfl (Or.inl rfl) (by cases on <;> rfl) (by cases on <;> rfl) rfl alv0 (fun e => absurd e (by decide)) (fun σ4 H4 e4 => ?_)
      refine zW_p 1 rfl ?_
      unfold mHoldS
      cases on with
      | false =>
        refine zW_p 2 rfl ?_
        exact zW_reti rfl rfl rfl ⟨rfl, H4, kc.of (e4.trans g3)⟩
      | true =>
        refine zW_p 2 rfl ?_
        obtain ⟨σ5, g5, H5, k5⟩ := M_lose H4 (show mFix (sset (mt S 0) 14 5 i (bi true)) from hF2) (mW_hold (show mW (mt S 0) from hW)) (mOrd_of hO rfl (fun _ => rfl) (fun _ => rfl)) (mOrd2_of hO2 (fun _ => rfl) (fun k o hk => by rw [sT_set, if_neg (by omega)]; rfl) (fun _ _ _ => rfl)) (show hat gh _ 11 0 a from ha)
        refine wV rfl rfl rfl rfl rfl rfl rfl (H4.rc (show hat gh _ 11 0 a from ha) rfl rfl) g5 (by omega) ?_
        refine zW_p 1 rfl ?_
        exact zW_reti rfl rfl rfl ⟨rfl, H5, kc.same (e4.trans g3) k5⟩
    · rw [decide_eq_false hc] at g2 ⊢
      rw [if_neg hc, if_neg hc, if_neg hc]
      refine zW_p 2 rfl ?_
      exact zW_reti rfl rfl rfl ⟨rfl, g2, kc.of g3⟩
  obtain ⟨r, σ', h1, rfl, h2, h3⟩ := main
  exact ⟨σ', h1, h2, h3⟩
def mChartS (S : hS) (i : Nat) (x w : Int) : hS := sset (sset (sset (sset (mt S 0) 13 4 i x) 13 5 i w) 13 6 i 0) 13 7 i 0
def mChartCode (S : hS) (p x w : Int) : Int := if ¬ (0 ≤ p ∧ p < sn S 13) then 1 else if ¬ ((0 ≤ x ∧ x ≤ 1000) ∧ (0 ≤ w ∧ w ≤ 500)) then 2 else 0
theorem M_setChart {p x w : Int} (H : hRep g w0 σ gh S J) (hF : mFix S) (ha : hat gh S 11 0 a) (hp : rg p) (hx : rg x) (hw : rg w) :
    zM g 6 218 [.ref a, iv p, iv x, iv w] σ (fun r σ' => r = .inl (some (iv (if mChartCode S p x w = 0 then sT S 13 8 p.toNat else 0))) ∧ hRep g w0 σ' gh (if mChartCode S p x w = 0 then mChartS S p.toNat x w else mt S (mChartCode S p x w)) J ∧ kc σ σ' 0 0) := by
  have key : ∀ (n : Int) (lv : zp_L), n = mChartCode S p x w → lvok [(0, .ref a), (1, iv p), (2, iv x), (3, iv w)] lv → zW g 6 218 40 lv [iv n, .ref a] σ (fun r σ' => r = .inl (some (iv (if mChartCode S p x w = 0 then sT S 13 8 p.toNat else 0))) ∧ hRep g w0 σ' gh (if mChartCode S p x w = 0 then mChartS S p.toNat x w else mt S (mChartCode S p x w)) J ∧ kc σ σ' 0 0) := by
    intro n lv hn hlv
    refine zW_ly hlv rfl ?_
    rw [← hn]
    have hn3 : n = 0 ∨ n = 1 ∨ n = 2 := by
      rw [hn]; unfold mChartCode
      repeat' split
      all_goals simp
    obtain ⟨σ1, g1, g2, g3⟩ := M_fails (v := n) H ha (by rcases hn3 with h | h | h <;> rw [h] <;> exact ⟨by decide, by decide⟩)
    refine wV rfl rfl rfl rfl rfl rfl rfl (H.rc ha rfl rfl) g1 (by omega) ?_
    by_cases h0 : n = 0
    · rw [if_pos h0, if_pos h0]
      subst h0
      have hc : 0 ≤ p ∧ p < sn S 13 := by
        by_cases h : 0 ≤ p ∧ p < sn S 13
        · exact h
        · unfold mChartCode at hn; rw [if_pos h] at hn; cases hn
      obtain ⟨i, rfl⟩ : ∃ i : Nat, p = i := ⟨p.toNat, (Int.toNat_of_nonneg hc.1).symm⟩
      rw [Int.toNat_natCast]
      obtain ⟨f0, f1, f2, f3, f4, f5, f6, f7, f8, f9, fa, fb, fc, fd, fe⟩ := hF
      have H1 : hRep g w0 σ1 gh (mt S 0) J := g2
      refine zW_p 2 rfl ?_
      refine hW_getr (j := 0) H1 rfl ha rfl rfl rfl f2 (fun b2 hb2 => ?_)
      refine zW_p 1 rfl ?_
      refine hW_lget (y := i) H1 rfl rfl rfl hb2 rfl rfl rfl (show (sE S 31 0)[i]? = _ by rw [f8]; exact idl_at (by omega)) rfl (by omega) (fun b3 hb3 => ?_)
      refine hW_cast H1 rfl hb3 rfl rfl rfl ?_
      refine zW_p 3 rfl ?_
      refine hW_put (v := x) H1 rfl hb3 rfl rfl rfl (Or.inl rfl) rfl rfl rfl alv0 (fun e => absurd e (by decide)) (fun σ3 H3 e3 => ?_)
      refine zW_p 2 rfl ?_
      refine hW_put (v := w) H3 rfl hb3 rfl rfl rfl (Or.inl rfl) rfl rfl rfl alv0 (fun e => absurd e (by decide)) (fun σ4 H4 e4 => ?_)
      refine zW_p 2 rfl ?_
      refine hW_put (v := 0) H4 rfl hb3 rfl rfl rfl (Or.inl rfl) rfl rfl rfl alv0 (fun e => absurd e (by decide)) (fun σ5 H5 e5 => ?_)
      refine zW_p 2 rfl ?_
      refine hW_put (v := 0) H5 rfl hb3 rfl rfl rfl (Or.inl rfl) rfl rfl rfl alv0 (fun e => absurd e (by decide)) (fun σ6 H6 e6 => ?_)
      refine zW_p 1 rfl ?_
      refine hW_get H6 rfl hb3 rfl rfl rfl ?_
      rw [sT_set, if_neg (by omega), sT_set, if_neg (by omega), sT_set, if_neg (by omega), sT_set, if_neg (by omega)]
      exact zW_reti rfl rfl rfl ⟨rfl, H6, kc.of (e6.trans (e5.trans (e4.trans (e3.trans g3))))⟩
    · rw [if_neg h0, if_neg h0]
      rw [decide_eq_true (by omega)]
      refine zW_p 2 rfl ?_
      exact zW_reti rfl rfl rfl ⟨rfl, g2, kc.of g3⟩
  refine zW_p 3 rfl ?_
  refine wV rfl rfl rfl rfl rfl rfl rfl (H.rc ha rfl rfl) (M_isPart H hF ha hp) (by omega) ?_
  by_cases h1 : 0 ≤ p ∧ p < sn S 13
  · rw [decide_eq_true h1]
    refine zW_p 4 rfl ?_
    refine wS rfl rfl rfl rfl rfl rfl rfl rfl rfl (M_in (lo := 0) (hi := 1000) hx ⟨by decide, by decide⟩ ⟨by decide, by decide⟩) (by omega) ?_
    by_cases c1 : 0 ≤ x ∧ x ≤ 1000
    · rw [decide_eq_true c1]
      refine zW_p 4 rfl ?_
      refine wS rfl rfl rfl rfl rfl rfl rfl rfl rfl (M_in (lo := 0) (hi := 500) hw ⟨by decide, by decide⟩ ⟨by decide, by decide⟩) (by omega) ?_
      by_cases c2 : 0 ≤ w ∧ w ≤ 500
      · rw [decide_eq_true c2]
        refine zW_p 2 rfl ?_
        exact key 0 _ (by unfold mChartCode; rw [if_neg (fun e => e h1), if_neg (fun e => e ⟨c1, c2⟩)]) ⟨rfl, rfl, rfl, rfl, trivial⟩
      · rw [decide_eq_false c2]
        refine zW_p 3 rfl ?_
        exact key 2 _ (by unfold mChartCode; rw [if_neg (fun e => e h1), if_pos (fun e => c2 e.2)]) ⟨rfl, rfl, rfl, rfl, trivial⟩
    · rw [decide_eq_false c1]
      refine zW_p 3 rfl ?_
      exact key 2 _ (by unfold mChartCode; rw [if_neg (fun e => e h1), if_pos (fun e => c1 e.1)]) ⟨rfl, rfl, rfl, rfl, trivial⟩
  · rw [decide_eq_false h1]
    refine zW_p 3 rfl ?_
    exact key 1 _ (by unfold mChartCode; rw [if_pos h1]) ⟨rfl, rfl, rfl, rfl, trivial⟩
end ZMM
