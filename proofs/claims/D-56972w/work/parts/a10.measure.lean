/-! Foundrymark$Part.isOut; Foundrymark: setChart, measure -/
set_option maxRecDepth 100000
def iabs (x : Int) : Int := if 0 ≤ x then x else -x
def fAbove (S : hS) (c i : Nat) (v : Int) : Int := if sT S c 2 i < v then sT S c 5 i + 1 else 0
def fBelow (S : hS) (c i : Nat) (v : Int) : Int := if v < sT S c 2 i then sT S c 6 i + 1 else 0
def fOut (S : hS) (c i : Nat) (v : Int) : Bool := decide (sT S c 3 i < iabs (v - sT S c 2 i)) || (decide (4 ≤ fAbove S c i v) || decide (4 ≤ fBelow S c i v))
def fOutS (S : hS) (c i : Nat) (v : Int) : hS := sset (sset (sset S c 4 i (sT S c 4 i + 1)) c 5 i (fAbove S c i v)) c 6 i (fBelow S c i v)
section ZOUT
variable {g : zG} {w0 : hG} {z : Nat → Nat} {σ : zS} {gh : Nat → Nat → Nat} {S : hS} {J : zw_W} {a : Nat}
theorem aW_absI {d k pc idx : Nat} {lv : zp_L} {st : List Value} {Q : Option Value ⊕ String → zS → Prop} {x : Int} (hx : r_i k pc = some (.invokestatic idx, 3)) (h0 : zxs_at (r_o k) idx = some 3) (h8 : (st.map fun v => v.category).sum ≤ 8) (rx : rg x) (hr : zW g d k (pc + 3) lv (iv (iabs x) :: st) σ Q) : zW g d k pc lv (iv x :: st) σ Q := by
  refine aW_abs hx h0 h8 ?_
  have e : (if 0 ≤ Int32.ofInt x then Int32.ofInt x else 0 - Int32.ofInt x) = Int32.ofInt (iabs x) := by
    unfold iabs
    by_cases h : 0 ≤ x
    · rw [if_pos h, if_pos ((I_ge0 rx).mpr h)]
    · rw [if_neg h, if_neg (fun q => h ((I_ge0 rx).mp q)), I_0, I_sub, Int.zero_sub]
  rw [e]
  exact hr
theorem F_isOut2 {i b : Nat} {v : Int} (H : hRep g w0 σ gh S J) (hb : hat gh S 2 i b) (hv : 0 ≤ v ∧ v ≤ 2000) (h2 : 0 ≤ sT S 2 2 i ∧ sT S 2 2 i ≤ 1000) (h3 : 0 ≤ sT S 2 3 i ∧ sT S 2 3 i ≤ 500) (h5 : 0 ≤ sT S 2 5 i ∧ sT S 2 5 i ≤ 1000) (h6 : 0 ≤ sT S 2 6 i ∧ sT S 2 6 i ≤ 1000) :
    ∃ σ' : zS, zEnd g 0 97 [.ref b, iv v] σ (.inl (some (iv (bi (fOut S 2 i v))))) σ' ∧ hRep g w0 σ' gh (fOutS S 2 i v) J ∧ kc σ σ' 0 0 := by
  have main : zW g 0 97 0 (lv_args 0 [.ref b, iv v]) [] σ (fun r σ' => r = .inl (some (iv (bi (fOut S 2 i v)))) ∧ hRep g w0 σ' gh (fOutS S 2 i v) J ∧ kc σ σ' 0 0) := by
    refine zW_p 2 rfl ?_
    refine hW_get H rfl hb rfl rfl rfl ?_
    refine zW_p 2 rfl ?_
    rw [I_add]
    refine hW_put (v := sT S 2 4 i + 1) H rfl hb rfl rfl rfl (Or.inl rfl) rfl rfl rfl alv0 (fun e => absurd e (by decide)) (fun σ1 H1 e1 => ?_)
    have c1 : sT (sset S 2 4 i (sT S 2 4 i + 1)) 2 2 i = sT S 2 2 i := by rw [sT_set, if_neg (by omega)]
    have J1 : ∀ w : Int, w = fAbove S 2 i v → zW g 0 97 29 [(0, .ref b), (1, iv v)] [iv w, .ref b] σ1 (fun r σ' => r = .inl (some (iv (bi (fOut S 2 i v)))) ∧ hRep g w0 σ' gh (fOutS S 2 i v) J ∧ kc σ σ' 0 0) := by
      intro w hw
      have hw1 : 0 ≤ w ∧ w ≤ 1001 := by rw [hw]; unfold fAbove; split <;> omega
      refine hW_put (v := w) H1 rfl hb rfl rfl rfl (Or.inl rfl) rfl rfl rfl alv0 (fun e => absurd e (by decide)) (fun σ2 H2 e2 => ?_)
      have c2 : sT (sset (sset S 2 4 i (sT S 2 4 i + 1)) 2 5 i w) 2 2 i = sT S 2 2 i := by rw [sT_set, if_neg (by omega), c1]
      have J2 : ∀ u : Int, u = fBelow S 2 i v → zW g 0 97 51 [(0, .ref b), (1, iv v)] [iv u, .ref b] σ2 (fun r σ' => r = .inl (some (iv (bi (fOut S 2 i v)))) ∧ hRep g w0 σ' gh (fOutS S 2 i v) J ∧ kc σ σ' 0 0) := by
        intro u hu
        have hu1 : 0 ≤ u ∧ u ≤ 1001 := by rw [hu]; unfold fBelow; split <;> omega
        refine hW_put (v := u) H2 rfl hb rfl rfl rfl (Or.inl rfl) rfl rfl rfl alv0 (fun e => absurd e (by decide)) (fun σ3 H3 e3 => ?_)
        have eS : fOutS S 2 i v = sset (sset (sset S 2 4 i (sT S 2 4 i + 1)) 2 5 i w) 2 6 i u := by unfold fOutS; rw [hw, hu]
        rw [eS]
        have k3 : kc σ σ3 0 0 := kc.of (e3.trans (e2.trans e1))
        have J3 : ∀ r : Bool, r = fOut S 2 i v → zW g 0 97 91 [(0, .ref b), (1, iv v)] [iv (bi r)] σ3 (fun r σ' => r = .inl (some (iv (bi (fOut S 2 i v)))) ∧ hRep g w0 σ' gh (sset (sset (sset S 2 4 i (sT S 2 4 i + 1)) 2 5 i w) 2 6 i u) J ∧ kc σ σ' 0 0) := by
          intro r hr
          rw [← hr]
          exact zW_reti rfl rfl (by cases r <;> rfl) ⟨rfl, H3, k3⟩
        refine zW_p 2 rfl ?_
        refine hW_get H3 rfl hb rfl rfl rfl ?_
        rw [sT_set, if_neg (by omega), c2]
        refine zW_p 1 rfl ?_
        rw [I_sub]
        refine aW_absI rfl rfl (Nat.le_of_ble_eq_true rfl) ⟨by omega, by omega⟩ ?_
        refine zW_p 1 rfl ?_
        refine hW_get H3 rfl hb rfl rfl rfl ?_
        rw [sT_set, if_neg (by omega), sT_set, if_neg (by omega), sT_set, if_neg (by omega)]
        unfold fOut at J3 ⊢
        rw [← hw, ← hu] at J3 ⊢
        have rab : rg (iabs (v - sT S 2 2 i)) := by unfold iabs; split <;> exact ⟨by omega, by omega⟩
        by_cases q1 : sT S 2 3 i < iabs (v - sT S 2 2 i)
        · refine zW_t rfl rfl ((I_lt ⟨by omega, by omega⟩ rab).mpr q1) ?_
          refine zW_p 2 rfl ?_
          exact J3 true (by rw [decide_eq_true q1]; rfl)
        · refine zW_f rfl rfl (fun e => q1 ((I_lt ⟨by omega, by omega⟩ rab).mp e)) ?_
          refine zW_p 1 rfl ?_
          refine hW_get H3 rfl hb rfl rfl rfl ?_
          rw [sT_set, if_neg (by omega), sT_set, if_pos ⟨rfl, rfl, rfl⟩]
          refine zW_p 1 rfl ?_
          by_cases q2 : 4 ≤ w
          · refine zW_t rfl rfl ((I_le ⟨by decide, by decide⟩ ⟨by omega, by omega⟩).mpr q2) ?_
            refine zW_p 2 rfl ?_
            exact J3 true (by rw [decide_eq_false q1, decide_eq_true q2]; rfl)
          · refine zW_f rfl rfl (fun e => q2 ((I_le ⟨by decide, by decide⟩ ⟨by omega, by omega⟩).mp e)) ?_
            refine zW_p 1 rfl ?_
            refine hW_get H3 rfl hb rfl rfl rfl ?_
            rw [sT_set, if_pos ⟨rfl, rfl, rfl⟩]
            refine zW_p 1 rfl ?_
            by_cases q3 : 4 ≤ u
            · refine zW_f rfl rfl (fun e => by have := (I_lt ⟨by omega, by omega⟩ ⟨by decide, by decide⟩).mp e; omega) ?_
              refine zW_p 2 rfl ?_
              exact J3 true (by rw [decide_eq_false q1, decide_eq_false q2, decide_eq_true q3]; rfl)
            · refine zW_t rfl rfl ((I_lt ⟨by omega, by omega⟩ ⟨by decide, by decide⟩).mpr (by omega)) ?_
              refine zW_p 1 rfl ?_
              exact J3 false (by rw [decide_eq_false q1, decide_eq_false q2, decide_eq_false q3]; rfl)
      refine zW_p 3 rfl ?_
      refine hW_get H2 rfl hb rfl rfl rfl ?_
      rw [c2]
      by_cases q : v < sT S 2 2 i
      · refine zW_f rfl rfl (fun e => by have := (I_le ⟨by omega, by omega⟩ ⟨by omega, by omega⟩).mp e; omega) ?_
        refine zW_p 1 rfl ?_
        refine hW_get H2 rfl hb rfl rfl rfl ?_
        rw [sT_set, if_neg (by omega), sT_set, if_neg (by omega)]
        refine zW_p 2 rfl ?_
        rw [I_add]
        refine zW_p 1 rfl ?_
        exact J2 _ (by unfold fBelow; rw [if_pos q])
      · refine zW_t rfl rfl ((I_le ⟨by omega, by omega⟩ ⟨by omega, by omega⟩).mpr (by omega)) ?_
        refine zW_p 1 rfl ?_
        exact J2 0 (by unfold fBelow; rw [if_neg q])
    refine zW_p 3 rfl ?_
    refine hW_get H1 rfl hb rfl rfl rfl ?_
    rw [c1]
    by_cases q : sT S 2 2 i < v
    · refine zW_f rfl rfl (fun e => by have := (I_le ⟨by omega, by omega⟩ ⟨by omega, by omega⟩).mp e; omega) ?_
      refine zW_p 1 rfl ?_
      refine hW_get H1 rfl hb rfl rfl rfl ?_
      rw [sT_set, if_neg (by omega)]
      refine zW_p 2 rfl ?_
      rw [I_add]
      refine zW_p 1 rfl ?_
      exact J1 _ (by unfold fAbove; rw [if_pos q])
    · refine zW_t rfl rfl ((I_le ⟨by omega, by omega⟩ ⟨by omega, by omega⟩).mpr (by omega)) ?_
      refine zW_p 1 rfl ?_
      exact J1 0 (by unfold fAbove; rw [if_neg q])
  obtain ⟨r, σ', h1, rfl, h2, h3⟩ := main
  exact ⟨σ', h1, h2, h3⟩
theorem F_isOut3 {i b : Nat} {v : Int} (H : hRep g w0 σ gh S J) (hb : hat gh S 3 i b) (hv : 0 ≤ v ∧ v ≤ 2000) (h2 : 0 ≤ sT S 3 2 i ∧ sT S 3 2 i ≤ 1000) (h3 : 0 ≤ sT S 3 3 i ∧ sT S 3 3 i ≤ 500) (h5 : 0 ≤ sT S 3 5 i ∧ sT S 3 5 i ≤ 1000) (h6 : 0 ≤ sT S 3 6 i ∧ sT S 3 6 i ≤ 1000) :
    ∃ σ' : zS, zEnd g 0 97 [.ref b, iv v] σ (.inl (some (iv (bi (fOut S 3 i v))))) σ' ∧ hRep g w0 σ' gh (fOutS S 3 i v) J ∧ kc σ σ' 0 0 := by
  have main : zW g 0 97 0 (lv_args 0 [.ref b, iv v]) [] σ (fun r σ' => r = .inl (some (iv (bi (fOut S 3 i v)))) ∧ hRep g w0 σ' gh (fOutS S 3 i v) J ∧ kc σ σ' 0 0) := by
    refine zW_p 2 rfl ?_
    refine hW_get H rfl hb rfl rfl rfl ?_
    refine zW_p 2 rfl ?_
    rw [I_add]
    refine hW_put (v := sT S 3 4 i + 1) H rfl hb rfl rfl rfl (Or.inl rfl) rfl rfl rfl alv0 (fun e => absurd e (by decide)) (fun σ1 H1 e1 => ?_)
    have c1 : sT (sset S 3 4 i (sT S 3 4 i + 1)) 3 2 i = sT S 3 2 i := by rw [sT_set, if_neg (by omega)]
    have J1 : ∀ w : Int, w = fAbove S 3 i v → zW g 0 97 29 [(0, .ref b), (1, iv v)] [iv w, .ref b] σ1 (fun r σ' => r = .inl (some (iv (bi (fOut S 3 i v)))) ∧ hRep g w0 σ' gh (fOutS S 3 i v) J ∧ kc σ σ' 0 0) := by
      intro w hw
      have hw1 : 0 ≤ w ∧ w ≤ 1001 := by rw [hw]; unfold fAbove; split <;> omega
      refine hW_put (v := w) H1 rfl hb rfl rfl rfl (Or.inl rfl) rfl rfl rfl alv0 (fun e => absurd e (by decide)) (fun σ2 H2 e2 => ?_)
      have c2 : sT (sset (sset S 3 4 i (sT S 3 4 i + 1)) 3 5 i w) 3 2 i = sT S 3 2 i := by rw [sT_set, if_neg (by omega), c1]
      have J2 : ∀ u : Int, u = fBelow S 3 i v → zW g 0 97 51 [(0, .ref b), (1, iv v)] [iv u, .ref b] σ2 (fun r σ' => r = .inl (some (iv (bi (fOut S 3 i v)))) ∧ hRep g w0 σ' gh (fOutS S 3 i v) J ∧ kc σ σ' 0 0) := by
        intro u hu
        have hu1 : 0 ≤ u ∧ u ≤ 1001 := by rw [hu]; unfold fBelow; split <;> omega
        refine hW_put (v := u) H2 rfl hb rfl rfl rfl (Or.inl rfl) rfl rfl rfl alv0 (fun e => absurd e (by decide)) (fun σ3 H3 e3 => ?_)
        have eS : fOutS S 3 i v = sset (sset (sset S 3 4 i (sT S 3 4 i + 1)) 3 5 i w) 3 6 i u := by unfold fOutS; rw [hw, hu]
        rw [eS]
        have k3 : kc σ σ3 0 0 := kc.of (e3.trans (e2.trans e1))
        have J3 : ∀ r : Bool, r = fOut S 3 i v → zW g 0 97 91 [(0, .ref b), (1, iv v)] [iv (bi r)] σ3 (fun r σ' => r = .inl (some (iv (bi (fOut S 3 i v)))) ∧ hRep g w0 σ' gh (sset (sset (sset S 3 4 i (sT S 3 4 i + 1)) 3 5 i w) 3 6 i u) J ∧ kc σ σ' 0 0) := by
          intro r hr
          rw [← hr]
          exact zW_reti rfl rfl (by cases r <;> rfl) ⟨rfl, H3, k3⟩
        refine zW_p 2 rfl ?_
        refine hW_get H3 rfl hb rfl rfl rfl ?_
        rw [sT_set, if_neg (by omega), c2]
        refine zW_p 1 rfl ?_
        rw [I_sub]
        refine aW_absI rfl rfl (Nat.le_of_ble_eq_true rfl) ⟨by omega, by omega⟩ ?_
        refine zW_p 1 rfl ?_
        refine hW_get H3 rfl hb rfl rfl rfl ?_
        rw [sT_set, if_neg (by omega), sT_set, if_neg (by omega), sT_set, if_neg (by omega)]
        unfold fOut at J3 ⊢
        rw [← hw, ← hu] at J3 ⊢
        have rab : rg (iabs (v - sT S 3 2 i)) := by unfold iabs; split <;> exact ⟨by omega, by omega⟩
        by_cases q1 : sT S 3 3 i < iabs (v - sT S 3 2 i)
        · refine zW_t rfl rfl ((I_lt ⟨by omega, by omega⟩ rab).mpr q1) ?_
          refine zW_p 2 rfl ?_
          exact J3 true (by rw [decide_eq_true q1]; rfl)
        · refine zW_f rfl rfl (fun e => q1 ((I_lt ⟨by omega, by omega⟩ rab).mp e)) ?_
          refine zW_p 1 rfl ?_
          refine hW_get H3 rfl hb rfl rfl rfl ?_
          rw [sT_set, if_neg (by omega), sT_set, if_pos ⟨rfl, rfl, rfl⟩]
          refine zW_p 1 rfl ?_
          by_cases q2 : 4 ≤ w
          · refine zW_t rfl rfl ((I_le ⟨by decide, by decide⟩ ⟨by omega, by omega⟩).mpr q2) ?_
            refine zW_p 2 rfl ?_
            exact J3 true (by rw [decide_eq_false q1, decide_eq_true q2]; rfl)
          · refine zW_f rfl rfl (fun e => q2 ((I_le ⟨by decide, by decide⟩ ⟨by omega, by omega⟩).mp e)) ?_
            refine zW_p 1 rfl ?_
            refine hW_get H3 rfl hb rfl rfl rfl ?_
            rw [sT_set, if_pos ⟨rfl, rfl, rfl⟩]
            refine zW_p 1 rfl ?_
            by_cases q3 : 4 ≤ u
            · refine zW_f rfl rfl (fun e => by have := (I_lt ⟨by omega, by omega⟩ ⟨by decide, by decide⟩).mp e; omega) ?_
              refine zW_p 2 rfl ?_
              exact J3 true (by rw [decide_eq_false q1, decide_eq_false q2, decide_eq_true q3]; rfl)
            · refine zW_t rfl rfl ((I_lt ⟨by omega, by omega⟩ ⟨by decide, by decide⟩).mpr (by omega)) ?_
              refine zW_p 1 rfl ?_
              exact J3 false (by rw [decide_eq_false q1, decide_eq_false q2, decide_eq_false q3]; rfl)
      refine zW_p 3 rfl ?_
      refine hW_get H2 rfl hb rfl rfl rfl ?_
      rw [c2]
      by_cases q : v < sT S 3 2 i
      · refine zW_f rfl rfl (fun e => by have := (I_le ⟨by omega, by omega⟩ ⟨by omega, by omega⟩).mp e; omega) ?_
        refine zW_p 1 rfl ?_
        refine hW_get H2 rfl hb rfl rfl rfl ?_
        rw [sT_set, if_neg (by omega), sT_set, if_neg (by omega)]
        refine zW_p 2 rfl ?_
        rw [I_add]
        refine zW_p 1 rfl ?_
        exact J2 _ (by unfold fBelow; rw [if_pos q])
      · refine zW_t rfl rfl ((I_le ⟨by omega, by omega⟩ ⟨by omega, by omega⟩).mpr (by omega)) ?_
        refine zW_p 1 rfl ?_
        exact J2 0 (by unfold fBelow; rw [if_neg q])
    refine zW_p 3 rfl ?_
    refine hW_get H1 rfl hb rfl rfl rfl ?_
    rw [c1]
    by_cases q : sT S 3 2 i < v
    · refine zW_f rfl rfl (fun e => by have := (I_le ⟨by omega, by omega⟩ ⟨by omega, by omega⟩).mp e; omega) ?_
      refine zW_p 1 rfl ?_
      refine hW_get H1 rfl hb rfl rfl rfl ?_
      rw [sT_set, if_neg (by omega)]
      refine zW_p 2 rfl ?_
      rw [I_add]
      refine zW_p 1 rfl ?_
      exact J1 _ (by unfold fAbove; rw [if_pos q])
    · refine zW_t rfl rfl ((I_le ⟨by omega, by omega⟩ ⟨by omega, by omega⟩).mpr (by omega)) ?_
      refine zW_p 1 rfl ?_
      exact J1 0 (by unfold fAbove; rw [if_neg q])
  obtain ⟨r, σ', h1, rfl, h2, h3⟩ := main
  exact ⟨σ', h1, h2, h3⟩
/-- parts' charts are well -/
def fCh (S : hS) (c i : Nat) : Prop := (0 ≤ sT S c 2 i ∧ sT S c 2 i ≤ 1000) ∧ (0 ≤ sT S c 3 i ∧ sT S c 3 i ≤ 500) ∧ (0 ≤ sT S c 5 i ∧ sT S c 5 i ≤ 1000) ∧ (0 ≤ sT S c 6 i ∧ sT S c 6 i ≤ 1000)
def fChs (S : hS) : Prop := (∀ i : Nat, i < sn S 2 → fCh S 2 i) ∧ ∀ i : Nat, i < sn S 3 → fCh S 3 i
def fChartS (S : hS) (c i : Nat) (x w : Int) : hS := sset (sset (sset (sset S c 2 i x) c 3 i w) c 5 i 0) c 6 i 0
def fChartCode (S : hS) (p x w : Int) : Nat := if ¬ fIsP S p then 1 else if ¬ ((0 ≤ x ∧ x ≤ 1000) ∧ (0 ≤ w ∧ w ≤ 500)) then 3 else 0
theorem F_chart2 {i b1 : Nat} {p x w : Int} (H : hRep g w0 σ gh S J) (hb : hat gh S 2 i b1) :
    zW g 6 94 37 [(0, .ref a), (1, iv p), (2, iv x), (3, iv w), (4, .ref b1)] [] σ (fun r σ' => r = .inl (some (iv (sT S 2 4 i))) ∧ hRep g w0 σ' gh (fChartS S 2 i x w) J ∧ kc σ σ' 0 0) := by
  refine zW_p 2 rfl ?_
  refine hW_put (v := x) H rfl hb rfl rfl rfl (Or.inl rfl) rfl rfl rfl alv0 (fun e => absurd e (by decide)) (fun σ1 H1 e1 => ?_)
  refine zW_p 2 rfl ?_
  refine hW_put (v := w) H1 rfl hb rfl rfl rfl (Or.inl rfl) rfl rfl rfl alv0 (fun e => absurd e (by decide)) (fun σ2 H2 e2 => ?_)
  refine zW_p 2 rfl ?_
  refine hW_put (v := 0) H2 rfl hb rfl rfl rfl (Or.inl rfl) rfl rfl rfl alv0 (fun e => absurd e (by decide)) (fun σ3 H3 e3 => ?_)
  refine zW_p 2 rfl ?_
  refine hW_put (v := 0) H3 rfl hb rfl rfl rfl (Or.inl rfl) rfl rfl rfl alv0 (fun e => absurd e (by decide)) (fun σ4 H4 e4 => ?_)
  refine zW_p 1 rfl ?_
  refine hW_get H4 rfl hb rfl rfl rfl ?_
  rw [sT_set, if_neg (by omega), sT_set, if_neg (by omega), sT_set, if_neg (by omega), sT_set, if_neg (by omega)]
  exact zW_reti rfl rfl rfl ⟨rfl, H4, kc.of (e4.trans (e3.trans (e2.trans e1)))⟩
theorem F_chart3 {i b1 : Nat} {p x w : Int} (H : hRep g w0 σ gh S J) (hb : hat gh S 3 i b1) :
    zW g 6 94 37 [(0, .ref a), (1, iv p), (2, iv x), (3, iv w), (4, .ref b1)] [] σ (fun r σ' => r = .inl (some (iv (sT S 3 4 i))) ∧ hRep g w0 σ' gh (fChartS S 3 i x w) J ∧ kc σ σ' 0 0) := by
  refine zW_p 2 rfl ?_
  refine hW_put (v := x) H rfl hb rfl rfl rfl (Or.inl rfl) rfl rfl rfl alv0 (fun e => absurd e (by decide)) (fun σ1 H1 e1 => ?_)
  refine zW_p 2 rfl ?_
  refine hW_put (v := w) H1 rfl hb rfl rfl rfl (Or.inl rfl) rfl rfl rfl alv0 (fun e => absurd e (by decide)) (fun σ2 H2 e2 => ?_)
  refine zW_p 2 rfl ?_
  refine hW_put (v := 0) H2 rfl hb rfl rfl rfl (Or.inl rfl) rfl rfl rfl alv0 (fun e => absurd e (by decide)) (fun σ3 H3 e3 => ?_)
  refine zW_p 2 rfl ?_
  refine hW_put (v := 0) H3 rfl hb rfl rfl rfl (Or.inl rfl) rfl rfl rfl alv0 (fun e => absurd e (by decide)) (fun σ4 H4 e4 => ?_)
  refine zW_p 1 rfl ?_
  refine hW_get H4 rfl hb rfl rfl rfl ?_
  rw [sT_set, if_neg (by omega), sT_set, if_neg (by omega), sT_set, if_neg (by omega), sT_set, if_neg (by omega)]
  exact zW_reti rfl rfl rfl ⟨rfl, H4, kc.of (e4.trans (e3.trans (e2.trans e1)))⟩
theorem F_setChart {p x w : Int} (H : hRep g w0 σ gh S J) (hF : fFix S) (ha : hat gh S 0 0 a) (hp : rg p) (hx : rg x) (hw : rg w) :
    zM g 6 94 [.ref a, iv p, iv x, iv w] σ (fun r σ' => (fChartCode S p x w ≠ 0 ∧ r = .inr (fEx4 (fChartCode S p x w)) ∧ hRep g w0 σ' gh S J ∧ kc σ σ' 1 6) ∨ (fChartCode S p x w = 0 ∧ r = .inl (some (iv (sT S (2 + fPc S p % 2) 4 (fPc S p / 2)))) ∧ hRep g w0 σ' gh (fChartS S (2 + fPc S p % 2) (fPc S p / 2) x w) J ∧ kc σ σ' 0 0)) := by
  unfold fChartCode
  refine zW_p 2 rfl ?_
  by_cases h1 : fIsP S p
  · obtain ⟨i, rfl⟩ : ∃ i : Nat, p = i := ⟨p.toNat, (Int.toNat_of_nonneg h1.1).symm⟩
    have hi : i < (sE S 21 0).length := by have := h1.2; omega
    obtain ⟨b1, hb1, g1⟩ := F_part H hF ha (fPc_at hF hi)
    refine wV rfl rfl rfl rfl rfl rfl rfl (H.rc ha rfl rfl) g1 (by omega) ?_
    rw [if_neg (fun e => e h1)]
    generalize hk : (if ¬ ((0 ≤ x ∧ x ≤ 1000) ∧ (0 ≤ w ∧ w ≤ 500)) then 3 else 0) = k
    have bad : k = 3 → zW g 6 94 33 [(0, .ref a), (1, iv i), (2, iv x), (3, iv w), (4, .ref b1)] [] σ (fun r σ' => (k ≠ 0 ∧ r = .inr (fEx4 k) ∧ hRep g w0 σ' gh S J ∧ kc σ σ' 1 6) ∨ (k = 0 ∧ r = .inl (some (iv (sT S (2 + fPc S i % 2) 4 (fPc S i / 2)))) ∧ hRep g w0 σ' gh (fChartS S (2 + fPc S i % 2) (fPc S i / 2) x w) J ∧ kc σ σ' 0 0)) := by
      intro hk2
      rw [hk2]
      obtain ⟨σ1, q1, q2, q3⟩ := F_reqF37 H
      refine zW_p 1 rfl ?_
      exact wST rfl rfl rfl rfl rfl rfl rfl rfl rfl q1 (by omega) rfl (Or.inl ⟨by decide, rfl, q2, q3⟩)
    refine zW_p 4 rfl ?_
    refine wS rfl rfl rfl rfl rfl rfl rfl rfl rfl (F_between (lo := 0) (hi := 1000) hx ⟨by decide, by decide⟩ ⟨by decide, by decide⟩) (by omega) ?_
    by_cases c1 : 0 ≤ x ∧ x ≤ 1000
    · rw [decide_eq_true c1]
      refine zW_p 4 rfl ?_
      refine wS rfl rfl rfl rfl rfl rfl rfl rfl rfl (F_between (lo := 0) (hi := 500) hw ⟨by decide, by decide⟩ ⟨by decide, by decide⟩) (by omega) ?_
      by_cases c2 : 0 ≤ w ∧ w ≤ 500
      · rw [decide_eq_true c2]
        rw [if_neg (fun q => q ⟨c1, c2⟩)] at hk
        refine zW_p 3 rfl ?_
        refine wS rfl rfl rfl rfl rfl rfl rfl rfl rfl F_reqT37 (by omega) ?_
        refine zW_lv [(0, .ref a), (1, iv i), (2, iv x), (3, iv w), (4, .ref b1)] rfl ⟨rfl, rfl, rfl, rfl, rfl, trivial⟩ ?_
        rw [← hk]
        rcases (show fPc S i % 2 = 0 ∨ fPc S i % 2 = 1 by omega) with e | e
        · rw [e] at hb1 ⊢
          exact (F_chart2 H hb1).mono (fun o σ' _ hh => Or.inr ⟨rfl, hh⟩)
        · rw [e] at hb1 ⊢
          exact (F_chart3 H hb1).mono (fun o σ' _ hh => Or.inr ⟨rfl, hh⟩)
      · rw [decide_eq_false c2]
        refine zW_p 1 rfl ?_
        exact zW_lx (bad (by rw [← hk, if_pos (fun q => c2 q.2)])) rfl ⟨rfl, rfl, rfl, rfl, rfl, trivial⟩
    · rw [decide_eq_false c1]
      refine zW_p 1 rfl ?_
      exact zW_lx (bad (by rw [← hk, if_pos (fun q => c1 q.1)])) rfl ⟨rfl, rfl, rfl, rfl, rfl, trivial⟩
  · obtain ⟨σ1, q1, q2, q3⟩ := F_partX H hF ha hp h1
    rw [if_pos h1]
    exact wVT rfl rfl rfl rfl rfl rfl rfl (H.rc ha rfl rfl) q1 (by omega) rfl (Or.inl ⟨by decide, rfl, q2, q3⟩)
/-- a lot's part -/
def fLp (S : hS) (i : Nat) : Nat := (sT S 6 1 i).toNat
def fMeasOut (S : hS) (i : Nat) (v : Int) : Bool := fOut S (2 + fLp S i % 2) (fLp S i / 2) v
def fMeasS (S : hS) (i : Nat) (v : Int) : hS := sset (fOutS S (2 + fLp S i % 2) (fLp S i / 2) v) 6 7 i (bi (fMeasOut S i v || fh S i))
theorem fOutS_sT {c i : Nat} {v : Int} {c' k' i' : Nat} (h : c' ≠ c) : sT (fOutS S c i v) c' k' i' = sT S c' k' i' := by
  unfold fOutS
  rw [sT_set, if_neg (fun e => h e.1), sT_set, if_neg (fun e => h e.1), sT_set, if_neg (fun e => h e.1)]
theorem F_measure {i : Nat} {v : Int} (H : hRep g w0 σ gh S J) (C : hCon g w0 z) (hF : fFix S) (hW : fW S) (hT : fTk S) (hO : fOrd z S) (hCh : fChs S) (hp : 0 ≤ sT S 6 1 i) (ha : hat gh S 0 0 a) (hi : i < sn S 6) (hv : rg v) :
    zM g 106 96 [.ref a, iv i, iv v] σ (fun r σ' => (¬ (0 ≤ v ∧ v ≤ 2000) ∧ r = .inr "java/lang/IllegalArgumentException" ∧ hRep g w0 σ' gh S J ∧ kc σ σ' 1 6) ∨ ((0 ≤ v ∧ v ≤ 2000) ∧ r = .inl (some (iv (bi ((fMeasOut S i v || fh S i) && !fh S i)))) ∧ hRep g w0 σ' gh (fLoseN z (fMeasS S i v) (sn S 8)).1 J ∧ kc σ σ' (fLoseN z (fMeasS S i v) (sn S 8)).2.2 (4 * (fLoseN z (fMeasS S i v) (sn S 8)).2.2))) := by
  obtain ⟨b, hb, g1⟩ := F_lot H hF ha hi
  refine zW_p 2 rfl ?_
  refine wV rfl rfl rfl rfl rfl rfl rfl (H.rc ha rfl rfl) g1 (by omega) ?_
  refine zW_p 4 rfl ?_
  refine wS rfl rfl rfl rfl rfl rfl rfl rfl rfl (F_between (lo := 0) (hi := 2000) hv ⟨by decide, by decide⟩ ⟨by decide, by decide⟩) (by omega) ?_
  by_cases c1 : 0 ≤ v ∧ v ≤ 2000
  · rw [decide_eq_true c1]
    refine wS rfl rfl rfl rfl rfl rfl rfl rfl rfl F_reqT37 (by omega) ?_
    refine zW_p 1 rfl ?_
    obtain ⟨w1, w2, w3⟩ := hW i hi
    refine hW_get H rfl hb rfl rfl rfl ?_
    have e7 : sT S 6 7 i = bi (fh S i) := by
      unfold fh
      rcases w1 with e | e <;> rw [e] <;> rfl
    rw [e7]
    refine zW_p 3 rfl ?_
    have hy : sT S 6 1 i = (fLp S i : Nat) := (Int.toNat_of_nonneg hp).symm
    refine hW_getp H rfl hb rfl rfl rfl hy (fun b2 hb2 => ?_)
    refine zW_p 1 rfl ?_
    have gO : ∃ (C : String) (X : Nat) (σ' : zS), zrc g σ b2 = some C ∧ zu_at 0 227 C = some (97, 1) ∧ zEnd g 0 97 [.ref b2, iv v] σ (.inl (some (iv (bi (fMeasOut S i v))))) σ' ∧ hRep g w0 σ' gh (fOutS S (2 + fLp S i % 2) (fLp S i / 2) v) J ∧ kc σ σ' 0 0 := by
      unfold fMeasOut
      rcases (show fLp S i % 2 = 0 ∨ fLp S i % 2 = 1 by omega) with e | e
      · rw [e] at hb2 ⊢
        obtain ⟨q2, q3, q5, q6⟩ := hCh.1 _ hb2.1
        obtain ⟨σ', p1, p2, p3⟩ := F_isOut2 H hb2 c1 q2 q3 q5 q6
        exact ⟨_, 0, σ', H.rc hb2 rfl rfl, rfl, p1, p2, p3⟩
      · rw [e] at hb2 ⊢
        obtain ⟨q2, q3, q5, q6⟩ := hCh.2 _ hb2.1
        obtain ⟨σ', p1, p2, p3⟩ := F_isOut3 H hb2 c1 q2 q3 q5 q6
        exact ⟨_, 0, σ', H.rc hb2 rfl rfl, rfl, p1, p2, p3⟩
    obtain ⟨Cl, _, σ3, r1, r2, r3, H3, k3⟩ := gO
    refine wU rfl rfl rfl rfl rfl r1 r2 rfl rfl rfl r3 (by omega) ?_
    have hb3 : hat gh (fOutS S (2 + fLp S i % 2) (fLp S i / 2) v) 6 i b := hb
    have J1 : ∀ r : Bool, r = (fMeasOut S i v || fh S i) → zW g 106 96 45 [(0, .ref a), (1, iv i), (2, iv v), (3, .ref b), (4, iv (bi (fh S i)))] [iv (bi r), .ref b] σ3 (fun r σ' => (¬ (0 ≤ v ∧ v ≤ 2000) ∧ r = .inr "java/lang/IllegalArgumentException" ∧ hRep g w0 σ' gh S J ∧ kc σ σ' 1 6) ∨ ((0 ≤ v ∧ v ≤ 2000) ∧ r = .inl (some (iv (bi ((fMeasOut S i v || fh S i) && !fh S i)))) ∧ hRep g w0 σ' gh (fLoseN z (fMeasS S i v) (sn S 8)).1 J ∧ kc σ σ' (fLoseN z (fMeasS S i v) (sn S 8)).2.2 (4 * (fLoseN z (fMeasS S i v) (sn S 8)).2.2))) := by
      intro r hr
      refine hW_put (v := bi r) H3 rfl hb3 rfl rfl rfl (Or.inl rfl) (by cases r <;> rfl) (by cases r <;> rfl) rfl alv0 (fun e => absurd e (by decide)) (fun σ4 H4 e4 => ?_)
      have eM : fMeasS S i v = sset (fOutS S (2 + fLp S i % 2) (fLp S i / 2) v) 6 7 i (bi r) := by unfold fMeasS; rw [hr]
      rw [← eM] at H4
      have hc26 : (2 + fLp S i % 2 = 2 ∨ 2 + fLp S i % 2 = 3) := by omega
      have tM : ∀ c' k' i' : Nat, c' ≠ 2 → c' ≠ 3 → ¬ (c' = 6 ∧ k' = 7 ∧ i' = i) → sT (fMeasS S i v) c' k' i' = sT S c' k' i' := by
        intro c' k' i' n2 n3 n6
        rw [eM, sT_set, if_neg n6, fOutS_sT (by omega)]
      have hW4 : fW (fMeasS S i v) := by
        intro j hj
        have hj' : j < sn S 6 := hj
        obtain ⟨v1, v2, v3⟩ := hW j hj'
        refine ⟨?_, by rw [tM _ _ _ (by decide) (by decide) (by omega)]; exact v2, ?_⟩
        · by_cases ej : j = i
          · rw [ej, eM, sT_set, if_pos ⟨rfl, rfl, rfl⟩]
            cases r
            · exact Or.inl rfl
            · exact Or.inr rfl
          · rw [tM _ _ _ (by decide) (by decide) (by omega)]
            exact v1
        · rw [tM _ _ _ (by decide) (by decide) (by omega)]
          intro t ht
          rw [tM _ _ _ (by decide) (by decide) (by omega)]
          exact v3 t ht
      have hT4 : fTk (fMeasS S i v) := fun t ht => by rw [tM _ _ _ (by decide) (by decide) (by omega)]; exact hT t ht
      have hO4 : fOrd z (fMeasS S i v) := fun o ho => by
        rw [tM _ _ _ (by decide) (by decide) (by omega), tM _ _ _ (by decide) (by decide) (by omega), tM _ _ _ (by decide) (by decide) (by omega), tM _ _ _ (by decide) (by decide) (by omega)]
        exact hO o ho
      have hF4 : fFix (fMeasS S i v) := by
        obtain ⟨f0, f1, f2, f3, f4, f5, f6⟩ := hF
        refine ⟨f0, ?_, ?_, ?_, ?_, ?_, f6⟩ <;> (rw [tM _ _ _ (by decide) (by decide) (by omega)]; assumption)
      have ha4 : hat gh (fMeasS S i v) 0 0 a := ha
      refine zW_p 1 rfl ?_
      obtain ⟨σ5, g5, H5, k5⟩ := F_losePromises H4 C hF4 hW4 hT4 hO4 ha4
      refine wV rfl rfl rfl rfl rfl rfl rfl (H4.rc ha4 rfl rfl) g5 (by omega) ?_
      refine zW_p 2 rfl ?_
      have hI := fLoseN_I hW4 hT4 hO4 (sn S 8)
      have hb5 : hat gh (fLoseN z (fMeasS S i v) (sn S 8)).1 6 i b := ⟨by rw [hI.2.2.2.1]; exact hb.1, hb.2⟩
      have H5' : hRep g w0 σ5 gh (fLoseN z (fMeasS S i v) (sn S 8)).1 J := H5
      refine hW_get H5' rfl hb5 rfl rfl rfl ?_
      have e7' : sT (fLoseN z (fMeasS S i v) (sn S 8)).1 6 7 i = bi r := by
        rw [hI.2.2.2.2.2.2 _ _ _ (by omega) (by omega), eM, sT_set, if_pos ⟨rfl, rfl, rfl⟩]
      rw [e7']
      have k6 : kc σ σ5 (fLoseN z (fMeasS S i v) (sn S 8)).2.2 (4 * (fLoseN z (fMeasS S i v) (sn S 8)).2.2) := ((k3.trans (kc.of e4)).trans (show kc σ4 σ5 (fLoseN z (fMeasS S i v) (sn S 8)).2.2 (4 * (fLoseN z (fMeasS S i v) (sn S 8)).2.2) from k5)).mono (by omega) (by omega)
      rw [← hr]
      cases r with
      | false =>
        refine zW_p 2 rfl ?_
        exact zW_reti rfl rfl rfl (Or.inr ⟨c1, rfl, H5', k6⟩)
      | true =>
        cases hfh : fh S i with
        | true =>
          refine zW_p 4 rfl ?_
          exact zW_reti rfl rfl rfl (Or.inr ⟨c1, rfl, H5', k6⟩)
        | false =>
          refine zW_p 5 rfl ?_
          exact zW_reti rfl rfl rfl (Or.inr ⟨c1, rfl, H5', k6⟩)
    cases ho : fMeasOut S i v with
    | true =>
      rw [ho] at J1
      refine zW_p 3 rfl ?_
      exact zW_lx (J1 true rfl) rfl ⟨rfl, rfl, rfl, rfl, rfl, trivial⟩
    | false =>
      rw [ho] at J1
      refine zW_p 2 rfl ?_
      have J2 := J1 (fh S i) (by rw [Bool.false_or])
      cases hfh : fh S i with
      | true =>
        rw [hfh] at J2
        refine zW_p 3 rfl ?_
        exact zW_lx J2 rfl ⟨rfl, rfl, rfl, rfl, rfl, trivial⟩
      | false =>
        rw [hfh] at J2
        refine zW_p 2 rfl ?_
        exact zW_lx J2 rfl ⟨rfl, rfl, rfl, rfl, rfl, trivial⟩
  · rw [decide_eq_false c1]
    obtain ⟨σ1, q1, q2, q3⟩ := F_reqF37 H
    exact wST rfl rfl rfl rfl rfl rfl rfl rfl rfl q1 (by omega) rfl (Or.inl ⟨c1, rfl, q2, q3⟩)
end ZOUT
