/-! THE MODEL: Integers by value; reserve, lot by lot -/
set_option maxRecDepth 100000
def intIx (S : hS) (v : Int) : Nat := if v ≤ 127 then (v + 128).toNat else sn S 19
def intS (S : hS) (v : Int) : hS := if v ≤ 127 then S else sset (snw S 19 []) 19 0 (sn S 19) v
theorem intS_sn {S : hS} {v : Int} {c : Nat} (h : c ≠ 19) : sn (intS S v) c = sn S c := by
  unfold intS
  split
  · rfl
  · rw [sn_set, sn_w, if_neg h]
theorem intS_le {S : hS} {v : Int} {c : Nat} : sn S c ≤ sn (intS S v) c := by
  unfold intS
  split
  · exact Nat.le_refl _
  · rw [sn_set]; exact sn_w_le
theorem intS_sE {S : hS} {v : Int} {c i : Nat} (h : c ≠ 19) : sE (intS S v) c i = sE S c i := by
  unfold intS
  split
  · rfl
  · rw [sE_set, sE_w, if_neg (fun e => h e.1)]
theorem intS_sM {S : hS} {v : Int} {c i : Nat} (h : c ≠ 19) : sM (intS S v) c i = sM S c i := by
  unfold intS
  split
  · rfl
  · rw [sM_set, sM_w, if_neg (fun e => h e.1)]
theorem intS_sT {S : hS} {v : Int} {c k i : Nat} (h : ¬ (c = 19 ∧ i = sn S 19)) : sT (intS S v) c k i = sT S c k i := by
  unfold intS
  split
  · rfl
  · rw [sT_set, if_neg (fun e => h ⟨e.1, e.2.2⟩), sT_w, if_neg h]
section ZINT
variable {g : zG} {w0 : hG} {σ : zS} {gh gh' : Nat → Nat → Nat} {S S' : hS} {J : zw_W} {d k pc idx : Nat} {lv : zp_L} {st : List Value} {Q : Option Value ⊕ String → zS → Prop}
theorem hCache.ext (h : hCache g w0 gh S) (hx : gext S gh gh') (hl : sn S 19 ≤ sn S' 19) (hT : ∀ j, j < 256 → sT S' 19 0 j = sT S 19 0 j) : hCache g w0 gh' S' := by
  obtain ⟨A, N, f, k1, k2, k3, k4, k5, k6, k7, k8⟩ := h
  refine ⟨A, N, f, k1, k2, k3, k4, k5, k6, by omega, fun j hj => ?_⟩
  obtain ⟨e1, e2, e3⟩ := k8 j hj
  rw [hx 19 j (by omega), hT j hj]
  exact ⟨e1, e2, e3⟩
theorem hCache.val (h : hCache g w0 gh S) {v : Int} (h0 : -128 ≤ v) : sT (intS S v) 19 0 (intIx S v) = v := by
  obtain ⟨A, N, f, k1, k2, k3, k4, k5, k6, k7, k8⟩ := h
  unfold intS intIx
  by_cases hv : v ≤ 127
  · rw [if_pos hv, if_pos hv, (k8 _ (by omega)).2.2]
    omega
  · rw [if_neg hv, if_neg hv, sT_set, if_pos ⟨rfl, rfl, rfl⟩]
theorem hW_intOfF {v : Int} (H : hRep g w0 σ gh S J) (hC : hCache g w0 gh S) (hx : r_i k pc = some (.invokestatic idx, 3)) (hno : zxs_at (r_o k) idx = none) (hno2 : ((r_o k == 1 && idx == 112) || (r_o k == 22 && idx == 150)) = false) (hSt : zcS_at (r_o k) idx = some (230, 1)) (h0 : -128 ≤ v) (h1 : v ≤ 1000000) (h6 : zc6 st = true) (hd : 2 < d)
    (hr : ∀ (σ' : zS) (gh' : Nat → Nat → Nat) (b : Nat), gext S gh gh' → hRep g w0 σ' gh' (intS S v) J → hat gh' (intS S v) 19 (intIx S v) b → kc σ σ' 1 1 → zW g d k (pc + 3) lv (.ref b :: st) σ' Q) : zW g d k pc lv (iv v :: st) σ Q := by
  obtain ⟨A, N, f, k1, k2, k3, k4, k5, k6, k7, k8⟩ := hC
  by_cases hv : v ≤ 127
  · obtain ⟨e1, e2, e3⟩ := k8 (v + 128).toNat (by omega)
    have hw : σ.1 A = some (.inl (7, N, .inr (.inr (.inr (.inr f))))) := (H.2.2.2.1 _ k3).trans k4
    have hrun : zEnd g 0 230 [iv v] σ (.inl (some (.ref (gh 19 (v + 128).toNat)))) σ := zEnd_of (by
      refine zW_p 2 rfl ?_
      refine zW_br rfl rfl (fun hP => ?_) (fun _ => ?_)
      · rw [show (Int8.ofInt (-128)).toInt32 = Int32.ofInt (-128) from rfl, I_lt ⟨by omega, by omega⟩ ⟨by decide, by decide⟩] at hP
        omega
      · refine zW_p 1 rfl ?_
        refine aW_stat rfl rfl k1 ?_
        refine zW_br rfl rfl (fun hP => ?_) (fun _ => ?_)
        · rw [I_lt ⟨by decide, by decide⟩ ⟨by omega, by omega⟩] at hP
          omega
        · refine aW_stat rfl rfl k2 ?_
          refine zW_p 3 rfl ?_
          have e : Int32.ofInt v + (Int16.ofInt 128).toInt32 = Int32.ofInt (((v + 128).toNat : Nat) : Int) := by
            rw [show (Int16.ofInt 128).toInt32 = Int32.ofInt 128 from rfl, I_add]
            congr 1
            omega
          rw [e]
          refine wW_aald rfl hw rfl (I_in (by omega) k6) ?_
          rw [I_cl (by omega), e1]
          exact wW_ret rfl rfl rfl rfl ⟨rfl, rfl⟩)
    have eS : intS S v = S := by unfold intS; rw [if_pos hv]
    have eI : intIx S v = (v + 128).toNat := by unfold intIx; rw [if_pos hv]
    exact wS hx hno hno2 hSt rfl rfl rfl h6 rfl hrun (by omega) (hr σ gh _ gext_rfl (by rw [eS]; exact H) (by rw [eS, eI]; exact ⟨by omega, rfl⟩) ⟨Nat.le_refl _, Nat.le_succ _, Nat.le_refl _, Nat.le_succ _⟩)
  · have hrun : zEnd g 2 230 [iv v] σ (.inl (some (.ref σ.2.1))) (zw_up σ.1 σ.2.1 (.inr (19, [iv v])), σ.2.1 + 1, σ.2.2 + 1) := zEnd_of (by
      refine zW_p 2 rfl ?_
      refine zW_br rfl rfl (fun hP => ?_) (fun _ => ?_)
      · rw [show (Int8.ofInt (-128)).toInt32 = Int32.ofInt (-128) from rfl, I_lt ⟨by omega, by omega⟩ ⟨by decide, by decide⟩] at hP
        omega
      · refine zW_p 1 rfl ?_
        refine aW_stat rfl rfl k1 ?_
        refine zW_br rfl rfl (fun _ => ?_) (fun hP => ?_)
        · refine wW_new rfl rfl rfl rfl ?_
          refine zW_p 2 rfl ?_
          refine wI rfl rfl rfl rfl rfl rfl rfl rfl rfl (c_intInit (v := v) (zw_up_same _ _ _) H.2.2.1) (by decide) ?_
          exact wW_ret rfl rfl rfl rfl ⟨rfl, by rw [zw_up_up]⟩
        · rw [I_lt ⟨by decide, by decide⟩ ⟨by omega, by omega⟩] at hP
          omega)
    refine wS hx hno hno2 hSt rfl rfl rfl h6 rfl hrun (by omega) ?_
    have H2 := H.alloc (c := 19) (xs := []) (x := .inr (19, [iv 0])) (m := σ.2.2 + 1) (by omega) (by rw [if_pos (by omega)]; rfl) (fun _ => rfl) (by omega) (fun y hy => by cases hy)
    have H3 := hRep.setI H2 (i := sn S 19) (v := v) hat.new (Nat.le_trans H.2.2.1 (Nat.le_refl _))
    have e : zw_up (zw_up σ.1 σ.2.1 (.inr (19, [iv 0]))) σ.2.1 (.inr (19, [iv v])) = zw_up σ.1 σ.2.1 (.inr (19, [iv v])) := zw_up_up _ _ _ _
    rw [e] at H3
    have eS : intS S v = sset (snw S 19 []) 19 0 (sn S 19) v := by unfold intS; rw [if_neg hv]
    have eI : intIx S v = sn S 19 := by unfold intIx; rw [if_neg hv]
    refine hr (zw_up σ.1 σ.2.1 (.inr (19, [iv v])), σ.2.1 + 1, σ.2.2 + 1) _ _ (gext_w gext_rfl (fun _ => Nat.le_refl _)) (by rw [eS]; exact H3) ?_ ⟨Nat.le_succ _, Nat.le_refl _, Nat.le_add_right _ _, Nat.le_refl _⟩
    rw [eS, eI]
    exact hat.new (xs := [])
end ZINT
def mThere (S : hS) (pt due : Int) (l : Nat) : Int := if sT S 14 1 l = pt ∧ tHeld (mh S) (mch S) 100 l = false then imin (sT S 14 2 l - sT S 14 3 l) due else 0
def mTakeA (S : hS) (o l : Nat) (t : Int) : hS := ssE (sset S 14 3 l (sT S 14 3 l + t)) 38 o (sE S 38 o ++ [(l : Int)])
def mTakeS (S : hS) (o l : Nat) (t : Int) : hS := ssE (intS (mTakeA S o l t) t) 39 o (sE S 39 o ++ [(intIx S t : Int)])
def mWalk (S : hS) (pt : Int) (l : Nat) : Nat := if sT S 14 1 l = pt then tN (mch S) 100 l else 0
def mResStep (o : Nat) (pt : Int) (s : fRst) (l : Nat) : fRst := if s.2.1 ≤ 0 then s else if 0 < mThere s.1 pt s.2.1 l then (mTakeS s.1 o l (mThere s.1 pt s.2.1 l), s.2.1 - mThere s.1 pt s.2.1 l, s.2.2.1 + mWalk s.1 pt l + 3, s.2.2.2 + 4 * mWalk s.1 pt l + (2 * (sE s.1 38 o).length + 2 * (sE s.1 39 o).length + 25)) else (s.1, s.2.1, s.2.2.1 + mWalk s.1 pt l, s.2.2.2 + 4 * mWalk s.1 pt l)
def mResN (S : hS) (o : Nat) (pt n : Int) (k : Nat) : fRst := (List.range k).foldl (mResStep o pt) (S, n, 0, 0)
theorem mResN_succ {S : hS} {o : Nat} {pt n : Int} {k : Nat} : mResN S o pt n (k + 1) = mResStep o pt (mResN S o pt n k) k := by
  unfold mResN
  rw [List.range_succ, List.foldl_append]
  rfl
theorem mRes_stop {o : Nat} {pt : Int} {s : fRst} (h : s.2.1 ≤ 0) : ∀ xs : List Nat, xs.foldl (mResStep o pt) s = s
  | [] => rfl
  | x :: xs => by
    rw [List.foldl_cons]
    have : mResStep o pt s x = s := by unfold mResStep; rw [if_pos h]
    rw [this]
    exact mRes_stop h xs
theorem mResN_stop {S : hS} {o : Nat} {pt n : Int} {k m : Nat} (hk : k ≤ m) (h : (mResN S o pt n k).2.1 ≤ 0) : mResN S o pt n m = mResN S o pt n k := by
  obtain ⟨j, rfl⟩ : ∃ j, m = k + j := ⟨m - k, by omega⟩
  induction j with
  | zero => rfl
  | succ j ih =>
    have e : mResN S o pt n (k + (j + 1)) = mResStep o pt (mResN S o pt n (k + j)) (k + j) := mResN_succ
    rw [e, ih (by omega)]
    unfold mResStep
    rw [if_pos h]
def mAv (S : hS) : Prop := ∀ l : Nat, l < sn S 14 → 0 ≤ sT S 14 3 l ∧ sT S 14 3 l ≤ sT S 14 2 l ∧ sT S 14 2 l ≤ 500 ∧ rg (sT S 14 1 l)
def mResI (g : zG) (w0 : hG) (gh' : Nat → Nat → Nat) (S T : hS) (o : Nat) : Prop := mW T ∧ mAv T ∧ hCache g w0 gh' T ∧ (sE T 38 o).length = (sE T 39 o).length ∧ (∀ c, c ≠ 19 → sn T c = sn S c) ∧ sn S 19 ≤ sn T 19 ∧ (∀ c i, c ≠ 19 → ¬ ((c = 38 ∨ c = 39) ∧ i = o) → sE T c i = sE S c i) ∧ (∀ c i, c ≠ 19 → c ≠ 38 → c ≠ 39 → sM T c i = sM S c i) ∧ (∀ c k i, ¬ (c = 19 ∧ sn S 19 ≤ i) → ¬ (c = 14 ∧ k = 3) → sT T c k i = sT S c k i)
section ZMRS
variable {g : zG} {w0 : hG} {σ : zS} {gh gh' : Nat → Nat → Nat} {S T : hS} {J : zw_W} {a b o l : Nat} {t pt n : Int}
theorem intIx_A : intIx (mTakeA S o l t) t = intIx S t := rfl
theorem mTakeS_sn {c : Nat} (h : c ≠ 19) : sn (mTakeS S o l t) c = sn S c := by
  unfold mTakeS
  rw [sn_ssE, intS_sn h]
  rfl
theorem mTakeS_sT {c k i : Nat} (h : ¬ (c = 19 ∧ i = sn S 19)) : sT (mTakeS S o l t) c k i = if c = 14 ∧ k = 3 ∧ i = l then sT S 14 3 l + t else sT S c k i := by
  unfold mTakeS
  rw [sT_ssE, intS_sT (S := mTakeA S o l t) h]
  unfold mTakeA
  rw [sT_ssE, sT_set]
theorem mTakeS_sE {c i : Nat} (h : c ≠ 19) : sE (mTakeS S o l t) c i = if c = 39 ∧ i = o then sE S 39 o ++ [(intIx S t : Int)] else if c = 38 ∧ i = o then sE S 38 o ++ [(l : Int)] else sE S c i := by
  unfold mTakeS
  rw [sE_ssE, intS_sE h]
  unfold mTakeA
  rw [sE_ssE, sE_set]
theorem mTakeS_sM {c i : Nat} (h : c ≠ 19) (h38 : c ≠ 38) (h39 : c ≠ 39) : sM (mTakeS S o l t) c i = sM S c i := by
  unfold mTakeS
  rw [sM_ssE, if_neg (fun e => h39 e.1), intS_sM h]
  unfold mTakeA
  rw [sM_ssE, if_neg (fun e => h38 e.1), sM_set]
theorem mResI_take {gh2 : Nat → Nat → Nat} (h : mResI g w0 gh' S T o) (hx : gext T gh' gh2) (hl : l < sn T 14) (ht : 0 ≤ t) (ht2 : sT T 14 3 l + t ≤ sT T 14 2 l) : mResI g w0 gh2 S (mTakeS T o l t) o := by
  obtain ⟨h1, h2, h3, h4, h5, h6, h7, h8, h9⟩ := h
  have hle : sn T 19 ≤ sn (mTakeS T o l t) 19 := by
    unfold mTakeS
    rw [sn_ssE]
    exact Nat.le_trans (Nat.le_refl _) (intS_le (S := mTakeA T o l t))
  have h256 : 256 ≤ sn T 19 := by obtain ⟨A, N, f, k1, k2, k3, k4, k5, k6, k7, k8⟩ := h3; exact k7
  have eT : ∀ c k i, c ≠ 19 → ¬ (c = 14 ∧ k = 3) → sT (mTakeS T o l t) c k i = sT T c k i := fun c k i hc hk => by rw [mTakeS_sT (fun e => hc e.1), if_neg (fun e => hk ⟨e.1, e.2.1⟩)]
  refine ⟨?_, ?_, ?_, ?_, ?_, ?_, ?_, ?_, ?_⟩
  · exact mW_of h1 (mTakeS_sn (by decide)) (fun i => eT 14 5 i (by decide) (by omega)) (fun i => eT 14 6 i (by decide) (by omega)) (fun m => by rw [mTakeS_sE (by decide), if_neg (by omega), if_neg (by omega)])
  · intro i hi
    rw [mTakeS_sn (by decide)] at hi
    obtain ⟨v1, v2, v3, v4⟩ := h2 i hi
    rw [eT 14 2 i (by decide) (by omega), eT 14 1 i (by decide) (by omega), mTakeS_sT (by omega)]
    by_cases e : i = l
    · subst e
      rw [if_pos ⟨rfl, rfl, rfl⟩]
      exact ⟨by omega, ht2, v3, v4⟩
    · rw [if_neg (by omega)]
      exact ⟨v1, v2, v3, v4⟩
  · exact h3.ext hx hle (fun j hj => by rw [mTakeS_sT (by omega), if_neg (by omega)])
  · rw [mTakeS_sE (by decide), if_neg (by omega), if_pos ⟨rfl, rfl⟩, mTakeS_sE (by decide), if_pos ⟨rfl, rfl⟩, List.length_append, List.length_append, h4]
    rfl
  · intro c hc
    rw [mTakeS_sn hc]
    exact h5 c hc
  · exact Nat.le_trans h6 hle
  · intro c i hc hi
    rw [mTakeS_sE hc, if_neg (fun e => hi ⟨Or.inr e.1, e.2⟩), if_neg (fun e => hi ⟨Or.inl e.1, e.2⟩)]
    exact h7 c i hc hi
  · intro c i hc h38 h39
    rw [mTakeS_sM hc h38 h39]
    exact h8 c i hc h38 h39
  · intro c k i hc hk
    rw [mTakeS_sT (fun e => hc ⟨e.1, by rw [e.2]; exact h6⟩), if_neg (fun e => hk ⟨e.1, e.2.1⟩)]
    exact h9 c k i hc hk
end ZMRS
