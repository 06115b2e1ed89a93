/-! THE MODEL: reserve -/
set_option maxRecDepth 100000
section ZMR2
variable {g : zG} {w0 : hG} {σ : zS} {gh gh' : Nat → Nat → Nat} {S T : hS} {J : zw_W} {Q : Option Value ⊕ String → zS → Prop} {a b o l it ck cb : Nat} {t pt n : Int}
theorem mResI.le (h : mResI g w0 gh' S T o) : ∀ c, sn S c ≤ sn T c := fun c => by
  by_cases e : c = 19
  · rw [e]; exact h.2.2.2.2.2.1
  · rw [h.2.2.2.2.1 c e]; exact Nat.le_refl _
theorem mResI.trans {U : hS} {gh2 : Nat → Nat → Nat} (h : mResI g w0 gh' S T o) (h2 : mResI g w0 gh2 T U o) : mResI g w0 gh2 S U o := by
  obtain ⟨a1, a2, a3, a4, a5, a6, a7, a8, a9⟩ := h
  obtain ⟨b1, b2, b3, b4, b5, b6, b7, b8, b9⟩ := h2
  exact ⟨b1, b2, b3, b4, fun c hc => (b5 c hc).trans (a5 c hc), Nat.le_trans a6 b6, fun c i hc hi => (b7 c i hc hi).trans (a7 c i hc hi), fun c i hc h38 h39 => (b8 c i hc h38 h39).trans (a8 c i hc h38 h39), fun c k i hc hk => (b9 c k i (fun e => hc ⟨e.1, Nat.le_trans a6 e.2⟩) hk).trans (a9 c k i hc hk)⟩
theorem mFix_res (h : mResI g w0 gh' S T o) (hF : mFix S) : mFix T := by
  obtain ⟨a1, a2, a3, a4, a5, a6, a7, a8, a9⟩ := h
  obtain ⟨f0, f1, f2, f3, f4, f5, f6, f7, f8, f9, fa, fb, fc, fd, fe⟩ := hF
  exact ⟨by rw [a5 11 (by decide)]; exact f0, by rw [a9 11 1 0 (by omega) (by omega)]; exact f1, by rw [a9 11 2 0 (by omega) (by omega)]; exact f2, by rw [a9 11 3 0 (by omega) (by omega)]; exact f3, by rw [a9 11 4 0 (by omega) (by omega)]; exact f4, by rw [a9 11 6 0 (by omega) (by omega)]; exact f5, by rw [a9 11 7 0 (by omega) (by omega)]; exact f6, by rw [a7 30 0 (by decide) (by omega), a5 12 (by decide)]; exact f7, by rw [a7 31 0 (by decide) (by omega), a5 13 (by decide)]; exact f8, by rw [a7 32 0 (by decide) (by omega), a5 14 (by decide)]; exact f9, by rw [a7 33 0 (by decide) (by omega), a5 15 (by decide)]; exact fa, by rw [a5 12 (by decide)]; exact fb, by rw [a5 13 (by decide)]; exact fc, by rw [a5 14 (by decide)]; exact fd, by rw [a5 15 (by decide)]; exact fe⟩
theorem M_resLots (H : hRep g w0 σ gh S J) (hI : mResI g w0 gh S S o) (hF : mFix S) (h6 : sT S 15 6 o = (o : Nat)) (h7 : sT S 15 7 o = (o : Nat)) (ha : hat gh S 11 0 a) (hb : hat gh S 15 o b) (hcb : hat gh S 46 ck cb) (hpt : (sE S 46 ck)[0]? = some pt) (hrp : rg pt) (hn : 0 ≤ n ∧ n ≤ 900) (hlen : (sE S 38 o).length ≤ 600)
    (fin : ∀ (σ' : zS) (gh' : Nat → Nat → Nat), hRep g w0 σ' gh' (mResN S o pt n (sn S 14)).1 J → gext S gh gh' → mResI g w0 gh' S (mResN S o pt n (sn S 14)).1 o → (0 ≤ (mResN S o pt n (sn S 14)).2.1 ∧ (mResN S o pt n (sn S 14)).2.1 ≤ n) → (sE (mResN S o pt n (sn S 14)).1 38 o).length ≤ (sE S 38 o).length + sn S 14 → kd σ.2 σ'.2 (mResN S o pt n (sn S 14)).2.2.1 (mResN S o pt n (sn S 14)).2.2.2 → zW g 104 229 210 [(0, .ref a), (1, .ref b), (2, .ref it), (4, iv (mResN S o pt n (sn S 14)).2.1)] [] σ' Q) :
    zW g 104 229 74 [(0, .ref a), (1, .ref b), (2, .ref it), (3, .ref cb), (4, iv n), (5, iv (0 : Nat))] [] σ Q := by
  have hfd : sn S 14 ≤ 100 := hF.2.2.2.2.2.2.2.2.2.2.2.2.2.1
  have loop : ∀ (q p : Nat) (σ1 : zS) (gh1 : Nat → Nat → Nat), p + q = sn S 14 → hRep g w0 σ1 gh1 (mResN S o pt n p).1 J → gext S gh gh1 → mResI g w0 gh1 S (mResN S o pt n p).1 o → (0 ≤ (mResN S o pt n p).2.1 ∧ (mResN S o pt n p).2.1 ≤ n) → (sE (mResN S o pt n p).1 38 o).length ≤ (sE S 38 o).length + p → kd σ.2 σ1.2 (mResN S o pt n p).2.2.1 (mResN S o pt n p).2.2.2 →
      zW g 104 229 74 [(0, .ref a), (1, .ref b), (2, .ref it), (3, .ref cb), (4, iv (mResN S o pt n p).2.1), (5, iv p)] [] σ1 Q := by
    intro q
    induction q with
    | zero =>
      intro p σ1 gh1 hp H1 hx hi hle hl hk
      obtain rfl : p = sn S 14 := by omega
      have hF1 := mFix_res hi hF
      obtain ⟨f0, f1, f2, f3, f4, f5, f6, f7, f8, f9, fa, fb, fc, fd, fe⟩ := hF1
      refine zW_p 2 rfl ?_
      refine hW_getr (j := 0) H1 rfl (hx.hat hi.le ha) rfl rfl rfl f3 (fun b1 hb1 => ?_)
      refine hW_size H1 rfl rfl rfl hb1 rfl rfl rfl (by omega) ?_
      rw [f9, idl_len, hi.2.2.2.2.1 14 (by decide)]
      refine zW_t rfl rfl ((I_le ⟨by omega, by omega⟩ ⟨by omega, by omega⟩).mpr (by omega)) ?_
      exact zW_lx (fin σ1 gh1 H1 hx hi hle hl hk) rfl ⟨rfl, rfl, rfl, rfl, trivial⟩
    | succ q ih =>
      intro p σ1 gh1 hp H1 hx hi hle hl hk
      have hF1 := mFix_res hi hF
      obtain ⟨f0, f1, f2, f3, f4, f5, f6, f7', f8, f9, fa, fb, fc, fd, fe⟩ := hF1
      have hax := hx.hat hi.le ha
      have hbx := hx.hat hi.le hb
      have hcx := hx.hat hi.le hcb
      have hn14 : sn (mResN S o pt n p).1 14 = sn S 14 := hi.2.2.2.2.1 14 (by decide)
      have hplt : p < sn S 14 := by omega
      refine zW_p 2 rfl ?_
      refine hW_getr (j := 0) H1 rfl hax rfl rfl rfl f3 (fun b1 hb1 => ?_)
      refine hW_size H1 rfl rfl rfl hb1 rfl rfl rfl (by omega) ?_
      rw [f9, idl_len, hn14]
      refine zW_f rfl rfl (fun e => by have := (I_le ⟨by omega, by omega⟩ ⟨by omega, by omega⟩).mp e; omega) ?_
      refine zW_p 1 rfl ?_
      by_cases hd0 : (mResN S o pt n p).2.1 ≤ 0
      · refine zW_t rfl rfl ((I_le0 ⟨by omega, by omega⟩).mpr hd0) ?_
        have es := mResN_stop (S := S) (o := o) (pt := pt) (n := n) (k := p) (m := sn S 14) (by omega) hd0
        rw [es] at fin
        exact zW_lx (fin σ1 gh1 H1 hx hi hle (by omega) hk) rfl ⟨rfl, rfl, rfl, rfl, trivial⟩
      · have hs : mResN S o pt n (p + 1) = mResStep o pt (mResN S o pt n p) p := mResN_succ
        have hih := ih (p + 1)
        generalize hL : mResN S o pt n p = L at H1 hi hle hl hk hn14 f0 f1 f2 f3 f4 f5 f6 f7' f8 f9 fa fb fc fd fe hax hbx hcx hb1 hd0 hs
        obtain ⟨T, due, ct, sl⟩ := L
        simp only at H1 hi hle hl hk hn14 f0 f1 f2 f3 f4 f5 f6 f7' f8 f9 fa fb fc fd fe hax hbx hcx hb1 hd0 hs
        refine zW_f rfl rfl (fun e => hd0 ((I_le0 (a := due) ⟨by omega, by omega⟩).mp e)) ?_
        refine zW_lv [(0, .ref a), (1, .ref b), (2, .ref it), (3, .ref cb), (4, iv due), (5, iv p)] rfl ⟨rfl, rfl, rfl, rfl, rfl, rfl, trivial⟩ ?_
        refine zW_p 1 rfl ?_
        refine hW_getr (j := 0) H1 rfl hax rfl rfl rfl f3 (fun b2 hb2 => ?_)
        refine zW_p 1 rfl ?_
        refine hW_lget (y := p) H1 rfl rfl rfl hb2 rfl rfl rfl (by rw [f9]; exact idl_at (by omega)) rfl (by omega) (fun e he => ?_)
        refine hW_cast H1 rfl he rfl rfl rfl ?_
        obtain ⟨v1, v2, v3, v4⟩ := hi.2.1 p he.1
        unfold mResStep at hs
        simp only at hs
        rw [if_neg hd0] at hs
        have hpt1 : (sE T 46 ck)[0]? = some pt := by rw [hi.2.2.2.2.2.2.1 46 ck (by decide) (by omega)]; exact hpt
        have back : ∀ (σ5 : zS) (gh5 : Nat → Nat → Nat) (lv : zp_L), hRep g w0 σ5 gh5 (mResN S o pt n (p + 1)).1 J → gext S gh gh5 → mResI g w0 gh5 S (mResN S o pt n (p + 1)).1 o → (0 ≤ (mResN S o pt n (p + 1)).2.1 ∧ (mResN S o pt n (p + 1)).2.1 ≤ n) → (sE (mResN S o pt n (p + 1)).1 38 o).length ≤ (sE S 38 o).length + (p + 1) → kd σ.2 σ5.2 (mResN S o pt n (p + 1)).2.2.1 (mResN S o pt n (p + 1)).2.2.2 → lvok [(0, .ref a), (1, .ref b), (2, .ref it), (3, .ref cb), (4, iv (mResN S o pt n (p + 1)).2.1), (5, iv p)] lv → zW g 104 229 204 lv [] σ5 Q := by
          intro σ5 gh5 lv H5 gx5 hi5 hle5 hl5 hk5 hlv
          refine zW_ly hlv rfl ?_
          refine zW_p 1 rfl ?_
          rw [I_add]
          refine zW_p 1 rfl ?_
          refine zW_lv [(0, .ref a), (1, .ref b), (2, .ref it), (3, .ref cb), (4, iv (mResN S o pt n (p + 1)).2.1), (5, iv ((p + 1 : Nat) : Int))] rfl ⟨rfl, rfl, rfl, rfl, rfl, rfl, trivial⟩ ?_
          exact hih σ5 gh5 (by omega) H5 gx5 hi5 hle5 hl5 hk5
        have J1 : ∀ (th : Int) (σ3 : zS) (lv : zp_L), hRep g w0 σ3 gh1 T J → th = mThere T pt due p → kd σ1.2 σ3.2 (mWalk T pt p) (4 * mWalk T pt p) → lvok [(0, .ref a), (1, .ref b), (2, .ref it), (3, .ref cb), (4, iv due), (5, iv p), (6, .ref e)] lv → zW g 104 229 144 lv [iv th] σ3 Q := by
          intro th σ3 lv H3 hth hk3 hlv
          refine zW_ly hlv rfl ?_
          rw [← hth] at hs
          have hthr : th ≤ due ∧ (0 < th → th ≤ sT T 14 2 p - sT T 14 3 p) := by
            rw [hth]; unfold mThere imin
            repeat' split
            all_goals omega
          have hthr2 : -900 ≤ th := by
            rw [hth]; unfold mThere imin
            repeat' split
            all_goals omega
          refine zW_p 2 rfl ?_
          by_cases h0 : 0 < th
          · rw [if_pos h0] at hs
            refine zW_f rfl rfl (fun q => by have := (I_le0 ⟨by omega, by omega⟩).mp q; omega) ?_
            refine zW_p 2 rfl ?_
            refine hW_get H3 rfl he rfl rfl rfl ?_
            refine zW_p 2 rfl ?_
            rw [I_add]
            refine hW_put (v := sT T 14 3 p + th) H3 rfl he rfl rfl rfl (Or.inl rfl) rfl rfl rfl alv0 (fun e => absurd e (by decide)) (fun σ4 H4 e4 => ?_)
            refine zW_p 1 rfl ?_
            have o6 : sT T 15 6 o = (o : Nat) := by rw [hi.2.2.2.2.2.2.2.2 15 6 o (by omega) (by omega)]; exact h6
            have o7 : sT T 15 7 o = (o : Nat) := by rw [hi.2.2.2.2.2.2.2.2 15 7 o (by omega) (by omega)]; exact h7
            refine hW_getr (j := o) H4 rfl (show hat gh1 (sset T 14 3 p (sT T 14 3 p + th)) 15 o b from hbx) rfl rfl rfl (by rw [sT_set, if_neg (by omega)]; exact o6) (fun b5 hb5 => ?_)
            refine zW_p 1 rfl ?_
            have he4 : hat gh1 (sset T 14 3 p (sT T 14 3 p + th)) 14 p e := he
            have eE38 : sE (sset T 14 3 p (sT T 14 3 p + th)) 38 o = sE T 38 o := rfl
            refine hW_add (x := (p : Int)) H4 rfl rfl rfl hb5 rfl rfl rfl (elrepR he4) (alvR he4.1) (by rw [eE38]; omega) rfl (by omega) (fun σ5 H5 k5 => ?_)
            rw [eE38] at H5 k5
            have H5' : hRep g w0 σ5 gh1 (mTakeA T o p th) J := H5
            refine zW_p 2 rfl ?_
            refine hW_getr (j := o) H5' rfl (show hat gh1 (mTakeA T o p th) 15 o b from hbx) rfl rfl rfl (show sT T 15 7 o = _ from o7) (fun b6 hb6 => ?_)
            refine zW_p 1 rfl ?_
            refine hW_intOfF (v := th) H5' (show hCache g w0 gh1 (mTakeA T o p th) from hi.2.2.1) rfl rfl rfl rfl (by omega) (by omega) rfl (by omega) (fun σ6 gh6 b7 gx6 H6 hb7 k6 => ?_)
            have hb6x : hat gh6 (intS (mTakeA T o p th) th) 39 o b6 := gx6.hat (fun _ => intS_le) hb6
            have eE39 : sE (intS (mTakeA T o p th) th) 39 o = sE T 39 o := by rw [intS_sE (by decide)]; rfl
            have hl39 : (sE T 38 o).length = (sE T 39 o).length := hi.2.2.2.1
            refine hW_add (x := (intIx (mTakeA T o p th) th : Int)) H6 rfl rfl rfl hb6x rfl rfl rfl (elrepR hb7) (alvR hb7.1) (by rw [eE39]; omega) rfl (by omega) (fun σ7 H7 k7 => ?_)
            rw [eE39] at H7 k7
            have H7' : hRep g w0 σ7 gh6 (mTakeS T o p th) J := H7
            refine zW_p 7 rfl ?_
            rw [I_sub]
            refine zW_p 1 rfl ?_
            have gx : gext S gh gh6 := gext.trans hx (show gext T gh1 gh6 from gx6) hi.le
            have hi7 : mResI g w0 gh6 S (mTakeS T o p th) o := mResI_take hi (show gext T gh1 gh6 from gx6) he.1 (by omega) (by omega)
            have e1 : (mResN S o pt n (p + 1)).1 = mTakeS T o p th := by rw [hs]
            have e2 : (mResN S o pt n (p + 1)).2.1 = due - th := by rw [hs]
            refine back σ7 gh6 _ (by rw [e1]; exact H7') gx (by rw [e1]; exact hi7) (by rw [e2]; omega) ?_ ?_ ⟨rfl, rfl, rfl, rfl, by rw [e2]; rfl, rfl, trivial⟩
            · rw [e1, mTakeS_sE (by decide), if_neg (by omega), if_pos ⟨rfl, rfl⟩, List.length_append]
              simp only [List.length_cons, List.length_nil]
              omega
            · rw [hs]
              exact (((((hk.trans hk3).trans (kc.of e4)).trans k5).trans k6).trans k7).mono (by show _ ≤ ct + mWalk T pt p + 3; omega) (by show _ ≤ sl + 4 * mWalk T pt p + (2 * (sE T 38 o).length + 2 * (sE T 39 o).length + 25); omega)
          · rw [if_neg h0] at hs
            refine zW_t rfl rfl ((I_le0 ⟨by omega, by omega⟩).mpr (by omega)) ?_
            have e1 : (mResN S o pt n (p + 1)).1 = T := by rw [hs]
            have e2 : (mResN S o pt n (p + 1)).2.1 = due := by rw [hs]
            exact back σ3 gh1 _ (by rw [e1]; exact H3) hx (by rw [e1]; exact hi) (by rw [e2]; omega) (by rw [e1]; omega) (by rw [hs]; exact hk.trans hk3) ⟨rfl, rfl, rfl, rfl, by rw [e2]; rfl, rfl, trivial⟩
        refine zW_p 2 rfl ?_
        refine hW_get H1 rfl he rfl rfl rfl ?_
        refine zW_p 2 rfl ?_
        refine hW_iald (j := 0) H1 rfl hcx hpt1 (by omega) ?_
        by_cases c1 : sT T 14 1 p = pt
        · refine zW_f rfl rfl (fun q => q (by rw [c1])) ?_
          refine zW_p 1 rfl ?_
          obtain ⟨σ3, g3, H3, k3⟩ := M_isHeld 100 (show p < 100 by omega) H1 he hi.1
          have ew : mWalk T pt p = tN (mch T) 100 p := by unfold mWalk; rw [if_pos c1]
          rw [← ew] at k3
          refine wV rfl rfl rfl rfl rfl rfl rfl (H1.rc he rfl rfl) g3 (by omega) ?_
          cases hh : tHeld (mh T) (mch T) 100 p with
          | true =>
            refine zW_p 2 rfl ?_
            exact J1 0 σ3 _ H3 (by unfold mThere; rw [if_neg (fun q => by rw [hh] at q; cases q.2)]) k3 ⟨rfl, rfl, rfl, rfl, rfl, rfl, rfl, trivial⟩
          | false =>
            refine zW_p 3 rfl ?_
            refine hW_get H3 rfl he rfl rfl rfl ?_
            refine zW_p 1 rfl ?_
            refine hW_get H3 rfl he rfl rfl rfl ?_
            refine zW_p 1 rfl ?_
            rw [I_sub]
            refine aW_minI rfl rfl (Nat.le_of_ble_eq_true rfl) ⟨by omega, by omega⟩ ⟨by omega, by omega⟩ ?_
            refine zW_p 1 rfl ?_
            exact J1 _ σ3 _ H3 (if_pos (c := sT T 14 1 p = pt ∧ tHeld (mh T) (mch T) 100 p = false) ⟨c1, hh⟩).symm k3 ⟨rfl, rfl, rfl, rfl, rfl, rfl, rfl, trivial⟩
        · refine zW_t rfl rfl (fun q => c1 ((I_eq v4 hrp).mp q)) ?_
          have ew : mWalk T pt p = 0 := by unfold mWalk; rw [if_neg c1]
          refine zW_p 1 rfl ?_
          exact J1 0 σ1 _ H1 (by unfold mThere; rw [if_neg (fun q => c1 q.1)]) (by rw [ew]; exact kd.rfl') ⟨rfl, rfl, rfl, rfl, rfl, rfl, rfl, trivial⟩
  have e0 : (mResN S o pt n 0).2.1 = n := rfl
  exact loop (sn S 14) 0 σ gh (by omega) H gext_rfl hI ⟨hn.1, Int.le_refl n⟩ (Nat.le_refl _) kd.rfl'
end ZMR2
