/-! THE MODEL: reserve as a whole, promise, withdraw -/
set_option maxRecDepth 100000
def mCp (S : hS) (k i : Nat) : Int := (sE S 46 k).getD i 0
def mFor (S : hS) (k : Nat) (w : Int) : Bool := decide (mCp S k 2 = -1) || decide (mCp S k 2 = w)
def mDue (S : hS) (o k : Nat) : Int := if mFor S k (sT S 15 3 o) = true then sT S 15 2 o * mCp S k 1 else 0
def mRAstep (o : Nat) (s : fAst) (k : Int) : fAst := if s.2.1 = false then s else ((mResN s.1 o (mCp s.1 k.toNat 0) (mDue s.1 o k.toNat) (sn s.1 14)).1, decide ((mResN s.1 o (mCp s.1 k.toNat 0) (mDue s.1 o k.toNat) (sn s.1 14)).2.1 ≤ 0), s.2.2.1 + (mResN s.1 o (mCp s.1 k.toNat 0) (mDue s.1 o k.toNat) (sn s.1 14)).2.2.1, s.2.2.2 + (mResN s.1 o (mCp s.1 k.toNat 0) (mDue s.1 o k.toNat) (sn s.1 14)).2.2.2)
def mComps (S : hS) (o : Nat) : List Int := sE S 36 (sT S 13 2 (sT S 15 1 o).toNat).toNat
def mRAN (S : hS) (o p : Nat) : fAst := ((mComps S o).take p).foldl (mRAstep o) (S, true, 1, 4)
def mRA (S : hS) (o : Nat) : fAst := if (mRAN S o (mComps S o).length).2.1 = true then (sset (mRAN S o (mComps S o).length).1 15 5 o 112, true, (mRAN S o (mComps S o).length).2.2) else (mFree (mRAN S o (mComps S o).length).1 o, false, (mRAN S o (mComps S o).length).2.2)
theorem mRA_stop {o : Nat} {s : fAst} (h : s.2.1 = false) : ∀ xs : List Int, xs.foldl (mRAstep o) s = s
  | [] => rfl
  | x :: xs => by
    rw [List.foldl_cons]
    have : mRAstep o s x = s := by unfold mRAstep; rw [if_pos h]
    rw [this]
    exact mRA_stop h xs
/-- component rows are well -/
def mCmp (S : hS) : Prop := ∀ i : Nat, i < sn S 13 → ∀ k ∈ sE S 36 (sT S 13 2 i).toNat, (sE S 46 k.toNat).length = 3 ∧ rg (mCp S k.toNat 0) ∧ (1 ≤ mCp S k.toNat 1 ∧ mCp S k.toNat 1 ≤ 9) ∧ rg (mCp S k.toNat 2)
def mOq (S : hS) (o : Nat) : Prop := (1 ≤ sT S 15 2 o ∧ sT S 15 2 o ≤ 100) ∧ rg (sT S 15 3 o) ∧ (0 ≤ sT S 15 1 o ∧ sT S 15 1 o < sn S 13)
section ZMPR
variable {g : zG} {w0 : hG} {σ : zS} {gh gh' : Nat → Nat → Nat} {S T : hS} {J : zw_W} {a b o : Nat} {v : Int}
theorem getD_at {l : List Int} {i : Nat} (h : i < l.length) : l[i]? = some (l.getD i 0) := by
  rw [List.getD_eq_getElem?_getD, List.getElem?_eq_getElem h]
  rfl
theorem M_reserve (H : hRep g w0 σ gh S J) (hC : hCache g w0 gh S) (hF : mFix S) (hW : mW S) (hA : mAv S) (hP : mPart S) (hCm : mCmp S) (hO2 : mOrd2 S) (hQ : mOq S o) (hem : sE S 38 o = []) (hem2 : sE S 39 o = []) (ha : hat gh S 11 0 a) (hb : hat gh S 15 o b) :
    zM g 104 229 [.ref a, .ref b] σ (fun r σ' => r = .inl (some (iv (bi (mRA S o).2.1))) ∧ ∃ ghx, gext S gh ghx ∧ hRep g w0 σ' ghx (mRA S o).1 J ∧ kc σ σ' (mRA S o).2.2.1 (mRA S o).2.2.2 ∧ mResI g w0 ghx S (mRAN S o (mComps S o).length).1 o) := by
  obtain ⟨hq, hq3, hq1, hq1'⟩ := hQ
  obtain ⟨pi, hpi⟩ : ∃ p : Nat, sT S 15 1 o = p := ⟨(sT S 15 1 o).toNat, (Int.toNat_of_nonneg hq1).symm⟩
  have hpl : pi < sn S 13 := by omega
  obtain ⟨p0, p2, p3, p4, p5⟩ := hP pi hpl
  obtain ⟨o6, o7, o16, olen, o1000, l38, l39, l40⟩ := hO2 o hb.1
  have hFx := hF
  obtain ⟨f0, f1, f2, f3, f4, f5, f6, f7, f8, f9, fa, fb, fc, fd, fe⟩ := hF
  have hxs : mComps S o = sE S 36 (sT S 13 2 pi).toNat := by unfold mComps; rw [hpi, Int.toNat_natCast]
  have hcl : sT S 13 2 pi = ((sT S 13 2 pi).toNat : Nat) := (Int.toNat_of_nonneg p2).symm
  have hlen4 : (mComps S o).length ≤ 4 := by rw [hxs]; exact p4
  have hI0 : mResI g w0 gh S S o := ⟨hW, hA, hC, olen, fun _ _ => rfl, Nat.le_refl _, fun _ _ _ _ => rfl, fun _ _ _ _ _ => rfl, fun _ _ _ _ _ => rfl⟩
  refine zW_p 1 rfl ?_
  refine hW_getr (j := 0) H rfl ha rfl rfl rfl f2 (fun b0 hb0 => ?_)
  refine zW_p 1 rfl ?_
  refine hW_get H rfl hb rfl rfl rfl ?_
  rw [hpi]
  refine hW_lget (y := pi) H rfl rfl rfl hb0 rfl rfl rfl (by rw [f8]; exact idl_at hpl) rfl (by omega) (fun b1 hb1 => ?_)
  refine hW_cast H rfl hb1 rfl rfl rfl ?_
  refine hW_getr H rfl hb1 rfl rfl rfl hcl (fun b2 hb2 => ?_)
  refine hW_iter H rfl rfl rfl hb2 rfl rfl rfl (by omega) (fun σ1 it hJ H1 k1 => ?_)
  refine zW_p 1 rfl ?_
  refine zW_lv ((2, .ref it) :: [(0, .ref a), (1, .ref b)]) rfl ⟨rfl, rfl, rfl, trivial⟩ ?_
  refine hW_loop (c := 36) (i := (sT S 13 2 pi).toNat) (b := b2) (n := 46) (xs := mComps S o) (mc := Int32.ofInt (sM S 36 (sT S 13 2 pi).toNat)) (fun p lv κ gh' S' => lv = [(0, .ref a), (1, .ref b)] ∧ gext S gh gh' ∧ S' = (mRAN S o p).1 ∧ (mRAN S o p).2.1 = true ∧ mResI g w0 gh' S S' o ∧ (sE S' 38 o).length ≤ p * 100 ∧ kd σ.2 κ (mRAN S o p).2.2.1 (mRAN S o p).2.2.2) hJ rfl rfl rfl (fun _ => rfl) rfl rfl rfl (fun _ => rfl) (fun _ => rfl) rfl rfl rfl (by omega) ?_ ?_ ?_ _ _ _ _ H1 ⟨rfl, gext_rfl, rfl, rfl, hI0, by rw [hem]; exact Nat.zero_le _, k1⟩
  · rintro p lv κ gh' S' ⟨rfl, hx, hS', hok, hi, hl, hk⟩
    exact ⟨hx.hat hi.le hb2, (hi.2.2.2.2.2.2.1 36 _ (by decide) (by omega)).trans hxs.symm, by rw [hi.2.2.2.2.2.2.2.1 36 _ (by decide) (by decide) (by decide)]⟩
  · rintro p y lv σ2 gh' S' J2 e hp hy2 ⟨rfl, hx, hS', hok, hi, hl, hk⟩ H2 hd he hback
    have hs : mRAN S o (p + 1) = mRAstep o (mRAN S o p) (y : Int) := by
      unfold mRAN
      rw [take_snoc hy2, List.foldl_append]
      rfl
    have hstop : mRAN S o (mComps S o).length = ((mComps S o).drop (p + 1)).foldl (mRAstep o) (mRAN S o (p + 1)) := by
      unfold mRAN
      rw [List.take_length]
      conv => lhs; rw [← List.take_append_drop (p + 1) (mComps S o)]
      rw [List.foldl_append]
    generalize hL : mRAN S o p = L at hS' hok hk hs
    obtain ⟨U, ok, ct, sl⟩ := L
    simp only at hS' hok hk hs
    subst hS'
    subst hok
    have eT : ∀ c k i, c ≠ 19 → ¬ (c = 14 ∧ k = 3) → sT S' c k i = sT S c k i := fun c k i hc hk => hi.2.2.2.2.2.2.2.2 c k i (fun e => hc e.1) hk
    have eE : ∀ c i, c ≠ 19 → c ≠ 38 → c ≠ 39 → sE S' c i = sE S c i := fun c i hc h38 h39 => hi.2.2.2.2.2.2.1 c i hc (by omega)
    have hbx : hat gh' S' 15 o b := hx.hat hi.le hb
    have hax : hat gh' S' 11 0 a := hx.hat hi.le ha
    have hmem : (y : Int) ∈ sE S 36 (sT S 13 2 pi).toNat := by rw [← hxs]; exact List.mem_of_getElem? hy2
    obtain ⟨q1, q2, q3, q4⟩ := hCm pi hpl _ hmem
    rw [Int.toNat_natCast] at q1 q2 q3 q4
    have eCp : ∀ i, mCp S' y i = mCp S y i := fun i => by unfold mCp; rw [eE 46 y (by decide) (by decide) (by decide)]
    have at46 : ∀ i, i < 3 → (sE S' 46 y)[i]? = some (mCp S' y i) := fun i h3 => by
      unfold mCp
      rw [eE 46 y (by decide) (by decide) (by decide)]
      exact getD_at (by omega)
    unfold mRAstep at hs
    simp only at hs
    rw [if_neg (by decide), Int.toNat_natCast] at hs
    have hdue : 0 ≤ mDue S' o y ∧ mDue S' o y ≤ 900 := by
      unfold mDue
      split
      · rw [eCp, eT 15 2 o (by decide) (by omega)]
        obtain ⟨hq1, hq2⟩ := hq
        obtain ⟨hq5, hq4⟩ := q3
        refine ⟨Int.mul_nonneg (by omega) (by omega), ?_⟩
        have h1 : sT S 15 2 o * mCp S y 1 ≤ 100 * mCp S y 1 := Int.mul_le_mul_of_nonneg_right hq2 (by omega)
        omega
      · omega
    have J1 : ∀ (du : Int) (lv : zp_L), du = mDue S' o y → lvok [(0, .ref a), (1, .ref b), (2, .ref it), (3, .ref e)] lv → zW g 104 229 69 lv [iv du] σ2 (fun r σ' => r = .inl (some (iv (bi (mRA S o).2.1))) ∧ ∃ ghx, gext S gh ghx ∧ hRep g w0 σ' ghx (mRA S o).1 J ∧ kc σ σ' (mRA S o).2.2.1 (mRA S o).2.2.2 ∧ mResI g w0 ghx S (mRAN S o (mComps S o).length).1 o) := by
      intro du lv hdu hlv
      refine zW_ly hlv rfl ?_
      rw [← hdu] at hs hdue
      refine zW_p 3 rfl ?_
      refine zW_lv [(0, .ref a), (1, .ref b), (2, .ref it), (3, .ref e), (4, iv du), (5, iv (0 : Nat))] rfl ⟨rfl, rfl, rfl, rfl, rfl, rfl, trivial⟩ ?_
      have hI1 : mResI g w0 gh' S' S' o := ⟨hi.1, hi.2.1, hi.2.2.1, hi.2.2.2.1, fun _ _ => rfl, Nat.le_refl _, fun _ _ _ _ => rfl, fun _ _ _ _ _ => rfl, fun _ _ _ _ _ => rfl⟩
      refine M_resLots (pt := mCp S' y 0) H2 hI1 (mFix_res hi hFx) (by rw [eT 15 6 o (by decide) (by omega)]; exact o6) (by rw [eT 15 7 o (by decide) (by omega)]; exact o7) hax hbx he (at46 0 (by decide)) (by rw [eCp]; exact q2) hdue (by omega) (fun σ3 gh3 H3 gx3 hi3 hle3 hl3 hk3 => ?_)
      have gx : gext S gh gh3 := gext.trans hx gx3 hi.le
      have hi5 := hi.trans hi3
      refine zW_p 1 rfl ?_
      by_cases h0 : (mResN S' o (mCp S' y 0) du (sn S' 14)).2.1 ≤ 0
      · rw [decide_eq_true h0] at hs
        refine zW_t rfl rfl ((I_le0 ⟨by omega, by omega⟩).mpr h0) ?_
        refine zW_p 1 rfl ?_
        refine zW_lv ((2, .ref it) :: [(0, .ref a), (1, .ref b)]) rfl ⟨rfl, rfl, rfl, trivial⟩ ?_
        refine hback _ σ3 gh3 _ H3 ⟨rfl, gx, by rw [hs], by rw [hs], hi5, ?_, by rw [hs]; exact hk.trans hk3⟩
        have h6 : sn S' 14 ≤ 100 := by rw [hi.2.2.2.2.1 14 (by decide)]; exact fd
        omega
      · rw [decide_eq_false h0] at hs
        refine zW_f rfl rfl (fun q => h0 ((I_le0 ⟨by omega, by omega⟩).mp q)) ?_
        have hfin : mRAN S o (mComps S o).length = mRAN S o (p + 1) := by rw [hstop]; exact mRA_stop (by rw [hs]) _
        have hok5 : (mRAN S o (mComps S o).length).2.1 = false := by rw [hfin, hs]
        have e1 : (mRAN S o (mComps S o).length).1 = (mResN S' o (mCp S' y 0) du (sn S' 14)).1 := by rw [hfin, hs]
        have e2 : (mRAN S o (mComps S o).length).2.2 = (ct + (mResN S' o (mCp S' y 0) du (sn S' 14)).2.2.1, sl + (mResN S' o (mCp S' y 0) du (sn S' 14)).2.2.2) := by rw [hfin, hs]
        have H3' := hd _ _ _ H3
        have hbx3 : hat gh3 (mResN S' o (mCp S' y 0) du (sn S' 14)).1 15 o b := gx.hat hi5.le hb
        have hax3 : hat gh3 (mResN S' o (mCp S' y 0) du (sn S' 14)).1 11 0 a := gx.hat hi5.le ha
        have hO3 : mOrd2 (mResN S' o (mCp S' y 0) du (sn S' 14)).1 := by
          intro i hin
          have n15 := hi5.2.2.2.2.1 15 (by decide)
          rw [n15] at hin
          obtain ⟨u1, u2, u3, u4, u5, u6, u7, u8⟩ := hO2 i hin
          have eT5 := hi5.2.2.2.2.2.2.2.2
          have eE5 := hi5.2.2.2.2.2.2.1
          have eN5 := hi5.2.2.2.2.1
          rw [eT5 15 6 i (by omega) (by omega), eT5 15 7 i (by omega) (by omega), eT5 15 16 i (by omega) (by omega), eN5 38 (by decide), eN5 39 (by decide), eN5 40 (by decide)]
          refine ⟨u1, u2, u3, ?_, ?_, u6, u7, u8⟩
          · by_cases e : i = o
            · rw [e]; exact hi5.2.2.2.1
            · rw [eE5 38 i (by decide) (by omega), eE5 39 i (by decide) (by omega)]; exact u4
          · by_cases e : i = o
            · rw [e]
              have h6 : sn S' 14 ≤ 100 := by rw [hi.2.2.2.2.1 14 (by decide)]; exact fd
              omega
            · rw [eE5 38 i (by decide) (by omega)]; exact u5
        refine zW_p 2 rfl ?_
        obtain ⟨σ5, g5, H5, k5⟩ := M_free (a := a) H3' hO3 hbx3
        refine wV rfl rfl rfl rfl rfl rfl rfl (H3'.rc hax3 rfl rfl) g5 (by omega) ?_
        refine zW_p 2 rfl ?_
        unfold mRA
        rw [if_neg (by rw [hok5]; decide), e1, e2]
        exact zW_reti rfl rfl rfl ⟨rfl, gh3, gx, H5, ((hk.trans hk3).trans k5).mono (Nat.le_refl _) (Nat.le_refl _), hi5⟩
    refine hW_castI H2 rfl he rfl ?_
    refine zW_p 3 rfl ?_
    refine hW_iald (j := 2) H2 rfl he (at46 2 (by decide)) (by omega) ?_
    refine zW_p 1 rfl ?_
    have r2 : rg (mCp S' y 2) := by rw [eCp]; exact q4
    have r3 : rg (sT S' 15 3 o) := by rw [eT 15 3 o (by decide) (by omega)]; exact hq3
    have yes : ∀ lv : zp_L, mFor S' y (sT S' 15 3 o) = true → lvok [(0, .ref a), (1, .ref b), (2, .ref it), (3, .ref e)] lv → zW g 104 229 57 lv [] σ2 (fun r σ' => r = .inl (some (iv (bi (mRA S o).2.1))) ∧ ∃ ghx, gext S gh ghx ∧ hRep g w0 σ' ghx (mRA S o).1 J ∧ kc σ σ' (mRA S o).2.2.1 (mRA S o).2.2.2 ∧ mResI g w0 ghx S (mRAN S o (mComps S o).length).1 o) := by
      intro lv hf hlv
      refine zW_ly hlv rfl ?_
      refine zW_p 1 rfl ?_
      refine hW_get H2 rfl hbx rfl rfl rfl ?_
      refine zW_p 2 rfl ?_
      refine hW_iald (j := 1) H2 rfl he (at46 1 (by decide)) (by omega) ?_
      refine zW_p 1 rfl ?_
      rw [I_mul]
      refine zW_p 1 rfl ?_
      exact J1 _ _ (by unfold mDue; rw [if_pos hf]) ⟨rfl, rfl, rfl, rfl, trivial⟩
    by_cases c1 : mCp S' y 2 = -1
    · refine zW_t rfl rfl (by rw [c1]) ?_
      exact yes _ (by unfold mFor; rw [decide_eq_true c1]; rfl) ⟨rfl, rfl, rfl, rfl, trivial⟩
    · refine zW_f rfl rfl (fun q => c1 ((I_eq (b := -1) r2 ⟨by decide, by decide⟩).mp q)) ?_
      refine zW_p 2 rfl ?_
      refine hW_iald (j := 2) H2 rfl he (at46 2 (by decide)) (by omega) ?_
      refine zW_p 1 rfl ?_
      refine hW_get H2 rfl hbx rfl rfl rfl ?_
      by_cases c2 : mCp S' y 2 = sT S' 15 3 o
      · refine zW_f rfl rfl (fun q => q (by rw [c2])) ?_
        exact yes _ (by unfold mFor; rw [decide_eq_true c2, Bool.or_true]) ⟨rfl, rfl, rfl, rfl, trivial⟩
      · refine zW_t rfl rfl (fun q => c2 ((I_eq r2 r3).mp q)) ?_
        refine zW_p 1 rfl ?_
        exact J1 0 _ (by unfold mDue mFor; rw [decide_eq_false c1, decide_eq_false c2, if_neg (by decide)]) ⟨rfl, rfl, rfl, rfl, trivial⟩
  · rintro lv σ2 gh' S' H2 ⟨rfl, hx, hS', hok, hi, hl, hk⟩
    subst hS'
    have hbx : hat gh' (mRAN S o (mComps S o).length).1 15 o b := hx.hat hi.le hb
    refine zW_p 2 rfl ?_
    refine hW_put (v := 112) H2 rfl hbx rfl rfl rfl (Or.inl rfl) rfl rfl rfl alv0 (fun e => absurd e (by decide)) (fun σ6 H6 e6 => ?_)
    refine zW_p 1 rfl ?_
    unfold mRA
    rw [if_pos hok]
    exact zW_reti rfl rfl rfl ⟨rfl, gh', hx, H6, (hk.trans (kc.of e6)).mono (Nat.le_refl _) (Nat.le_refl _), hi⟩
end ZMPR
