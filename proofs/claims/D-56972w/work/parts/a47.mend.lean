/-! THE MODEL: end, advance -/
set_option maxRecDepth 100000
def mWk (S : hS) (m : Nat) : Nat := (sT S 12 9 m).toNat
def mEnd0 (S : hS) (m : Nat) : hS := sset S 12 6 m 45
def mEnd1 (S : hS) (m : Nat) : hS := sset (sset (mEnd0 S m) 12 10 m (sT S 12 10 m + (sT S 11 8 0 - sT S 12 8 m))) 12 5 m (sT S 12 5 m + sT S 15 8 (mWk S m))
def mEnd2 (S : hS) (m : Nat) : hS := if sT S 12 2 m ≤ sT S 12 5 m + sT S 15 8 (mWk S m) then sset (sset (sset (mEnd1 S m) 12 5 m 0) 12 6 m 98) 12 7 m (sT S 11 8 0 + sT S 12 3 m) else mEnd1 S m
def mEnd3 (S : hS) (m : Nat) : hS := sset (mEnd2 S m) 15 9 (mWk S m) (sT S 15 9 (mWk S m) + 1)
def mEnd (S : hS) (m : Nat) : hS := if sT S 12 6 m = 111 then mGoOn (mEnd3 S m) (mWk S m) else mEnd0 S m
def mGoOk (T : hS) (o : Nat) : Prop := mFix T ∧ mPart T ∧ mOps T ∧ mOrd T ∧ mMach T ∧ sT T 15 6 o = (o : Nat) ∧ (0 ≤ sT T 15 1 o ∧ sT T 15 1 o < sn T 13) ∧ rg (sT T 15 8 o) ∧ (0 ≤ sT T 15 9 o ∧ sT T 15 9 o ≤ 1000) ∧ (0 < sT T 15 8 o → (mOpL T o).length ≤ (sT T 15 9 o).toNat → sn T 14 < 100 ∧ (sE T 38 o).length ≤ 1000)
def mEndOk (S : hS) (m : Nat) : Prop := sT S 12 6 m = 111 → 0 ≤ sT S 12 9 m ∧ rg (sT S 12 5 m + sT S 15 8 (mWk S m)) ∧ rg (sT S 12 2 m) ∧ mGoOk (mEnd3 S m) (mWk S m)
def mEk (S : hS) (m : Nat) : Nat × Nat := if sT S 12 6 m = 111 then (5, 320 + 3 * (sE S 38 (mWk S m)).length) else (0, 0)
def mDueM (S : hS) (m : Nat) : Bool := decide (sT S 12 6 m ≠ 45) && decide (sT S 12 7 m = sT S 11 8 0)
theorem mEnd2_sn {S : hS} {m c : Nat} : sn (mEnd2 S m) c = sn S c := by
  unfold mEnd2
  split <;> rfl
theorem mEnd2_E {S : hS} {m c i : Nat} : sE (mEnd2 S m) c i = sE S c i ∧ sM (mEnd2 S m) c i = sM S c i := by
  unfold mEnd2
  split <;> exact ⟨rfl, rfl⟩
theorem mEnd2_T {S : hS} {m c k i : Nat} (h : ¬ (c = 12 ∧ (k = 6 ∨ k = 10 ∨ k = 5 ∨ k = 7))) : sT (mEnd2 S m) c k i = sT S c k i := by
  unfold mEnd2 mEnd1 mEnd0
  split
  · rw [sT_set, if_neg (by omega), sT_set, if_neg (by omega), sT_set, if_neg (by omega), sT_set, if_neg (by omega), sT_set, if_neg (by omega), sT_set, if_neg (by omega)]
  · rw [sT_set, if_neg (by omega), sT_set, if_neg (by omega), sT_set, if_neg (by omega)]
theorem mEnd3_sn {S : hS} {m c : Nat} : sn (mEnd3 S m) c = sn S c := mEnd2_sn
theorem mEnd_le {S : hS} {m c : Nat} : sn S c ≤ sn (mEnd S m) c := by
  unfold mEnd
  split
  · exact Nat.le_trans (Nat.le_of_eq mEnd3_sn.symm) mGoOn_le
  · exact Nat.le_refl _
theorem mGoOn_E {S : hS} {o c i : Nat} (h14 : c ≠ 14) (h41 : c ≠ 41) (h32 : c ≠ 32) : sE (mGoOn S o) c i = sE S c i ∧ sM (mGoOn S o) c i = sM S c i := by
  unfold mGoOn
  split
  · exact ⟨rfl, rfl⟩
  · unfold mFin
    split
    · unfold mFinB mLotS kMLot
      simp only [sE_set, sM_set, sE_ssE, sM_ssE, sE_w, sM_w]
      refine ⟨?_, ?_⟩ <;> rw [if_neg (fun e => h41 e.1), if_neg (fun e => h32 e.1), if_neg (fun e => h41 e.1), if_neg (fun e => h14 e.1)] <;> rfl
    · exact ⟨rfl, rfl⟩
theorem mEnd_E {S : hS} {m c i : Nat} (h14 : c ≠ 14) (h41 : c ≠ 41) (h32 : c ≠ 32) : sE (mEnd S m) c i = sE S c i ∧ sM (mEnd S m) c i = sM S c i := by
  unfold mEnd
  split
  · have h1 := mGoOn_E (S := mEnd3 S m) (o := mWk S m) (i := i) h14 h41 h32
    have h2 := mEnd2_E (S := S) (m := m) (c := c) (i := i)
    exact ⟨h1.1.trans h2.1, h1.2.trans h2.2⟩
  · exact ⟨rfl, rfl⟩
abbrev mEst : Type := hS × Nat × Nat
def mEndStep (s : mEst) (m : Nat) : mEst := if mDueM s.1 m = true then (mEnd s.1 m, s.2.1 + (mEk s.1 m).1, s.2.2 + (mEk s.1 m).2) else s
def mEndN (S : hS) (p : Nat) : mEst := (List.range p).foldl mEndStep (S, 1, 4)
theorem mEndN_succ {S : hS} {n : Nat} : mEndN S (n + 1) = mEndStep (mEndN S n) n := by
  unfold mEndN
  rw [List.range_succ, List.foldl_append]
  rfl
theorem mEndN_le {S : hS} {c : Nat} : ∀ p : Nat, sn S c ≤ sn (mEndN S p).1 c
  | 0 => Nat.le_refl _
  | p + 1 => by
    rw [mEndN_succ]
    refine Nat.le_trans (mEndN_le p) ?_
    unfold mEndStep
    split
    · exact mEnd_le
    · exact Nat.le_refl _
theorem mEndN_E {S : hS} {c i : Nat} (h14 : c ≠ 14) (h41 : c ≠ 41) (h32 : c ≠ 32) : ∀ p : Nat, sE (mEndN S p).1 c i = sE S c i ∧ sM (mEndN S p).1 c i = sM S c i
  | 0 => ⟨rfl, rfl⟩
  | p + 1 => by
    rw [mEndN_succ]
    have ih := mEndN_E (S := S) (i := i) h14 h41 h32 p
    unfold mEndStep
    split
    · have h1 := mEnd_E (S := (mEndN S p).1) (m := p) (i := i) h14 h41 h32
      exact ⟨h1.1.trans ih.1, h1.2.trans ih.2⟩
    · exact ih
section ZMEN
variable {g : zG} {w0 : hG} {σ : zS} {gh : Nat → Nat → Nat} {S T : hS} {J : zw_W} {a b o m : Nat} {u v : Int} {Q : Option Value ⊕ String → zS → Prop}
theorem M_goOnK (H : hRep g w0 σ gh T J) (ha : hat gh T 11 0 a) (hb : hat gh T 15 o b) (h : mGoOk T o) :
    ∃ σ' : zS, zEnd g 8 237 [.ref a, .ref b] σ (.inl none) σ' ∧ ∃ ghx, gext T gh ghx ∧ hRep g w0 σ' ghx (mGoOn T o) J ∧ kc σ σ' 5 (320 + 3 * (sE T 38 o).length) := by
  obtain ⟨h1, h2, h3, h4, h5, h6, h7, h8, h9, ha'⟩ := h
  exact M_goOn H h1 h2 h3 h4 h5 h6 ha hb h7 h8 h9 ha'
theorem M_end (H : hRep g w0 σ gh S J) (hF : mFix S) (hE : ∀ p : Nat, p < sn S 12 → mMach (mEndN S p).1 ∧ rg (sT (mEndN S p).1 12 7 p) ∧ rg (sT (mEndN S p).1 11 8 0) ∧ (mDueM (mEndN S p).1 p = true → mEndOk (mEndN S p).1 p)) (ha : hat gh S 11 0 a) :
    ∃ σ' : zS, zEnd g 9 243 [.ref a] σ (.inl none) σ' ∧ ∃ ghx, gext S gh ghx ∧ hRep g w0 σ' ghx (mEndN S (sn S 12)).1 J ∧ kc σ σ' (mEndN S (sn S 12)).2.1 (mEndN S (sn S 12)).2.2 := by
  obtain ⟨f0, f1, f2, f3, f4, f5, f6, f7, f8, f9, fa, fb, fc, fd, fe⟩ := hF
  have main : zW g 9 243 0 (lv_args 0 [.ref a]) [] σ (fun r σ' => r = .inl none ∧ ∃ ghx, gext S gh ghx ∧ hRep g w0 σ' ghx (mEndN S (sn S 12)).1 J ∧ kc σ σ' (mEndN S (sn S 12)).2.1 (mEndN S (sn S 12)).2.2) := by
    generalize hQQ : (fun (r : Option Value ⊕ String) (σ' : zS) => r = .inl none ∧ ∃ ghx, gext S gh ghx ∧ hRep g w0 σ' ghx (mEndN S (sn S 12)).1 J ∧ kc σ σ' (mEndN S (sn S 12)).2.1 (mEndN S (sn S 12)).2.2) = QQ
    refine zW_p 1 rfl ?_
    refine hW_getr (j := 0) H rfl ha rfl rfl rfl f1 (fun b0 hb0 => ?_)
    refine hW_iter H rfl rfl rfl hb0 rfl rfl rfl (by omega) (fun σ1 it hJ H1 k1 => ?_)
    refine zW_p 1 rfl ?_
    refine zW_lv ((1, .ref it) :: [(0, .ref a)]) rfl ⟨rfl, rfl, trivial⟩ ?_
    refine hW_loop (c := 30) (i := 0) (b := b0) (n := 12) (xs := sE S 30 0) (mc := Int32.ofInt (sM S 30 0)) (fun p lv κ gh' S' => lv = [(0, .ref a)] ∧ gext S gh gh' ∧ S' = (mEndN S p).1 ∧ kd σ.2 κ (mEndN S p).2.1 (mEndN S p).2.2) hJ rfl rfl rfl (fun _ => rfl) rfl rfl rfl (fun _ => rfl) (fun _ => rfl) rfl rfl rfl (by omega) ?_ ?_ ?_ _ _ _ _ H1 ⟨rfl, gext_rfl, rfl, k1.kd⟩
    · rintro p lv κ gh' S' ⟨rfl, hx, rfl, hk⟩
      have hE2 := mEndN_E (S := S) (c := 30) (i := 0) (by decide) (by decide) (by decide) p
      exact ⟨hx.hat (fun c => mEndN_le p) hb0, hE2.1, by rw [hE2.2]⟩
    · rintro p y lv σ2 gh' S' J2 e hp hy ⟨rfl, hx, rfl, hk⟩ H2 hd he hback
      rw [f7, idl_len] at hp
      rw [f7, idl_at hp] at hy
      obtain rfl : p = y := by have := Option.some.inj hy; omega
      obtain ⟨q1, q2, q3, q4⟩ := hE p hp
      have hax : hat gh' (mEndN S p).1 11 0 a := hx.hat (fun c => mEndN_le p) ha
      have hs := mEndN_succ (S := S) (n := p)
      unfold mEndStep at hs
      have lx : ∀ c, sn S c ≤ sn (mEndN S p).1 c := fun c => mEndN_le p
      generalize hT : mEndN S p = L at *
      obtain ⟨T, ct, sl⟩ := L
      simp only at q1 q2 q3 q4 hax hs he H2 hk lx
      have rs : rg (sT T 12 6 p) := by rcases q1 p he.1 with e | e | e <;> rw [e] <;> constructor <;> decide
      have skip : ∀ lv : zp_L, mDueM T p = false → lvok [(0, .ref a), (1, .ref it)] lv → zW g 9 243 156 lv [] σ2 QQ := by
        intro lv hdu hlv
        rw [hdu, if_neg (by decide)] at hs
        refine zW_ly hlv rfl ?_
        refine zW_p 1 rfl ?_
        refine zW_lv ((1, .ref it) :: [(0, .ref a)]) rfl ⟨rfl, rfl, trivial⟩ ?_
        exact hback _ σ2 _ _ H2 ⟨rfl, hx, by rw [hs], by rw [hs]; exact hk⟩
      refine hW_cast H2 rfl he rfl rfl rfl ?_
      refine zW_p 2 rfl ?_
      refine hW_get H2 rfl he rfl rfl rfl ?_
      refine zW_p 1 rfl ?_
      by_cases e45 : sT T 12 6 p = 45
      · refine zW_t rfl rfl ((I_eq rs (by constructor <;> decide)).2 e45) ?_
        exact skip _ (by unfold mDueM; rw [decide_eq_false (fun q => q e45)]; rfl) ⟨rfl, rfl, trivial⟩
      · refine zW_f rfl rfl (fun q => e45 ((I_eq rs (by constructor <;> decide)).1 q)) ?_
        refine zW_p 1 rfl ?_
        refine hW_get H2 rfl he rfl rfl rfl ?_
        refine zW_p 1 rfl ?_
        refine hW_get H2 rfl hax rfl rfl rfl ?_
        by_cases e7 : sT T 12 7 p = sT T 11 8 0
        · have hdu : mDueM T p = true := by unfold mDueM; rw [decide_eq_true e45, decide_eq_true e7]; rfl
          rw [hdu, if_pos rfl] at hs
          have hok := q4 hdu
          refine zW_f rfl rfl (fun q => q (by rw [e7])) ?_
          refine zW_p 1 rfl ?_
          refine hW_get H2 rfl he rfl rfl rfl ?_
          refine zW_p 1 rfl ?_
          by_cases e111 : sT T 12 6 p = 111
          · obtain ⟨h9, rw', rl, hG⟩ := hok e111
            have hek : mEk T p = (5, 320 + 3 * (sE T 38 (mWk T p)).length) := by unfold mEk; rw [if_pos e111]
            have hme : mEnd T p = mGoOn (mEnd3 T p) (mWk T p) := by unfold mEnd; rw [if_pos e111]
            rw [hek, hme] at hs
            have hw9 : sT T 12 9 p = (mWk T p : Nat) := (Int.toNat_of_nonneg h9).symm
            refine zW_f rfl rfl (fun q => q ((I_eq rs (by constructor <;> decide)).2 e111)) ?_
            refine zW_p 1 rfl ?_
            refine hW_getr (j := mWk T p) H2 rfl he rfl rfl rfl hw9 (fun b1 hb1 => ?_)
            refine zW_p 4 rfl ?_
            refine hW_put (v := 45) H2 rfl he rfl rfl rfl (Or.inl rfl) rfl rfl rfl alv0 (fun e => absurd e (by decide)) (fun σ3 H3 e3 => ?_)
            have H3' : hRep g w0 σ3 gh' (mEnd0 T p) J2 := H3
            have t0 : ∀ c k i, ¬ (c = 12 ∧ k = 6) → sT (mEnd0 T p) c k i = sT T c k i := fun c k i h => by
              unfold mEnd0
              rw [sT_set, if_neg (by omega)]
            refine zW_p 4 rfl ?_
            refine hW_get H3' rfl (show hat gh' (mEnd0 T p) 12 p e from he) rfl rfl rfl ?_
            rw [t0 12 10 p (by omega)]
            refine zW_p 1 rfl ?_
            refine hW_get H3' rfl (show hat gh' (mEnd0 T p) 11 0 a from hax) rfl rfl rfl ?_
            rw [t0 11 8 0 (by omega)]
            refine zW_p 1 rfl ?_
            refine hW_get H3' rfl (show hat gh' (mEnd0 T p) 12 p e from he) rfl rfl rfl ?_
            rw [t0 12 8 p (by omega)]
            refine zW_p 1 rfl ?_
            rw [I_sub]
            refine zW_p 1 rfl ?_
            rw [I_add]
            refine hW_put (v := sT T 12 10 p + (sT T 11 8 0 - sT T 12 8 p)) H3' rfl (show hat gh' (mEnd0 T p) 12 p e from he) rfl rfl rfl (Or.inl rfl) rfl rfl rfl alv0 (fun e => absurd e (by decide)) (fun σ4 H4 e4 => ?_)
            refine zW_p 2 rfl ?_
            refine hW_get H4 rfl (show hat gh' (mEnd0 T p) 12 p e from he) rfl rfl rfl ?_
            rw [sT_set, if_neg (by omega), t0 12 5 p (by omega)]
            refine zW_p 1 rfl ?_
            refine hW_get H4 rfl (show hat gh' (mEnd0 T p) 15 (mWk T p) b1 from hb1) rfl rfl rfl ?_
            rw [sT_set, if_neg (by omega), t0 15 8 _ (by omega)]
            refine zW_p 1 rfl ?_
            rw [I_add]
            refine hW_put (v := sT T 12 5 p + sT T 15 8 (mWk T p)) H4 rfl (show hat gh' (mEnd0 T p) 12 p e from he) rfl rfl rfl (Or.inl rfl) rfl rfl rfl alv0 (fun e => absurd e (by decide)) (fun σ5 H5 e5 => ?_)
            have H5' : hRep g w0 σ5 gh' (mEnd1 T p) J2 := H5
            have t1 : ∀ c k i, ¬ (c = 12 ∧ (k = 6 ∨ k = 10 ∨ k = 5)) → sT (mEnd1 T p) c k i = sT T c k i := fun c k i h => by
              unfold mEnd1
              rw [sT_set, if_neg (by omega), sT_set, if_neg (by omega), t0 c k i (by omega)]
            have t15 : sT (mEnd1 T p) 12 5 p = sT T 12 5 p + sT T 15 8 (mWk T p) := by unfold mEnd1; rw [sT_set, if_pos ⟨rfl, rfl, rfl⟩]
            have he1 : hat gh' (mEnd1 T p) 12 p e := he
            have es5 : σ5.2 = σ2.2 := e5.trans (e4.trans e3)
            have fin : ∀ (σ6 : zS) (lv : zp_L), hRep g w0 σ6 gh' (mEnd2 T p) J2 → σ6.2 = σ2.2 → lvok [(0, .ref a), (1, .ref it), (3, .ref b1)] lv → zW g 9 243 141 lv [] σ6 QQ := by
              intro σ6 lv H6 e6 hlv
              have n2 : ∀ c, sn (mEnd2 T p) c = sn T c := fun c => mEnd2_sn
              have hb6 : hat gh' (mEnd2 T p) 15 (mWk T p) b1 := ⟨by rw [n2]; exact hb1.1, hb1.2⟩
              refine zW_ly hlv rfl ?_
              refine zW_p 2 rfl ?_
              refine hW_get H6 rfl hb6 rfl rfl rfl ?_
              rw [mEnd2_T (by omega)]
              refine zW_p 2 rfl ?_
              rw [I_add]
              refine hW_put (v := sT T 15 9 (mWk T p) + 1) H6 rfl hb6 rfl rfl rfl (Or.inl rfl) rfl rfl rfl alv0 (fun e => absurd e (by decide)) (fun σ7 H7 e7' => ?_)
              have H7' : hRep g w0 σ7 gh' (mEnd3 T p) J2 := H7
              have ha7 : hat gh' (mEnd3 T p) 11 0 a := ⟨by rw [mEnd3_sn]; exact hax.1, hax.2⟩
              have hb7 : hat gh' (mEnd3 T p) 15 (mWk T p) b1 := ⟨by rw [mEnd3_sn]; exact hb1.1, hb1.2⟩
              obtain ⟨σ8, g8, ghx, x8, H8, k8⟩ := M_goOnK H7' ha7 hb7 hG
              have e38 : sE (mEnd3 T p) 38 (mWk T p) = sE T 38 (mWk T p) := mEnd2_E.1
              rw [e38] at k8
              refine zW_p 2 rfl ?_
              refine wV rfl rfl rfl rfl rfl rfl rfl (H7'.rc ha7 rfl rfl) g8 (by omega) ?_
              refine zW_p 1 rfl ?_
              refine zW_lv ((1, .ref it) :: [(0, .ref a)]) rfl ⟨rfl, rfl, trivial⟩ ?_
              refine hback _ σ8 ghx _ H8 ⟨rfl, gext.trans hx (fun c i hi => x8 c i (by rw [mEnd3_sn]; exact hi)) lx, by rw [hs], ?_⟩
              rw [hs]
              exact kd.trans hk (kc.same (e7'.trans e6) k8).kd
            refine zW_p 1 rfl ?_
            refine hW_get H5' rfl he1 rfl rfl rfl ?_
            rw [t15]
            refine zW_p 1 rfl ?_
            refine hW_get H5' rfl he1 rfl rfl rfl ?_
            rw [t1 12 2 p (by omega)]
            by_cases hc : sT T 12 2 p ≤ sT T 12 5 p + sT T 15 8 (mWk T p)
            · refine zW_f rfl rfl (fun q => by have := (I_lt rw' rl).mp q; omega) ?_
              refine zW_p 2 rfl ?_
              refine hW_put (v := 0) H5' rfl he1 rfl rfl rfl (Or.inl rfl) rfl rfl rfl alv0 (fun e => absurd e (by decide)) (fun σ7 H7 e7' => ?_)
              refine zW_p 2 rfl ?_
              refine hW_put (v := 98) H7 rfl (show hat gh' (mEnd1 T p) 12 p e from he) rfl rfl rfl (Or.inl rfl) rfl rfl rfl alv0 (fun e => absurd e (by decide)) (fun σ8 H8 e8 => ?_)
              refine zW_p 2 rfl ?_
              refine hW_get H8 rfl (show hat gh' (mEnd1 T p) 11 0 a from hax) rfl rfl rfl ?_
              rw [sT_set, if_neg (by omega), sT_set, if_neg (by omega), t1 11 8 0 (by omega)]
              refine zW_p 1 rfl ?_
              refine hW_get H8 rfl (show hat gh' (mEnd1 T p) 12 p e from he) rfl rfl rfl ?_
              rw [sT_set, if_neg (by omega), sT_set, if_neg (by omega), t1 12 3 p (by omega)]
              refine zW_p 1 rfl ?_
              rw [I_add]
              refine hW_put (v := sT T 11 8 0 + sT T 12 3 p) H8 rfl (show hat gh' (mEnd1 T p) 12 p e from he) rfl rfl rfl (Or.inl rfl) rfl rfl rfl alv0 (fun e => absurd e (by decide)) (fun σ9 H9 e9 => ?_)
              refine fin σ9 _ ?_ (e9.trans (e8.trans (e7'.trans es5))) ⟨rfl, rfl, rfl, trivial⟩
              unfold mEnd2
              rw [if_pos hc]
              exact H9
            · refine zW_t rfl rfl ((I_lt rw' rl).mpr (by omega)) ?_
              refine fin σ5 _ ?_ es5 ⟨rfl, rfl, rfl, trivial⟩
              unfold mEnd2
              rw [if_neg hc]
              exact H5'
          · have hek : mEk T p = (0, 0) := by unfold mEk; rw [if_neg e111]
            have hme : mEnd T p = mEnd0 T p := by unfold mEnd; rw [if_neg e111]
            rw [hek, hme] at hs
            refine zW_t rfl rfl (fun q => e111 ((I_eq rs (by constructor <;> decide)).1 q)) ?_
            refine zW_p 4 rfl ?_
            refine hW_put (v := 45) H2 rfl he rfl rfl rfl (Or.inl rfl) rfl rfl rfl alv0 (fun e => absurd e (by decide)) (fun σ3 H3 e3 => ?_)
            refine zW_p 3 rfl ?_
            refine zW_lv ((1, .ref it) :: [(0, .ref a)]) rfl ⟨rfl, rfl, trivial⟩ ?_
            refine hback _ σ3 gh' _ H3 ⟨rfl, hx, by rw [hs]; rfl, ?_⟩
            rw [hs, e3]
            exact hk
        · refine zW_t rfl rfl (fun q => e7 ((I_eq q2 q3).1 q)) ?_
          exact skip _ (by unfold mDueM; rw [decide_eq_false e7, Bool.and_false]) ⟨rfl, rfl, trivial⟩
    · rintro lv σ2 gh' S' H2 ⟨rfl, hx, rfl, hk⟩
      rw [f7, idl_len] at H2 hk
      refine wW_ret rfl rfl rfl rfl ?_
      rw [← hQQ]
      exact ⟨rfl, gh', hx, H2, hk.kc⟩
  obtain ⟨r, σ', h1, rfl, h2⟩ := main
  exact ⟨σ', h1, h2⟩
/-- a tick: state, cells, slots -/
def mTick (s : mEst) : mEst :=
  (mBegL (sn (mEndN (sset s.1 11 8 0 (sT s.1 11 8 0 + 1)) (sn s.1 12)).1 12) (mEndN (sset s.1 11 8 0 (sT s.1 11 8 0 + 1)) (sn s.1 12)).1 0,
    s.2.1 + ((mEndN (sset s.1 11 8 0 (sT s.1 11 8 0 + 1)) (sn s.1 12)).2.1 + sn (mEndN (sset s.1 11 8 0 (sT s.1 11 8 0 + 1)) (sn s.1 12)).1 12),
    s.2.2 + ((mEndN (sset s.1 11 8 0 (sT s.1 11 8 0 + 1)) (sn s.1 12)).2.2 + 4 * sn (mEndN (sset s.1 11 8 0 (sT s.1 11 8 0 + 1)) (sn s.1 12)).1 12))
def mTicks (S : hS) : Nat → mEst
  | 0 => (S, 0, 0)
  | k + 1 => mTick (mTicks S k)
def mTickOk (S : hS) : Prop := mFix S ∧ (∀ p : Nat, p < sn S 12 → mMach (mEndN (sset S 11 8 0 (sT S 11 8 0 + 1)) p).1 ∧ rg (sT (mEndN (sset S 11 8 0 (sT S 11 8 0 + 1)) p).1 12 7 p) ∧ rg (sT (mEndN (sset S 11 8 0 (sT S 11 8 0 + 1)) p).1 11 8 0) ∧ (mDueM (mEndN (sset S 11 8 0 (sT S 11 8 0 + 1)) p).1 p = true → mEndOk (mEndN (sset S 11 8 0 (sT S 11 8 0 + 1)) p).1 p)) ∧
  mJI (mEndN (sset S 11 8 0 (sT S 11 8 0 + 1)) (sn S 12)).1
def mAdvCode (S : hS) (v : Int) : Int := if ¬ (1 ≤ v ∧ v ≤ 500) then 1 else if 5000 < sT S 11 8 0 + v then 2 else 0
theorem mBegL_sn {c : Nat} : ∀ (q : Nat) (S : hS) (i : Nat), sn (mBegL q S i) c = sn S c
  | 0, _, _ => rfl
  | q + 1, S, i => by
    show sn (mBegL q (mBegStep S i) (i + 1)) c = _
    rw [mBegL_sn q]
    unfold mBegStep
    cases mPick S i (sn S 15) with
    | none => rfl
    | some o => rfl
end ZMEN
