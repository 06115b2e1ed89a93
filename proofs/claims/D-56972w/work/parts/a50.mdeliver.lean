/-! THE MODEL: deliver -/
set_option maxRecDepth 100000
def mDelB (S : hS) (o : Nat) : Bool := decide (sT S 15 5 o = if mMadeO S o = true then 102 else 45)
def mDelC (S : hS) (v : Int) : Int := mC2 S v (mDelB S v.toNat)
def mAvl (S : hS) (l : Int) : Int := sT S 14 2 l.toNat - sT S 14 3 l.toNat
def mSrcSum (U : hS) (m p : Nat) : Int := (((sE U 42 m).take p).map (mAvl U)).sum
def mDvP (S : hS) (due : Int) (l : Int) : Int := imin (mAvl S l) due
def mDvStep (o : Nat) (s : fRst) (l : Int) : fRst := if 0 < mDvP s.1 s.2.1 l then (ssE (sset (mGive s.1 l.toNat (mDvP s.1 s.2.1 l)) 15 15 o (sT s.1 15 15 o + mCost s.1 l.toNat (mDvP s.1 s.2.1 l))) 40 o (sE s.1 40 o ++ [l]), s.2.1 - mDvP s.1 s.2.1 l, s.2.2.1 + 1, s.2.2.2 + (2 * (sE s.1 40 o).length + 12)) else s
def mDvN (U : hS) (o m p : Nat) : fRst := ((sE U 42 m).take p).foldl (mDvStep o) (U, sT U 15 2 o, 1, 4)
def mDvE (U : hS) (o m : Nat) : fRst := mDvN U o m (sE U 42 m).length
def mDvZ (U : hS) (o m : Nat) : hS := sset (sset (mDvE U o m).1 15 5 o 100) 15 14 o (sT U 11 8 0)
theorem mDv_keep {U : hS} {o m : Nat} (p : Nat) : (∀ c, sn (mDvN U o m p).1 c = sn U c) ∧ (∀ c i, ¬ (c = 40 ∧ i = o) → sE (mDvN U o m p).1 c i = sE U c i ∧ sM (mDvN U o m p).1 c i = sM U c i) ∧ (∀ c k i, ¬ (c = 14 ∧ (k = 2 ∨ k = 4)) → ¬ (c = 15 ∧ k = 15 ∧ i = o) → sT (mDvN U o m p).1 c k i = sT U c k i) := by
  unfold mDvN
  have key : ∀ (l : List Int) (s : fRst), ((∀ c, sn (l.foldl (mDvStep o) s).1 c = sn s.1 c) ∧ (∀ c i, ¬ (c = 40 ∧ i = o) → sE (l.foldl (mDvStep o) s).1 c i = sE s.1 c i ∧ sM (l.foldl (mDvStep o) s).1 c i = sM s.1 c i) ∧ (∀ c k i, ¬ (c = 14 ∧ (k = 2 ∨ k = 4)) → ¬ (c = 15 ∧ k = 15 ∧ i = o) → sT (l.foldl (mDvStep o) s).1 c k i = sT s.1 c k i)) := by
    intro l
    induction l with
    | nil => intro s; exact ⟨fun _ => rfl, fun _ _ _ => ⟨rfl, rfl⟩, fun _ _ _ _ _ => rfl⟩
    | cons x l ih =>
      intro s
      rw [List.foldl_cons]
      obtain ⟨a1, a2, a3⟩ := ih (mDvStep o s x)
      have st : (∀ c, sn (mDvStep o s x).1 c = sn s.1 c) ∧ (∀ c i, ¬ (c = 40 ∧ i = o) → sE (mDvStep o s x).1 c i = sE s.1 c i ∧ sM (mDvStep o s x).1 c i = sM s.1 c i) ∧ (∀ c k i, ¬ (c = 14 ∧ (k = 2 ∨ k = 4)) → ¬ (c = 15 ∧ k = 15 ∧ i = o) → sT (mDvStep o s x).1 c k i = sT s.1 c k i) := by
        unfold mDvStep
        split
        · refine ⟨fun _ => rfl, fun c i h => ?_, fun c k i h h2 => ?_⟩
          · show sE (ssE _ 40 o _) c i = _ ∧ sM (ssE _ 40 o _) c i = _
            rw [sE_ssE, sM_ssE, if_neg h, if_neg h]
            exact ⟨rfl, rfl⟩
          · show sT (ssE _ 40 o _) c k i = _
            unfold mGive
            rw [sT_ssE, sT_set, if_neg h2, sT_set, if_neg (by omega), sT_set, if_neg (by omega)]
        · exact ⟨fun _ => rfl, fun _ _ _ => ⟨rfl, rfl⟩, fun _ _ _ _ _ => rfl⟩
      exact ⟨fun c => (a1 c).trans (st.1 c), fun c i h => ⟨(a2 c i h).1.trans (st.2.1 c i h).1, (a2 c i h).2.trans (st.2.1 c i h).2⟩, fun c k i h h2 => (a3 c k i h h2).trans (st.2.2 c k i h h2)⟩
  exact key _ _
/-- what giving asks for -/
def mDvOk (U : hS) (o m : Nat) : Prop := ∀ (p : Nat) (l : Int), (sE U 42 m)[p]? = some l → (0 ≤ (mDvN U o m p).2.1 ∧ (mDvN U o m p).2.1 ≤ 100) ∧ (0 ≤ sT (mDvN U o m p).1 14 3 l.toNat ∧ sT (mDvN U o m p).1 14 3 l.toNat ≤ sT (mDvN U o m p).1 14 2 l.toNat ∧ sT (mDvN U o m p).1 14 2 l.toNat ≤ 500) ∧ (sE (mDvN U o m p).1 40 o).length ≤ 1000 ∧ (0 < mDvP (mDvN U o m p).1 (mDvN U o m p).2.1 l → mGok (mDvN U o m p).1 l.toNat (mDvP (mDvN U o m p).1 (mDvN U o m p).2.1 l))
section ZMDV
variable {g : zG} {w0 : hG} {σ : zS} {gh : Nat → Nat → Nat} {S T U : hS} {J : zw_W} {a b o m mb : Nat} {v : Int} {lv : zp_L} {Q : Option Value ⊕ String → zS → Prop}
theorem M_dvGo (H : hRep g w0 σ gh U J) (ha : hat gh U 11 0 a) (hb : hat gh U 15 o b) (hm : hat gh U 42 m mb) (h16 : sT U 15 16 o = (o : Nat)) (hK : mDvOk U o m) (hlv : lvok [(0, .ref a), (2, .ref b), (3, .ref mb), (5, iv (sT U 15 2 o))] lv)
    (hQ : ∀ σ' : zS, hRep g w0 σ' gh (mDvZ U o m) J → kc σ σ' (mDvE U o m).2.2.1 (mDvE U o m).2.2.2 → Q (.inl (some (iv 1))) σ') :
    zW g 110 244 141 lv [] σ Q := by
  refine zW_ly hlv rfl ?_
  refine zW_p 1 rfl ?_
  refine hW_iter H rfl rfl rfl hm rfl rfl rfl (by omega) (fun σ1 it hJ H1 k1 => ?_)
  refine zW_p 1 rfl ?_
  refine zW_lv ((6, .ref it) :: [(0, .ref a), (2, .ref b), (5, iv (mDvN U o m 0).2.1)]) rfl ⟨rfl, rfl, rfl, rfl, trivial⟩ ?_
  refine hW_loop (c := 42) (i := m) (b := mb) (n := 14) (xs := sE U 42 m) (mc := Int32.ofInt (sM U 42 m)) (fun p lv κ gh' S' => lv = [(0, .ref a), (2, .ref b), (5, iv (mDvN U o m p).2.1)] ∧ gh' = gh ∧ S' = (mDvN U o m p).1 ∧ kd σ.2 κ (mDvN U o m p).2.2.1 (mDvN U o m p).2.2.2) hJ rfl rfl rfl (fun _ => rfl) rfl rfl rfl (fun _ => rfl) (fun _ => rfl) rfl rfl rfl (by omega) ?_ ?_ ?_ _ _ _ _ H1 ⟨rfl, rfl, rfl, k1.kd⟩
  · rintro p lv κ gh' S' ⟨rfl, rfl, rfl, hk⟩
    obtain ⟨n1, n2, n3⟩ := mDv_keep (U := U) (o := o) (m := m) p
    exact ⟨⟨by rw [n1]; exact hm.1, hm.2⟩, (n2 42 m (by omega)).1, by rw [(n2 42 m (by omega)).2]⟩
  · rintro p y lv σ2 gh' S' J2 e hp hy ⟨rfl, rfl, rfl, hk⟩ H2 hd he hback
    obtain ⟨n1, n2, n3⟩ := mDv_keep (U := U) (o := o) (m := m) p
    obtain ⟨⟨d0, d1⟩, ⟨v1, v2, v3⟩, hl, hg⟩ := hK p _ hy
    rw [Int.toNat_natCast] at v1 v2 v3 hg
    have hnx : mDvN U o m (p + 1) = mDvStep o (mDvN U o m p) (y : Int) := by
      unfold mDvN
      rw [take_snoc hy, List.foldl_append]
      rfl
    generalize hL : mDvN U o m p = L at *
    obtain ⟨T, due, ct, sl⟩ := L
    simp only at n1 n2 n3 d0 d1 v1 v2 v3 hl hg hk H2 he
    unfold mDvStep at hnx
    simp only at hnx
    have ep : mDvP T due (y : Int) = imin (sT T 14 2 y - sT T 14 3 y) due := by unfold mDvP mAvl; rw [Int.toNat_natCast]
    have hbx : hat gh' T 15 o b := ⟨by rw [n1]; exact hb.1, hb.2⟩
    refine hW_cast H2 rfl he rfl rfl rfl ?_
    refine zW_p 3 rfl ?_
    refine hW_get H2 rfl he rfl rfl rfl ?_
    refine zW_p 1 rfl ?_
    refine hW_get H2 rfl he rfl rfl rfl ?_
    refine zW_p 1 rfl ?_
    rw [I_sub]
    refine aW_minI (x := sT T 14 2 y - sT T 14 3 y) (y := due) rfl rfl (Nat.le_of_ble_eq_true rfl) ⟨by omega, by omega⟩ ⟨by omega, by omega⟩ ?_
    have eim : (if sT T 14 2 y - sT T 14 3 y < due then sT T 14 2 y - sT T 14 3 y else due) = mDvP T due (y : Int) := by rw [ep]; rfl
    rw [eim]
    have hpr : 0 ≤ mDvP T due (y : Int) ∧ mDvP T due (y : Int) ≤ 100 := by
      rw [ep]; unfold imin; split <;> omega
    generalize hP : mDvP T due (y : Int) = P at hnx hg hpr
    refine zW_p 2 rfl ?_
    by_cases h0 : 0 < P
    · rw [if_pos h0, Int.toNat_natCast] at hnx
      refine zW_f rfl rfl (fun q => by have := (I_le0 ⟨by omega, by omega⟩).mp q; omega) ?_
      refine zW_p 2 rfl ?_
      refine hW_get H2 rfl hbx rfl rfl rfl ?_
      refine zW_p 2 rfl ?_
      obtain ⟨σ3, g3, H3, e3⟩ := M_take (p := P) H2 he (hg h0)
      refine wS rfl rfl rfl rfl rfl rfl rfl rfl rfl g3 (by omega) ?_
      refine zW_p 1 rfl ?_
      rw [L_add]
      have hbG : hat gh' (mGive T y P) 15 o b := hbx
      refine hW_put (v := sT T 15 15 o + mCost T y P) H3 rfl hbG rfl rfl rfl (Or.inl rfl) rfl rfl rfl alv1 (fun e => absurd e (by decide)) (fun σ4 H4 e4 => ?_)
      refine zW_p 1 rfl ?_
      have t16 : sT (sset (mGive T y P) 15 15 o (sT T 15 15 o + mCost T y P)) 15 16 o = (o : Nat) := by
        unfold mGive
        rw [sT_set, if_neg (by omega), sT_set, if_neg (by omega), sT_set, if_neg (by omega), n3 15 16 o (by omega) (by omega)]
        exact h16
      refine hW_getr (j := o) H4 rfl (show hat gh' (sset (mGive T y P) 15 15 o (sT T 15 15 o + mCost T y P)) 15 o b from hbx) rfl rfl rfl t16 (fun b5 hb5 => ?_)
      refine zW_p 1 rfl ?_
      have he4 : hat gh' (sset (mGive T y P) 15 15 o (sT T 15 15 o + mCost T y P)) 14 y e := he
      have eL : sE (sset (mGive T y P) 15 15 o (sT T 15 15 o + mCost T y P)) 40 o = sE T 40 o := rfl
      refine hW_add (x := (y : Int)) H4 rfl rfl rfl hb5 rfl rfl rfl (elrepR he4) (alvR he4.1) (by rw [eL]; omega) rfl (by omega) (fun σ5 H5 k5 => ?_)
      rw [eL] at H5 k5
      refine zW_p 4 rfl ?_
      rw [I_sub]
      refine zW_p 2 rfl ?_
      refine zW_lv ((6, .ref it) :: [(0, .ref a), (2, .ref b), (5, iv (mDvN U o m (p + 1)).2.1)]) rfl ⟨rfl, rfl, rfl, by rw [hnx]; rfl, trivial⟩ ?_
      refine hback _ σ5 _ _ H5 ⟨rfl, rfl, by rw [hnx], ?_⟩
      rw [hnx]
      exact (kd.trans hk (kc.same (e4.trans e3) k5).kd)
    · rw [if_neg h0] at hnx
      refine zW_t rfl rfl ((I_le0 ⟨by omega, by omega⟩).mpr (by omega)) ?_
      refine zW_p 1 rfl ?_
      refine zW_lv ((6, .ref it) :: [(0, .ref a), (2, .ref b), (5, iv (mDvN U o m (p + 1)).2.1)]) rfl ⟨rfl, rfl, rfl, by rw [hnx]; rfl, trivial⟩ ?_
      exact hback _ σ2 _ _ H2 ⟨rfl, rfl, by rw [hnx], by rw [hnx]; exact hk⟩
  · rintro lv σ2 gh' S' H2 ⟨rfl, rfl, rfl, hk⟩
    obtain ⟨n1, n2, n3⟩ := mDv_keep (U := U) (o := o) (m := m) (sE U 42 m).length
    have hE : mDvN U o m (sE U 42 m).length = mDvE U o m := rfl
    rw [hE] at n1 n2 n3 H2 hk
    have hbx : hat gh' (mDvE U o m).1 15 o b := ⟨by rw [n1]; exact hb.1, hb.2⟩
    have hax : hat gh' (mDvE U o m).1 11 0 a := ⟨by rw [n1]; exact ha.1, ha.2⟩
    refine zW_p 2 rfl ?_
    refine hW_put (v := 100) H2 rfl hbx rfl rfl rfl (Or.inl rfl) rfl rfl rfl alv0 (fun e => absurd e (by decide)) (fun σ3 H3 e3 => ?_)
    refine zW_p 2 rfl ?_
    refine hW_get H3 rfl (show hat gh' (sset (mDvE U o m).1 15 5 o 100) 11 0 a from hax) rfl rfl rfl ?_
    rw [sT_set, if_neg (by omega), n3 11 8 0 (by omega) (by omega)]
    refine hW_put (v := sT U 11 8 0) H3 rfl (show hat gh' (sset (mDvE U o m).1 15 5 o 100) 15 o b from hbx) rfl rfl rfl (Or.inl rfl) rfl rfl rfl alv0 (fun e => absurd e (by decide)) (fun σ4 H4 e4 => ?_)
    refine zW_p 1 rfl ?_
    exact zW_reti rfl rfl rfl (hQ σ4 H4 (((hk.kc.trans (kc.of e3)).trans (kc.of e4)).mono (by omega) (by omega)))
theorem M_dvSum (H : hRep g w0 σ gh U J) (hm : hat gh U 42 m mb) (hlv : lvok [(0, .ref a), (2, .ref b), (3, .ref mb)] lv)
    (hQ : ∀ (σ' : zS) (lv' : zp_L), hRep g w0 σ' gh U J → kc σ σ' 1 4 → lvok [(0, .ref a), (2, .ref b), (3, .ref mb), (4, iv (mSrcSum U m (sE U 42 m).length))] lv' → zW g 110 244 126 lv' [] σ' Q) :
    zW g 110 244 76 lv [] σ Q := by
  refine zW_ly hlv rfl ?_
  refine zW_p 3 rfl ?_
  refine hW_iter H rfl rfl rfl hm rfl rfl rfl (by omega) (fun σ1 it hJ H1 k1 => ?_)
  refine zW_p 1 rfl ?_
  refine zW_lv ((5, .ref it) :: [(0, .ref a), (2, .ref b), (3, .ref mb), (4, iv (mSrcSum U m 0))]) rfl ⟨rfl, rfl, rfl, rfl, rfl, trivial⟩ ?_
  refine hW_loop (c := 42) (i := m) (b := mb) (n := 14) (xs := sE U 42 m) (mc := Int32.ofInt (sM U 42 m)) (fun p lv κ gh' S' => lv = [(0, .ref a), (2, .ref b), (3, .ref mb), (4, iv (mSrcSum U m p))] ∧ gh' = gh ∧ S' = U ∧ κ = σ1.2) hJ rfl rfl rfl (fun _ => rfl) rfl rfl rfl (fun _ => rfl) (fun _ => rfl) rfl rfl rfl (by omega) ?_ ?_ ?_ _ _ _ _ H1 ⟨rfl, rfl, rfl, rfl⟩
  · rintro p lv κ gh' S' ⟨rfl, rfl, rfl, hk⟩
    exact ⟨hm, rfl, rfl⟩
  · rintro p y lv σ2 gh' S' J2 e hp hy ⟨rfl, rfl, rfl, hk⟩ H2 hd he hback
    have hsum : mSrcSum S' m (p + 1) = mSrcSum S' m p + (sT S' 14 2 y - sT S' 14 3 y) := by
      unfold mSrcSum
      rw [take_snoc hy, List.map_append, List.sum_append]
      simp [mAvl]
    refine hW_cast H2 rfl he rfl rfl rfl ?_
    refine zW_p 3 rfl ?_
    refine hW_get H2 rfl he rfl rfl rfl ?_
    refine zW_p 1 rfl ?_
    refine hW_get H2 rfl he rfl rfl rfl ?_
    refine zW_p 1 rfl ?_
    rw [I_sub]
    refine zW_p 1 rfl ?_
    rw [I_add]
    refine zW_p 2 rfl ?_
    refine zW_lv ((5, .ref it) :: [(0, .ref a), (2, .ref b), (3, .ref mb), (4, iv (mSrcSum S' m (p + 1)))]) rfl ⟨rfl, rfl, rfl, rfl, by rw [hsum]; rfl, trivial⟩ ?_
    exact hback _ σ2 _ _ H2 ⟨rfl, rfl, rfl, hk⟩
  · rintro lv σ2 gh' S' H2 ⟨rfl, rfl, rfl, hk⟩
    exact hQ σ2 _ H2 (k1.trans (kc.of hk)) ⟨rfl, rfl, rfl, rfl, trivial⟩
theorem M_deliver (H : hRep g w0 σ gh S J) (hF : mFix S) (hW : mW S) (hP : mPart S) (hO : mOrd S) (hO2 : mOrd2 S) (hq : ∀ o : Nat, o < sn S 15 → 0 ≤ sT S 15 1 o ∧ sT S 15 1 o < sn S 13) (hr2 : ∀ o : Nat, o < sn S 15 → rg (sT S 15 2 o)) (hp2 : ∀ l : Nat, l < sn S 14 → rg (sT S 14 1 l)) (ha : hat gh S 11 0 a) (hv : rg v)
    (hX : mDelC S v = 0 → rg (mSrcSum (mSrc (mt S 0) v.toNat).1 (sn S 42) (sE (mSrc (mt S 0) v.toNat).1 42 (sn S 42)).length) ∧ (sT S 15 2 v.toNat ≤ mSrcSum (mSrc (mt S 0) v.toNat).1 (sn S 42) (sE (mSrc (mt S 0) v.toNat).1 42 (sn S 42)).length → mDvOk (mSrc (mt S 0) v.toNat).1 v.toNat (sn S 42))) :
    zM g 110 244 [.ref a, iv v] σ (fun r σ' => (mDelC S v ≠ 0 ∧ r = .inl (some (iv 0)) ∧ hRep g w0 σ' gh (mt S (mDelC S v)) J ∧ kc σ σ' 0 0) ∨
      (mDelC S v = 0 ∧ ¬ (sT S 15 2 v.toNat ≤ mSrcSum (mSrc (mt S 0) v.toNat).1 (sn S 42) (sE (mSrc (mt S 0) v.toNat).1 42 (sn S 42)).length) ∧ r = .inl (some (iv 0)) ∧ ∃ ghx, gext S gh ghx ∧ hRep g w0 σ' ghx (mSrc (mt S 0) v.toNat).1 J ∧ kc σ σ' ((mSrc (mt S 0) v.toNat).2.1 + 1) ((mSrc (mt S 0) v.toNat).2.2 + 4)) ∨
      (mDelC S v = 0 ∧ sT S 15 2 v.toNat ≤ mSrcSum (mSrc (mt S 0) v.toNat).1 (sn S 42) (sE (mSrc (mt S 0) v.toNat).1 42 (sn S 42)).length ∧ r = .inl (some (iv 1)) ∧ ∃ ghx, gext S gh ghx ∧ hRep g w0 σ' ghx (mDvZ (mSrc (mt S 0) v.toNat).1 v.toNat (sn S 42)) J ∧ kc σ σ' ((mSrc (mt S 0) v.toNat).2.1 + 1 + (mDvE (mSrc (mt S 0) v.toNat).1 v.toNat (sn S 42)).2.2.1) ((mSrc (mt S 0) v.toNat).2.2 + 4 + (mDvE (mSrc (mt S 0) v.toNat).1 v.toNat (sn S 42)).2.2.2))) := by
  obtain ⟨σ1, g1, H1, k1⟩ := M_failsOrder H hF ha hv
  have hFx := hF
  obtain ⟨f0, f1, f2, f3, f4, f5, f6, f7, f8, f9, fa, fb, fc, fd, fe⟩ := hF
  generalize hQQ : (fun (r : Option Value ⊕ String) (σ' : zS) => (mDelC S v ≠ 0 ∧ r = .inl (some (iv 0)) ∧ hRep g w0 σ' gh (mt S (mDelC S v)) J ∧ kc σ σ' 0 0) ∨
      (mDelC S v = 0 ∧ ¬ (sT S 15 2 v.toNat ≤ mSrcSum (mSrc (mt S 0) v.toNat).1 (sn S 42) (sE (mSrc (mt S 0) v.toNat).1 42 (sn S 42)).length) ∧ r = .inl (some (iv 0)) ∧ ∃ ghx, gext S gh ghx ∧ hRep g w0 σ' ghx (mSrc (mt S 0) v.toNat).1 J ∧ kc σ σ' ((mSrc (mt S 0) v.toNat).2.1 + 1) ((mSrc (mt S 0) v.toNat).2.2 + 4)) ∨
      (mDelC S v = 0 ∧ sT S 15 2 v.toNat ≤ mSrcSum (mSrc (mt S 0) v.toNat).1 (sn S 42) (sE (mSrc (mt S 0) v.toNat).1 42 (sn S 42)).length ∧ r = .inl (some (iv 1)) ∧ ∃ ghx, gext S gh ghx ∧ hRep g w0 σ' ghx (mDvZ (mSrc (mt S 0) v.toNat).1 v.toNat (sn S 42)) J ∧ kc σ σ' ((mSrc (mt S 0) v.toNat).2.1 + 1 + (mDvE (mSrc (mt S 0) v.toNat).1 v.toNat (sn S 42)).2.2.1) ((mSrc (mt S 0) v.toNat).2.2 + 4 + (mDvE (mSrc (mt S 0) v.toNat).1 v.toNat (sn S 42)).2.2.2))) = QQ
  refine zW_p 2 rfl ?_
  refine wV rfl rfl rfl rfl rfl rfl rfl (H.rc ha rfl rfl) g1 (by omega) ?_
  by_cases hc : 0 ≤ v ∧ v < sn S 15
  · rw [decide_eq_true hc] at H1 ⊢
    have hDC : mDelC S v = if mDelB S v.toNat = true then 0 else 2 := by unfold mDelC mC2; rw [if_neg (fun q => q hc)]
    obtain ⟨i, rfl⟩ : ∃ i : Nat, v = i := ⟨v.toNat, (Int.toNat_of_nonneg hc.1).symm⟩
    rw [Int.toNat_natCast] at hDC hX hQQ
    have hi : i < sn S 15 := by omega
    have H1' : hRep g w0 σ1 gh (mt S 0) J := H1
    have ha1 : hat gh (mt S 0) 11 0 a := ha
    obtain ⟨q3, q4⟩ := hq i hi
    obtain ⟨pi, hpi⟩ : ∃ p : Nat, sT S 15 1 i = p := ⟨(sT S 15 1 i).toNat, (Int.toNat_of_nonneg q3).symm⟩
    have hpl : pi < sn S 13 := by omega
    obtain ⟨p0, p2, p3, p4, p5⟩ := hP pi hpl
    have hr5 : rg (sT S 15 5 i) := by
      rcases (hO i hi).1 with e | e | e | e | e | e <;> rw [e] <;> constructor <;> decide
    refine zW_p 2 rfl ?_
    refine hW_getr (j := 0) H1' rfl ha rfl rfl rfl f4 (fun b2 hb2 => ?_)
    refine zW_p 1 rfl ?_
    refine hW_lget (y := i) H1' rfl rfl rfl hb2 rfl rfl rfl (show (sE S 33 0)[i]? = _ by rw [fa]; exact idl_at hi) rfl (by omega) (fun b3 hb3 => ?_)
    refine hW_cast H1' rfl hb3 rfl rfl rfl ?_
    have fin : ∀ (n : Int) (lv : zp_L), n = mDelC S i → lvok [(0, .ref a), (2, .ref b3)] lv → zW g 110 244 62 lv [iv n, .ref a] σ1 QQ := by
      intro n lv hn hlv
      refine zW_ly hlv rfl ?_
      have hn2 : n = 0 ∨ n = 2 := by rw [hn, hDC]; split <;> omega
      obtain ⟨σ2, g2, H2, k2⟩ := M_fails (v := n) H1' ha1 (by rcases hn2 with h | h <;> rw [h] <;> exact ⟨by decide, by decide⟩)
      refine wV rfl rfl rfl rfl rfl rfl rfl (H1'.rc ha1 rfl rfl) g2 (by omega) ?_
      have em : sset (mt S 0) 11 0 0 n = mt S n := mt_mt
      rw [em] at H2
      have es : σ2.2 = σ.2 := k2.trans k1
      rcases hn2 with h | h
      · subst h
        obtain ⟨hrs, hK⟩ := hX hn.symm
        refine zW_p 3 rfl ?_
        obtain ⟨σ3, mb, g3, ghx, x3, H3, hm3, hi3, hl3, k3⟩ := M_sources (o := i) H2 (show mFix (mt S 0) from hFx) (show mW (mt S 0) from hW) (show hat gh (mt S 0) 11 0 a from ha) hb3 (by show rg (sT S 15 1 i); rw [hpi]; exact ⟨by omega, by omega⟩) (show ∀ l, l < sn (mt S 0) 14 → rg (sT (mt S 0) 14 1 l) from hp2)
        refine wV rfl rfl rfl rfl rfl rfl rfl (H2.rc (show hat gh (mt S 0) 11 0 a from ha) rfl rfl) g3 (by omega) ?_
        have e42 : sn (mt S 0) 42 = sn S 42 := rfl
        rw [e42] at hm3
        have hTU : ∀ c k j, c ≠ 42 → sT (mSrc (mt S 0) i).1 c k j = sT (mt S 0) c k j := fun c k j h => hi3.2.2.1 c k j h
        have t2 : sT (mSrc (mt S 0) i).1 15 2 i = sT S 15 2 i := hTU 15 2 i (by decide)
        have t16 : sT (mSrc (mt S 0) i).1 15 16 i = (i : Nat) := (hTU 15 16 i (by decide)).trans (hO2 i hi).2.2.1
        have ha3 : hat ghx (mSrc (mt S 0) i).1 11 0 a := x3.hat (fun c => hi3.le c) (show hat gh (mt S 0) 11 0 a from ha)
        have hb4 : hat ghx (mSrc (mt S 0) i).1 15 i b3 := x3.hat (fun c => hi3.le c) hb3
        have kk : kc σ σ3 (mSrc (mt S 0) i).2.1 (mSrc (mt S 0) i).2.2 := kc.same es k3
        generalize hU : mSrc (mt S 0) i = US at *
        obtain ⟨U, uc, us⟩ := US
        simp only at *
        refine zW_p 1 rfl ?_
        refine M_dvSum (a := a) (b := b3) H3 hm3 ⟨rfl, rfl, rfl, trivial⟩ (fun σ4 lv4 H4 k4 hl4 => ?_)
        refine zW_ly hl4 rfl ?_
        refine zW_p 1 rfl ?_
        refine hW_get H4 rfl hb4 rfl rfl rfl ?_
        rw [t2]
        refine zW_p 3 rfl ?_
        by_cases hle : sT S 15 2 i ≤ mSrcSum U (sn S 42) (sE U 42 (sn S 42)).length
        · refine zW_t rfl rfl ((I_le (hr2 i hi) hrs).mpr hle) ?_
          refine M_dvGo H4 ha3 hb4 hm3 t16 (hK hle) ⟨rfl, rfl, rfl, by rw [t2]; rfl, trivial⟩ (fun σ5 H5 k5 => ?_)
          rw [← hQQ]
          exact Or.inr (Or.inr ⟨hn.symm, hle, rfl, ghx, x3, H5, (kk.trans k4).trans k5⟩)
        · refine zW_f rfl rfl (fun q => hle ((I_le (hr2 i hi) hrs).mp q)) ?_
          refine zW_p 1 rfl ?_
          refine zW_reti rfl rfl rfl ?_
          rw [← hQQ]
          exact Or.inr (Or.inl ⟨hn.symm, hle, rfl, ghx, x3, H4, kk.trans k4⟩)
      · subst h
        refine zW_p 2 rfl ?_
        refine zW_reti rfl rfl rfl ?_
        rw [← hQQ]
        exact Or.inl ⟨by rw [← hn]; decide, rfl, by rw [← hn]; exact H2, kc.of es⟩
    have cmp : ∀ (w : Int) (lv : zp_L), rg w → w = (if mMadeO S i = true then 102 else 45) → lvok [(0, .ref a), (2, .ref b3)] lv → zW g 110 244 54 lv [iv w, iv (sT S 15 5 i), .ref a] σ1 QQ := by
      intro w lv rw' hw hlv
      refine zW_ly hlv rfl ?_
      by_cases e5 : sT S 15 5 i = w
      · refine zW_t rfl rfl ((I_eq hr5 rw').2 e5) ?_
        refine zW_p 1 rfl ?_
        exact fin 0 _ (by rw [hDC]; unfold mDelB; rw [← hw, decide_eq_true e5]; rfl) ⟨rfl, rfl, trivial⟩
      · refine zW_f rfl rfl (fun q => e5 ((I_eq hr5 rw').1 q)) ?_
        refine zW_p 2 rfl ?_
        exact fin 2 _ (by rw [hDC]; unfold mDelB; rw [← hw, decide_eq_false e5]; rfl) ⟨rfl, rfl, trivial⟩
    refine zW_p 3 rfl ?_
    refine hW_get H1' rfl hb3 rfl rfl rfl ?_
    rw [show sT (mt S 0) 15 5 i = sT S 15 5 i from rfl]
    refine zW_p 1 rfl ?_
    refine hW_getr (j := 0) H1' rfl ha1 rfl rfl rfl f2 (fun b4 hb4 => ?_)
    refine zW_p 1 rfl ?_
    refine hW_get H1' rfl hb3 rfl rfl rfl ?_
    rw [show sT (mt S 0) 15 1 i = pi from hpi]
    refine hW_lget (y := pi) H1' rfl rfl rfl hb4 rfl rfl rfl (show (sE S 31 0)[pi]? = _ by rw [f8]; exact idl_at hpl) rfl (by omega) (fun b5 hb5 => ?_)
    refine hW_cast H1' rfl hb5 rfl rfl rfl ?_
    refine hW_get H1' rfl hb5 rfl rfl rfl ?_
    rcases p0 with p0 | p0
    · rw [show sT (mt S 0) 13 0 pi = 0 from p0]
      refine zW_p 2 rfl ?_
      exact cmp 45 _ ⟨by decide, by decide⟩ (by unfold mMadeO; rw [hpi, Int.toNat_natCast, p0]; rfl) ⟨rfl, rfl, trivial⟩
    · rw [show sT (mt S 0) 13 0 pi = 1 from p0]
      refine zW_p 3 rfl ?_
      exact cmp 102 _ ⟨by decide, by decide⟩ (by unfold mMadeO; rw [hpi, Int.toNat_natCast, p0]; rfl) ⟨rfl, rfl, trivial⟩
  · rw [decide_eq_false hc] at H1 ⊢
    have hDC : mDelC S v = 1 := by unfold mDelC mC2; rw [if_pos hc]
    refine zW_p 2 rfl ?_
    refine zW_reti rfl rfl rfl ?_
    rw [← hQQ]
    exact Or.inl ⟨by rw [hDC]; decide, rfl, by rw [hDC]; exact H1, kc.of k1⟩
end ZMDV
