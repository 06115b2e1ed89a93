/-! THE MODEL: goOn -/
set_option maxRecDepth 100000
def mMch (S : hS) (k : Nat) : Nat := if mCp S k 1 ≠ -1 ∧ mJobs S (mCp S k 1).toNat < mJobs S (mCp S k 0).toNat then (mCp S k 1).toNat else (mCp S k 0).toNat
def mFinA (S : hS) (o : Nat) : hS := sset (sset S 15 5 o 102) 15 13 o (sT S 11 8 0)
def mFinB (S : hS) (o : Nat) : hS := sset (mLotS (mFinA S o) (sT S 15 1 o) (sT S 15 8 o) (sT S 15 11 o)) 15 12 o (sn S 14 : Nat)
def mFin (S : hS) (o : Nat) : hS := if 0 < sT S 15 8 o then ssE (mFinB S o) 41 (sn S 41) (sE S 38 o) else mFinA S o
def mGoOn (S : hS) (o : Nat) : hS := if (sT S 15 9 o).toNat < (mOpL S o).length then sset (sset S 15 10 o (mMch S (mOp S o) : Nat)) 15 5 o 119 else mFin S o
theorem mLotS_of {S : hS} {p q c : Int} : sT (mLotS S p q c) 14 6 (sn S 14) = (sn S 41 : Nat) := by
  unfold mLotS kMLot
  rw [sT_ssE, sT_set, if_neg (by omega), sT_set, if_neg (by omega), sT_set, if_neg (by omega), sT_set, if_neg (by omega), sT_set, if_pos ⟨rfl, rfl, rfl⟩]
  rfl
theorem mLotS_e41 {S : hS} {p q c : Int} : sE (mLotS S p q c) 41 (sn S 41) = [] := by
  show (if 41 = 41 ∧ sn S 41 = sn (snw S 14 []) 41 then [] else _) = []
  exact if_pos ⟨rfl, rfl⟩
section ZMG
variable {g : zG} {w0 : hG} {σ : zS} {gh : Nat → Nat → Nat} {S T : hS} {J : zw_W} {a b o x xb : Nat} {p : Int}
theorem M_goOn (H : hRep g w0 σ gh S J) (hF : mFix S) (hP : mPart S) (hOp : mOps S) (hO : mOrd S) (hM : mMach S) (h6 : sT S 15 6 o = (o : Nat)) (ha : hat gh S 11 0 a) (hb : hat gh S 15 o b) (h1 : 0 ≤ sT S 15 1 o ∧ sT S 15 1 o < sn S 13) (h8 : rg (sT S 15 8 o)) (h9 : 0 ≤ sT S 15 9 o ∧ sT S 15 9 o ≤ 1000)
    (hfin : 0 < sT S 15 8 o → (mOpL S o).length ≤ (sT S 15 9 o).toNat → sn S 14 < 100 ∧ (sE S 38 o).length ≤ 1000) :
    ∃ σ' : zS, zEnd g 8 237 [.ref a, .ref b] σ (.inl none) σ' ∧ ∃ ghx, gext S gh ghx ∧ hRep g w0 σ' ghx (mGoOn S o) J ∧ kc σ σ' 5 (320 + 3 * (sE S 38 o).length) := by
  obtain ⟨pi, hpi⟩ : ∃ p : Nat, sT S 15 1 o = p := ⟨(sT S 15 1 o).toNat, (Int.toNat_of_nonneg h1.1).symm⟩
  have hpl : pi < sn S 13 := by omega
  obtain ⟨p0, p2, p3, p4, p5⟩ := hP pi hpl
  have hFx := hF
  obtain ⟨f0, f1, f2, f3, f4, f5, f6, f7, f8, f9, fa, fb, fc, fd, fe⟩ := hF
  have hxs : mOpL S o = sE S 37 (sT S 13 3 pi).toNat := by unfold mOpL; rw [hpi, Int.toNat_natCast]
  have hcl : sT S 13 3 pi = ((sT S 13 3 pi).toNat : Nat) := (Int.toNat_of_nonneg p3).symm
  have hlen3 : (mOpL S o).length ≤ 3 := by rw [hxs]; exact p5
  have hnx : sT S 15 9 o = ((sT S 15 9 o).toNat : Nat) := (Int.toNat_of_nonneg h9.1).symm
  have main : zW g 8 237 0 (lv_args 0 [.ref a, .ref b]) [] σ (fun r σ' => r = .inl none ∧ ∃ ghx, gext S gh ghx ∧ hRep g w0 σ' ghx (mGoOn S o) J ∧ kc σ σ' 5 (320 + 3 * (sE S 38 o).length)) := by
    unfold mGoOn
    refine zW_p 1 rfl ?_
    refine hW_getr (j := 0) H rfl ha rfl rfl rfl f2 (fun b0 hb0 => ?_)
    refine zW_p 1 rfl ?_
    refine hW_get H rfl hb rfl rfl rfl ?_
    rw [hpi]
    refine hW_lget (y := pi) H rfl rfl rfl hb0 rfl rfl rfl (by rw [f8]; exact idl_at hpl) rfl (by omega) (fun b1 hb1 => ?_)
    refine hW_cast H rfl hb1 rfl rfl rfl ?_
    refine zW_p 2 rfl ?_
    refine hW_get H rfl hb rfl rfl rfl ?_
    refine zW_p 1 rfl ?_
    refine hW_getr H rfl hb1 rfl rfl rfl hcl (fun b2 hb2 => ?_)
    refine hW_size H rfl rfl rfl hb2 rfl rfl rfl (by omega) ?_
    rw [← hxs]
    by_cases hc : (sT S 15 9 o).toNat < (mOpL S o).length
    · rw [if_pos hc]
      refine zW_f rfl rfl (fun e => by have := (I_le ⟨by omega, by omega⟩ ⟨by omega, by omega⟩).mp e; omega) ?_
      refine zW_p 1 rfl ?_
      refine hW_getr H rfl hb1 rfl rfl rfl hcl (fun b3 hb3 => ?_)
      refine zW_p 1 rfl ?_
      refine hW_get H rfl hb rfl rfl rfl ?_
      rw [hnx]
      have hlt : (sT S 15 9 o).toNat < (sE S 37 (sT S 13 3 pi).toNat).length := by rw [← hxs]; exact hc
      have hop : (sE S 37 (sT S 13 3 pi).toNat)[(sT S 15 9 o).toNat]? = some ((mOp S o : Nat) : Int) := by
        unfold mOp
        rw [hxs]
        obtain ⟨r, cap, f, q1, q2, _⟩ := H.lst hb3 (by decide) (by decide)
        have h0 := (q2 _ _ (List.getElem?_eq_getElem hlt)).1
        rw [List.getD_eq_getElem?_getD, List.getElem?_eq_getElem hlt]
        simp only [Option.getD_some]
        rw [Int.toNat_of_nonneg h0]
      refine hW_lget (y := mOp S o) H rfl rfl rfl hb3 rfl rfl rfl hop rfl (by omega) (fun e he => ?_)
      obtain ⟨q1, q2, q3, q4⟩ := hOp pi hpl _ (List.mem_of_getElem? hop)
      rw [Int.toNat_natCast] at q1 q2 q3 q4
      have at46 : ∀ i, i < 3 → (sE S 46 (mOp S o))[i]? = some (mCp S (mOp S o) i) := fun i h3 => getD_at (by omega)
      refine hW_castI H rfl he rfl ?_
      have m0 : mCp S (mOp S o) 0 = ((mCp S (mOp S o) 0).toNat : Nat) := (Int.toNat_of_nonneg q2.1).symm
      have fin : ∀ (mm : Int) (σ5 : zS) (lv : zp_L), mm = (mMch S (mOp S o) : Nat) → hRep g w0 σ5 gh S J → kc σ σ5 2 8 → lvok [(1, .ref b)] lv → zW g 8 237 78 lv [iv mm, .ref b] σ5 (fun r σ' => r = .inl none ∧ ∃ ghx, gext S gh ghx ∧ hRep g w0 σ' ghx (sset (sset S 15 10 o (mMch S (mOp S o) : Nat)) 15 5 o 119) J ∧ kc σ σ' 5 (320 + 3 * (sE S 38 o).length)) := by
        intro mm σ5 lv hmm H5 k5 hlv
        refine zW_ly hlv rfl ?_
        rw [← hmm]
        refine hW_put (v := mm) H5 rfl hb rfl rfl rfl (Or.inl rfl) rfl rfl rfl alv0 (fun e => absurd e (by decide)) (fun σ6 H6 e6 => ?_)
        refine zW_p 2 rfl ?_
        refine hW_put (v := 119) H6 rfl (show hat gh _ 15 o b from hb) rfl rfl rfl (Or.inl rfl) rfl rfl rfl alv0 (fun e => absurd e (by decide)) (fun σ7 H7 e7 => ?_)
        exact wW_ret rfl rfl rfl rfl ⟨rfl, gh, gext_rfl, H7, (k5.trans (kc.of (e7.trans e6))).mono (by omega) (by omega)⟩
      have one : ∀ (σ5 : zS) (lv : zp_L), mMch S (mOp S o) = (mCp S (mOp S o) 0).toNat → hRep g w0 σ5 gh S J → kc σ σ5 2 8 → lvok [(1, .ref b), (3, .ref e)] lv → zW g 8 237 75 lv [.ref b] σ5 (fun r σ' => r = .inl none ∧ ∃ ghx, gext S gh ghx ∧ hRep g w0 σ' ghx (sset (sset S 15 10 o (mMch S (mOp S o) : Nat)) 15 5 o 119) J ∧ kc σ σ' 5 (320 + 3 * (sE S 38 o).length)) := by
        intro σ5 lv hm H5 k5 hlv
        refine zW_ly hlv rfl ?_
        refine zW_p 2 rfl ?_
        refine hW_iald (j := 0) H5 rfl he (at46 0 (by decide)) (by omega) ?_
        exact fin _ σ5 _ (by rw [hm]; exact m0) H5 k5 ⟨rfl, trivial⟩
      refine zW_p 4 rfl ?_
      refine hW_iald (j := 1) H rfl he (at46 1 (by decide)) (by omega) ?_
      refine zW_p 1 rfl ?_
      have r1 : rg (mCp S (mOp S o) 1) := by rcases q3 with e | e <;> exact ⟨by omega, by omega⟩
      by_cases c1 : mCp S (mOp S o) 1 = -1
      · refine zW_t rfl rfl (by rw [c1]) ?_
        exact one σ _ (by unfold mMch; rw [if_neg (fun q => q.1 c1)]) H (kc.rfl'.mono (by omega) (by omega)) ⟨rfl, rfl, trivial⟩
      · refine zW_f rfl rfl (fun q => c1 ((I_eq (b := -1) r1 ⟨by decide, by decide⟩).mp q)) ?_
        have q3' : 0 ≤ mCp S (mOp S o) 1 ∧ mCp S (mOp S o) 1 < sn S 12 := by rcases q3 with e | e; exact absurd e c1; exact e
        have m1 : mCp S (mOp S o) 1 = ((mCp S (mOp S o) 1).toNat : Nat) := (Int.toNat_of_nonneg q3'.1).symm
        refine zW_p 3 rfl ?_
        refine hW_iald (j := 1) H rfl he (at46 1 (by decide)) (by omega) ?_
        rw [m1]
        obtain ⟨σ1, g1, H1, k1⟩ := M_jobs (k := (mCp S (mOp S o) 1).toNat) H hFx hO hM ha (by omega)
        refine wV rfl rfl rfl rfl rfl rfl rfl (H.rc ha rfl rfl) g1 (by omega) ?_
        refine zW_p 3 rfl ?_
        refine hW_iald (j := 0) H1 rfl he (at46 0 (by decide)) (by omega) ?_
        rw [m0]
        obtain ⟨σ2, g2, H2, k2⟩ := M_jobs (k := (mCp S (mOp S o) 0).toNat) H1 hFx hO hM ha (by omega)
        refine wV rfl rfl rfl rfl rfl rfl rfl (H1.rc ha rfl rfl) g2 (by omega) ?_
        have kk : kc σ σ2 2 8 := (k1.trans k2).mono (by omega) (by omega)
        have rj : ∀ k : Nat, rg (mJobs S k) := fun k => by
          have := mWc_le (S := S) (m := (k : Int)) (p := sn S 15)
          unfold mJobs
          split <;> exact ⟨by omega, by omega⟩
        by_cases c2 : mJobs S (mCp S (mOp S o) 1).toNat < mJobs S (mCp S (mOp S o) 0).toNat
        · refine zW_f rfl rfl (fun e => by have := (I_le (rj _) (rj _)).mp e; omega) ?_
          refine zW_p 2 rfl ?_
          refine hW_iald (j := 1) H2 rfl he (at46 1 (by decide)) (by omega) ?_
          refine zW_p 1 rfl ?_
          exact fin _ σ2 _ (by unfold mMch; rw [if_pos ⟨c1, c2⟩]; exact m1) H2 kk ⟨rfl, trivial⟩
        · refine zW_t rfl rfl ((I_le (rj _) (rj _)).mpr (by omega)) ?_
          exact one σ2 _ (by unfold mMch; rw [if_neg (fun q => c2 q.2)]) H2 kk ⟨rfl, rfl, trivial⟩
    · rw [if_neg hc]
      refine zW_t rfl rfl (by rw [hnx]; exact (I_le ⟨by omega, by omega⟩ ⟨by omega, by omega⟩).mpr (by omega)) ?_
      refine zW_p 2 rfl ?_
      refine hW_put (v := 102) H rfl hb rfl rfl rfl (Or.inl rfl) rfl rfl rfl alv0 (fun e => absurd e (by decide)) (fun σ1 H1 e1 => ?_)
      refine zW_p 2 rfl ?_
      refine hW_get H1 rfl (show hat gh _ 11 0 a from ha) rfl rfl rfl ?_
      rw [sT_set, if_neg (by omega)]
      refine hW_put (v := sT S 11 8 0) H1 rfl (show hat gh _ 15 o b from hb) rfl rfl rfl (Or.inl rfl) rfl rfl rfl alv0 (fun e => absurd e (by decide)) (fun σ2 H2 e2 => ?_)
      have H2' : hRep g w0 σ2 gh (mFinA S o) J := H2
      have hbA : hat gh (mFinA S o) 15 o b := hb
      have tA : ∀ k, k ≠ 5 → k ≠ 13 → sT (mFinA S o) 15 k o = sT S 15 k o := fun k h5 h13 => by
        unfold mFinA
        rw [sT_set, if_neg (by omega), sT_set, if_neg (by omega)]
      refine zW_p 1 rfl ?_
      refine hW_get H2' rfl hbA rfl rfl rfl ?_
      rw [tA 8 (by decide) (by decide)]
      unfold mFin
      by_cases c8 : 0 < sT S 15 8 o
      · rw [if_pos c8]
        obtain ⟨h99, hln⟩ := hfin c8 (by omega)
        refine zW_f rfl rfl (fun e => by have := (I_le0 h8).mp e; omega) ?_
        refine zW_p 3 rfl ?_
        refine hW_get H2' rfl hbA rfl rfl rfl ?_
        rw [tA 1 (by decide) (by decide)]
        refine zW_p 1 rfl ?_
        refine hW_get H2' rfl hbA rfl rfl rfl ?_
        rw [tA 8 (by decide) (by decide)]
        refine zW_p 1 rfl ?_
        refine hW_get H2' rfl hbA rfl rfl rfl ?_
        rw [tA 11 (by decide) (by decide)]
        obtain ⟨σ3, b3, g3, ghx, x3, H3, hb3, k3⟩ := M_lot (p := sT S 15 1 o) (q := sT S 15 8 o) (c := sT S 15 11 o) H2' (show mFix (mFinA S o) from hFx) (show sn S 14 < 100 from h99) (show hat gh (mFinA S o) 11 0 a from ha)
        refine wV rfl rfl rfl rfl rfl rfl rfl (H2'.rc (show hat gh (mFinA S o) 11 0 a from ha) rfl rfl) g3 (by omega) ?_
        have le3 : ∀ c' : Nat, sn (mFinA S o) c' ≤ sn (mLotS (mFinA S o) (sT S 15 1 o) (sT S 15 8 o) (sT S 15 11 o)) c' := fun c' => by
          show _ ≤ sn (snw (snw (mFinA S o) 14 []) 41 []) c'
          exact Nat.le_trans sn_w_le sn_w_le
        have hb5 : hat ghx (mLotS (mFinA S o) (sT S 15 1 o) (sT S 15 8 o) (sT S 15 11 o)) 15 o b := x3.hat le3 hbA
        have hb3' : hat ghx (mLotS (mFinA S o) (sT S 15 1 o) (sT S 15 8 o) (sT S 15 11 o)) 14 (sn S 14) b3 := hb3
        refine hW_put (v := ((sn S 14 : Nat) : Int)) H3 rfl hb5 rfl rfl rfl (Or.inl rfl) rfl rfl (convR hb3') (alvR hb3'.1) (fun e => absurd e (by decide)) (fun σ4 H4 e4 => ?_)
        have H4' : hRep g w0 σ4 ghx (mFinB S o) J := H4
        have hb6 : hat ghx (mFinB S o) 15 o b := hb5
        refine zW_p 1 rfl ?_
        refine hW_getr (j := sn S 14) H4' rfl hb6 rfl rfl rfl (by unfold mFinB; rw [sT_set, if_pos ⟨rfl, rfl, rfl⟩]) (fun b7 hb7 => ?_)
        refine hW_getr (j := sn S 41) H4' rfl hb7 rfl rfl rfl (by unfold mFinB; rw [sT_set, if_neg (by omega)]; exact mLotS_of (S := mFinA S o)) (fun b8 hb8 => ?_)
        refine zW_p 1 rfl ?_
        have e6 : sT (mFinB S o) 15 6 o = (o : Nat) := by
          unfold mFinB
          rw [sT_set, if_neg (by omega)]
          unfold mLotS kMLot
          rw [sT_ssE, sT_set, if_neg (by omega), sT_set, if_neg (by omega), sT_set, if_neg (by omega), sT_set, if_neg (by omega), sT_set, if_neg (by omega), sT_w, if_neg (by omega), sT_w, if_neg (by omega), tA 6 (by decide) (by decide)]
          exact h6
        refine hW_getr (j := o) H4' rfl hb6 rfl rfl rfl e6 (fun b9 hb9 => ?_)
        have e38 : sE (mFinB S o) 38 o = sE S 38 o := rfl
        have e41 : sE (mFinB S o) 41 (sn S 41) = [] := mLotS_e41 (S := mFinA S o)
        have haa : b8 ≠ b9 := fun q => by
          have := (H4'.inj hb8.1 hb9.1 (by rw [hb8.2, hb9.2]; exact q)).1
          omega
        by_cases hne : sE S 38 o = []
        · refine hW_addAllZ (c := 41) (i := sn S 41) (c2 := 38) (i2 := o) H4' rfl rfl rfl hb8 rfl rfl hb9 rfl rfl rfl e41 (by rw [e38]; exact hne) haa rfl (by omega) (fun σ5 H5 k5 => ?_)
          refine zW_p 1 rfl ?_
          exact wW_ret rfl rfl rfl rfl ⟨rfl, ghx, x3, by rw [hne]; exact H5, ((((kc.of (e2.trans e1)).trans k3).trans (kc.of e4)).trans k5).mono (by omega) (by omega)⟩
        · refine hW_addAllG (c := 41) (i := sn S 41) (c2 := 38) (i2 := o) H4' rfl rfl rfl hb8 rfl rfl hb9 rfl rfl rfl rfl e41 (by rw [e38]; exact hne) (by rw [e38]; omega) haa rfl (by omega) (fun σ5 H5 k5 => ?_)
          rw [e38] at H5 k5
          refine zW_p 1 rfl ?_
          exact wW_ret rfl rfl rfl rfl ⟨rfl, ghx, x3, H5, ((((kc.of (e2.trans e1)).trans k3).trans (kc.of e4)).trans k5).mono (by omega) (by omega)⟩
      · rw [if_neg c8]
        refine zW_t rfl rfl ((I_le0 h8).mpr (by omega)) ?_
        exact wW_ret rfl rfl rfl rfl ⟨rfl, gh, gext_rfl, H2', (kc.of (e2.trans e1)).mono (by omega) (by omega)⟩
  obtain ⟨r, σ', h1, rfl, h2⟩ := main
  exact ⟨σ', h1, h2⟩
end ZMG
