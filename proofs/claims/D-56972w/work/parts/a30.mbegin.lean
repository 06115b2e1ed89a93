/-! THE MODEL: take; a machine begins -/
set_option maxRecDepth 100000
def mCost (S : hS) (x : Nat) (p : Int) : Int := sT S 14 4 x * p / sT S 14 2 x
def mGive (S : hS) (x : Nat) (p : Int) : hS := sset (sset S 14 4 x (sT S 14 4 x - mCost S x p)) 14 2 x (sT S 14 2 x - p)
def mGok (S : hS) (x : Nat) (p : Int) : Prop := (1 ≤ p ∧ p ≤ sT S 14 2 x) ∧ sT S 14 2 x ≤ 500 ∧ (0 ≤ sT S 14 4 x ∧ sT S 14 4 x ≤ 1000000000000000)
/-- operation rows are well -/
def mOps (S : hS) : Prop := ∀ i : Nat, i < sn S 13 → ∀ k ∈ sE S 37 (sT S 13 3 i).toNat, (sE S 46 k.toNat).length = 3 ∧ (0 ≤ mCp S k.toNat 0 ∧ mCp S k.toNat 0 < sn S 12) ∧ (mCp S k.toNat 1 = -1 ∨ (0 ≤ mCp S k.toNat 1 ∧ mCp S k.toNat 1 < sn S 12)) ∧ (1 ≤ mCp S k.toNat 2 ∧ mCp S k.toNat 2 ≤ 20)
def mOpL (S : hS) (o : Nat) : List Int := sE S 37 (sT S 13 3 (sT S 15 1 o).toNat).toNat
def mOp (S : hS) (o : Nat) : Nat := ((mOpL S o).getD (sT S 15 9 o).toNat 0).toNat
def mFam (S : hS) (o : Nat) : Int := sT S 13 1 (sT S 15 1 o).toNat
def mTime (S : hS) (i o : Nat) : Int := (if sT S 12 4 i = mFam S o then 0 else sT S 12 1 i) + mCp S (mOp S o) 2 * sT S 15 8 o
def mBcost (S : hS) (i o : Nat) : Int := imax1 (mTime S i o) * sT S 12 0 i
def mBegin (S : hS) (i o : Nat) : hS :=
  sset (sset (sset (sset (sset (sset (sset S 12 4 i (mFam S o)) 12 6 i 111) 12 9 i (o : Int)) 12 8 i (sT S 11 8 0)) 12 7 i (sT S 11 8 0 + imax1 (mTime S i o))) 15 11 o (sT S 15 11 o + mBcost S i o)) 15 5 o 111
def mQok (S : hS) (o : Nat) : Prop := (0 ≤ sT S 15 1 o ∧ sT S 15 1 o < sn S 13) ∧ (0 ≤ sT S 15 9 o ∧ (sT S 15 9 o).toNat < (mOpL S o).length ∧ sT S 15 9 o ≤ 1000) ∧ (0 ≤ sT S 15 8 o ∧ sT S 15 8 o ≤ 100)
def mMn (S : hS) : Prop := ∀ m : Nat, m < sn S 12 → (0 ≤ sT S 12 0 m ∧ sT S 12 0 m ≤ 20) ∧ (0 ≤ sT S 12 1 m ∧ sT S 12 1 m ≤ 50) ∧ rg (sT S 12 4 m)
section ZMB
variable {g : zG} {w0 : hG} {σ : zS} {gh : Nat → Nat → Nat} {S T : hS} {J : zw_W} {a b o x xb i mb ob : Nat} {p : Int} {Q : Option Value ⊕ String → zS → Prop}
theorem M_take (H : hRep g w0 σ gh S J) (hb : hat gh S 14 x xb) (hG : mGok S x p) : ∃ σ' : zS, zEnd g 0 236 [.ref xb, iv p] σ (.inl (some (.long (Int64.ofInt (mCost S x p))))) σ' ∧ hRep g w0 σ' gh (mGive S x p) J ∧ σ'.2 = σ.2 := by
  obtain ⟨⟨p1, p2⟩, p3, p4, p5⟩ := hG
  unfold mGive mCost
  generalize hc : sT S 14 4 x * p / sT S 14 2 x = c
  have hprod : 0 ≤ sT S 14 4 x * p ∧ sT S 14 4 x * p ≤ 1000000000000000 * 500 := by
    refine ⟨Int.mul_nonneg p4 (by omega), ?_⟩
    have h1 : sT S 14 4 x * p ≤ 1000000000000000 * p := Int.mul_le_mul_of_nonneg_right p5 (by omega)
    omega
  have main : zW g 0 236 0 (lv_args 0 [.ref xb, iv p]) [] σ (fun r σ' => r = .inl (some (.long (Int64.ofInt c))) ∧ hRep g w0 σ' gh (sset (sset S 14 4 x (sT S 14 4 x - c)) 14 2 x (sT S 14 2 x - p)) J ∧ σ'.2 = σ.2) := by
    refine zW_p 1 rfl ?_
    refine hW_get H rfl hb rfl rfl rfl ?_
    refine zW_p 2 rfl ?_
    rw [L_of ⟨by omega, by omega⟩]
    refine zW_p 1 rfl ?_
    rw [L_mul]
    refine zW_p 1 rfl ?_
    refine hW_get H rfl hb rfl rfl rfl ?_
    refine zW_p 1 rfl ?_
    rw [L_of ⟨by omega, by omega⟩]
    refine zW_ldiv rfl (fun e => ?_) ?_
    · have := (L_eq (b := 0) ⟨by omega, by omega⟩ ⟨by decide, by decide⟩).mp e
      omega
    rw [L_div ⟨by omega, by omega⟩ hprod.1 ⟨by omega, by omega⟩ (by omega), hc]
    refine zW_p 3 rfl ?_
    refine hW_get H rfl hb rfl rfl rfl ?_
    refine zW_p 2 rfl ?_
    rw [L_sub]
    refine hW_put (v := sT S 14 4 x - c) H rfl hb rfl rfl rfl (Or.inl rfl) rfl rfl rfl alv1 (fun e => absurd e (by decide)) (fun σ1 H1 e1 => ?_)
    refine zW_p 2 rfl ?_
    refine hW_get H1 rfl hb rfl rfl rfl ?_
    rw [sT_set, if_neg (by omega)]
    refine zW_p 2 rfl ?_
    rw [I_sub]
    refine hW_put (v := sT S 14 2 x - p) H1 rfl hb rfl rfl rfl (Or.inl rfl) rfl rfl rfl alv0 (fun e => absurd e (by decide)) (fun σ2 H2 e2 => ?_)
    refine zW_p 1 rfl ?_
    exact wW_ret rfl rfl rfl rfl ⟨rfl, H2, e2.trans e1⟩
  obtain ⟨r, σ', h1, rfl, h2, h3⟩ := main
  exact ⟨σ', h1, h2, h3⟩
theorem M_beginX (H : hRep g w0 σ gh S J) (hF : mFix S) (hP : mPart S) (hOp : mOps S) (hMn : mMn S) (hfam : ∀ p : Nat, p < sn S 13 → rg (sT S 13 1 p)) (hq : mQok S o) (ha : hat gh S 11 0 a) (hm : hat gh S 12 i mb) (ho : hat gh S 15 o ob)
    (hQ : ∀ σ' : zS, hRep g w0 σ' gh (mBegin S i o) J → σ'.2 = σ.2 → zW g 6 240 260 [(0, .ref a), (1, iv i)] [] σ' Q) :
    zW g 6 240 128 [(0, .ref a), (1, iv i), (2, .ref mb), (3, .ref ob)] [] σ Q := by
  obtain ⟨⟨q1, q1'⟩, ⟨q9, q9l, q9b⟩, q8, q8'⟩ := hq
  obtain ⟨mn0, mn1, mn4⟩ := hMn i hm.1
  obtain ⟨pi, hpi⟩ : ∃ p : Nat, sT S 15 1 o = p := ⟨(sT S 15 1 o).toNat, (Int.toNat_of_nonneg q1).symm⟩
  have hpl : pi < sn S 13 := by omega
  obtain ⟨p0, p2, p3, p4, p5⟩ := hP pi hpl
  obtain ⟨f0, f1, f2, f3, f4, f5, f6, f7, f8, f9, fa, fb, fc, fd, fe⟩ := hF
  have hxs : mOpL S o = sE S 37 (sT S 13 3 pi).toNat := by unfold mOpL; rw [hpi, Int.toNat_natCast]
  have hcl : sT S 13 3 pi = ((sT S 13 3 pi).toNat : Nat) := (Int.toNat_of_nonneg p3).symm
  have hnx : sT S 15 9 o = ((sT S 15 9 o).toNat : Nat) := (Int.toNat_of_nonneg q9).symm
  have hfm : mFam S o = sT S 13 1 pi := by unfold mFam; rw [hpi, Int.toNat_natCast]
  have rfam : rg (mFam S o) := by rw [hfm]; exact hfam pi hpl
  refine zW_p 1 rfl ?_
  refine hW_getr (j := 0) H rfl ha rfl rfl rfl f2 (fun b0 hb0 => ?_)
  refine zW_p 1 rfl ?_
  refine hW_get H rfl ho rfl rfl rfl ?_
  rw [hpi]
  refine hW_lget (y := pi) H rfl rfl rfl hb0 rfl rfl rfl (by rw [f8]; exact idl_at hpl) rfl (by omega) (fun pb hpb => ?_)
  refine hW_cast H rfl hpb rfl rfl rfl ?_
  refine zW_p 2 rfl ?_
  refine hW_get H rfl hm rfl rfl rfl ?_
  refine zW_p 1 rfl ?_
  refine hW_get H rfl hpb rfl rfl rfl ?_
  rw [← hfm]
  have J1 : ∀ su : Int, su = (if sT S 12 4 i = mFam S o then 0 else sT S 12 1 i) → zW g 6 240 164 [(0, .ref a), (1, iv i), (2, .ref mb), (3, .ref ob), (4, .ref pb)] [iv su] σ Q := by
    intro su hsu
    have hsur : 0 ≤ su ∧ su ≤ 50 := by rw [hsu]; split <;> omega
    refine zW_p 4 rfl ?_
    refine hW_getr H rfl hpb rfl rfl rfl hcl (fun b2 hb2 => ?_)
    refine zW_p 1 rfl ?_
    refine hW_get H rfl ho rfl rfl rfl ?_
    rw [hnx]
    have hlt : (sT S 15 9 o).toNat < (sE S 37 (sT S 13 3 pi).toNat).length := by rw [← hxs]; exact q9l
    have hop : (sE S 37 (sT S 13 3 pi).toNat)[(sT S 15 9 o).toNat]? = some ((mOp S o : Nat) : Int) := by
      unfold mOp
      rw [hxs]
      obtain ⟨r, cap, f, u1, u2, _⟩ := H.lst hb2 (by decide) (by decide)
      have h0 := (u2 _ _ (List.getElem?_eq_getElem hlt)).1
      rw [List.getD_eq_getElem?_getD, List.getElem?_eq_getElem hlt]
      simp only [Option.getD_some]
      rw [Int.toNat_of_nonneg h0]
    refine hW_lget (y := mOp S o) H rfl rfl rfl hb2 rfl rfl rfl hop rfl (by omega) (fun e he => ?_)
    obtain ⟨o1, o2, o3, o4⟩ := hOp pi hpl _ (List.mem_of_getElem? hop)
    rw [Int.toNat_natCast] at o1 o2 o3 o4
    have at46 : ∀ i, i < 3 → (sE S 46 (mOp S o))[i]? = some (mCp S (mOp S o) i) := fun i h3 => getD_at (by omega)
    refine hW_castI H rfl he rfl ?_
    refine zW_p 1 rfl ?_
    refine hW_iald (j := 2) H rfl he (at46 2 (by decide)) (by omega) ?_
    refine zW_p 1 rfl ?_
    refine hW_get H rfl ho rfl rfl rfl ?_
    refine zW_p 1 rfl ?_
    rw [I_mul]
    refine zW_p 1 rfl ?_
    rw [I_add]
    have hprod : 0 ≤ mCp S (mOp S o) 2 * sT S 15 8 o ∧ mCp S (mOp S o) 2 * sT S 15 8 o ≤ 2000 := by
      refine ⟨Int.mul_nonneg (by omega) (by omega), ?_⟩
      have h1 : mCp S (mOp S o) 2 * sT S 15 8 o ≤ mCp S (mOp S o) 2 * 100 := Int.mul_le_mul_of_nonneg_left q8' (by omega)
      omega
    have htm : su + mCp S (mOp S o) 2 * sT S 15 8 o = mTime S i o := by unfold mTime; rw [hsu]
    have htr : 0 ≤ mTime S i o ∧ mTime S i o ≤ 2050 := by omega
    rw [htm]
    have him : 1 ≤ imax1 (mTime S i o) ∧ imax1 (mTime S i o) ≤ 2050 := by unfold imax1; split <;> omega
    refine aW_maxI rfl rfl (Nat.le_of_ble_eq_true rfl) ⟨by omega, by omega⟩ ⟨by decide, by decide⟩ ?_
    rw [show (if (1 : Int) < mTime S i o then mTime S i o else 1) = imax1 (mTime S i o) from rfl]
    refine zW_p 3 rfl ?_
    refine hW_get H rfl hpb rfl rfl rfl ?_
    rw [← hfm]
    refine hW_put (v := mFam S o) H rfl hm rfl rfl rfl (Or.inl rfl) rfl rfl rfl alv0 (fun e => absurd e (by decide)) (fun σ1 H1 e1 => ?_)
    refine zW_p 2 rfl ?_
    refine hW_put (v := 111) H1 rfl (show hat gh _ 12 i mb from hm) rfl rfl rfl (Or.inl rfl) rfl rfl rfl alv0 (fun e => absurd e (by decide)) (fun σ2 H2 e2 => ?_)
    refine zW_p 2 rfl ?_
    refine hW_put (v := (o : Int)) H2 rfl (show hat gh _ 12 i mb from hm) rfl rfl rfl (Or.inl rfl) rfl rfl (convR ho) (alvR ho.1) (fun e => absurd e (by decide)) (fun σ3 H3 e3 => ?_)
    refine zW_p 2 rfl ?_
    refine hW_get H3 rfl (show hat gh _ 11 0 a from ha) rfl rfl rfl ?_
    rw [sT_set, if_neg (by omega), sT_set, if_neg (by omega), sT_set, if_neg (by omega)]
    refine hW_put (v := sT S 11 8 0) H3 rfl (show hat gh _ 12 i mb from hm) rfl rfl rfl (Or.inl rfl) rfl rfl rfl alv0 (fun e => absurd e (by decide)) (fun σ4 H4 e4 => ?_)
    refine zW_p 2 rfl ?_
    refine hW_get H4 rfl (show hat gh _ 11 0 a from ha) rfl rfl rfl ?_
    rw [sT_set, if_neg (by omega), sT_set, if_neg (by omega), sT_set, if_neg (by omega), sT_set, if_neg (by omega)]
    refine zW_p 2 rfl ?_
    rw [I_add]
    refine hW_put (v := sT S 11 8 0 + imax1 (mTime S i o)) H4 rfl (show hat gh _ 12 i mb from hm) rfl rfl rfl (Or.inl rfl) rfl rfl rfl alv0 (fun e => absurd e (by decide)) (fun σ5 H5 e5 => ?_)
    refine zW_p 2 rfl ?_
    refine hW_get H5 rfl (show hat gh _ 15 o ob from ho) rfl rfl rfl ?_
    rw [sT_set, if_neg (by omega), sT_set, if_neg (by omega), sT_set, if_neg (by omega), sT_set, if_neg (by omega), sT_set, if_neg (by omega)]
    refine zW_p 2 rfl ?_
    rw [L_of ⟨by omega, by omega⟩]
    refine zW_p 1 rfl ?_
    refine hW_get H5 rfl (show hat gh _ 12 i mb from hm) rfl rfl rfl ?_
    rw [sT_set, if_neg (by omega), sT_set, if_neg (by omega), sT_set, if_neg (by omega), sT_set, if_neg (by omega), sT_set, if_neg (by omega)]
    refine zW_p 2 rfl ?_
    rw [L_of ⟨by omega, by omega⟩, L_mul]
    rw [show imax1 (mTime S i o) * sT S 12 0 i = mBcost S i o from rfl]
    refine zW_p 1 rfl ?_
    rw [L_add]
    refine hW_put (v := sT S 15 11 o + mBcost S i o) H5 rfl (show hat gh _ 15 o ob from ho) rfl rfl rfl (Or.inl rfl) rfl rfl rfl alv1 (fun e => absurd e (by decide)) (fun σ6 H6 e6 => ?_)
    refine zW_p 2 rfl ?_
    refine hW_put (v := 111) H6 rfl (show hat gh _ 15 o ob from ho) rfl rfl rfl (Or.inl rfl) rfl rfl rfl alv0 (fun e => absurd e (by decide)) (fun σ7 H7 e7 => ?_)
    refine zW_lv [(0, .ref a), (1, iv i)] rfl ⟨rfl, rfl, trivial⟩ ?_
    exact hQ σ7 H7 (e7.trans (e6.trans (e5.trans (e4.trans (e3.trans (e2.trans e1))))))
  by_cases hc : sT S 12 4 i = mFam S o
  · refine zW_f rfl rfl (fun q => q (by rw [hc])) ?_
    refine zW_p 2 rfl ?_
    exact zW_lx (J1 0 (by rw [if_pos hc])) rfl ⟨rfl, rfl, rfl, rfl, rfl, trivial⟩
  · refine zW_t rfl rfl (fun q => hc ((I_eq mn4 rfam).mp q)) ?_
    refine zW_p 1 rfl ?_
    refine hW_get H rfl hm rfl rfl rfl ?_
    exact zW_lx (J1 _ (by rw [if_neg hc])) rfl ⟨rfl, rfl, rfl, rfl, rfl, trivial⟩
end ZMB
