/-! THE MODEL: release whole -/
set_option maxRecDepth 100000
def mRelU (T : hS) (o : Nat) : hS := mRelN T o (sE T 38 o).length
/-- what release's end asks for -/
def mRelOk (T : hS) (o : Nat) : Prop := mOrd2 T ∧ (∀ (p : Nat) (t : Int × Int), (mZs T o)[p]? = some t → mGok (mUnres (mRelN T o p) t) t.1.toNat (sT T 19 0 t.2.toNat)) ∧
  mFix (mRelU T o) ∧ mPart (mRelU T o) ∧ mOps (mRelU T o) ∧ mOrd (mRelU T o) ∧ mMach (mRelU T o) ∧ sT (mRelU T o) 15 6 o = (o : Nat) ∧ (0 ≤ sT (mRelU T o) 15 1 o ∧ sT (mRelU T o) 15 1 o < sn (mRelU T o) 13) ∧ rg (sT (mRelU T o) 15 2 o) ∧ (0 ≤ sT (mRelU T o) 15 9 o ∧ sT (mRelU T o) 15 9 o ≤ 1000) ∧
  (0 < sT (mRelU T o) 15 2 o → (mOpL (mRelU T o) o).length ≤ (sT (mRelU T o) 15 9 o).toNat → sn (mRelU T o) 14 < 100 ∧ (sE (mRelU T o) 38 o).length ≤ 1000) ∧ mJI (mGoOn (mRelQ (mRelU T o) o) o)
/-- what is reserved behind release's head: the state, whether it goes on, the cost -/
def mRelT (S : hS) (o : Nat) : fAst := if sT S 15 5 o = 45 then mRA (mt S 0) o else (mt S 0, true, 0, 0)
def mRelK (T : hS) (o : Nat) : Nat × Nat := (5 + sn (mGoOn (mRelQ (mRelU T o) o) o) 12, 320 + 3 * (sE (mRelU T o) 38 o).length + 4 * sn (mGoOn (mRelQ (mRelU T o) o) o) 12)
section ZMRL
variable {g : zG} {w0 : hG} {σ : zS} {gh : Nat → Nat → Nat} {S T : hS} {J : zw_W} {a b o : Nat} {v : Int} {lv : zp_L} {Q : Option Value ⊕ String → zS → Prop}
theorem M_relGo (H : hRep g w0 σ gh T J) (hR : mRelOk T o) (ha : hat gh T 11 0 a) (hb : hat gh T 15 o b) (hlv : lvok [(0, .ref a), (2, .ref b)] lv)
    (hQ : ∀ (σ' : zS) (ghx : Nat → Nat → Nat), gext T gh ghx → hRep g w0 σ' ghx (mRelZ (mRelU T o) o) J → kc σ σ' (mRelK T o).1 (mRelK T o).2 → Q (.inl (some (iv 1))) σ') :
    zW g 106 234 80 lv [] σ Q := by
  obtain ⟨r1, r2, r3, r4, r5, r6, r7, r8, r9, ra, rb, rc, rd⟩ := hR
  refine zW_ly hlv rfl ?_
  refine M_relX H r1 hb r2 (fun σ1 lv1 H1 e1 hl1 => ?_)
  have hn : ∀ c, sn (mRelU T o) c = sn T c := fun c => mRel_sn
  have ha1 : hat gh (mRelU T o) 11 0 a := ⟨by rw [hn]; exact ha.1, ha.2⟩
  have hb1 : hat gh (mRelU T o) 15 o b := ⟨by rw [hn]; exact hb.1, hb.2⟩
  refine M_relY H1 r3 r4 r5 r6 r7 r8 ha1 hb1 r9 ra rb rc rd hl1 (fun σ2 ghx x2 H2 k2 => ?_)
  exact hQ σ2 ghx (fun c i hi => x2 c i (by show i < sn (mRelU T o) c; rw [hn]; exact hi)) H2 (kc.same e1 k2)
theorem M_release (H : hRep g w0 σ gh S J) (hC : hCache g w0 gh S) (hF : mFix S) (hW : mW S) (hA : mAv S) (hP : mPart S) (hCm : mCmp S) (hO : mOrd S) (hO2 : mOrd2 S) (hQ : ∀ o : Nat, o < sn S 15 → mOq S o) (hN : ∀ o : Nat, o < sn S 15 → sT S 15 5 o = 45 → sE S 38 o = [] ∧ sE S 39 o = []) (ha : hat gh S 11 0 a) (hv : rg v)
    (hX : mRelC S v = 0 → (mRelT S v.toNat).2.1 = true → mRelOk (mRelT S v.toNat).1 v.toNat) :
    zM g 106 234 [.ref a, iv v] σ (fun r σ' => (mRelC S v ≠ 0 ∧ r = .inl (some (iv 0)) ∧ hRep g w0 σ' gh (mt S (mRelC S v)) J ∧ kc σ σ' 0 0) ∨
      (mRelC S v = 0 ∧ (mRelT S v.toNat).2.1 = false ∧ r = .inl (some (iv 0)) ∧ ∃ ghx, gext S gh ghx ∧ hRep g w0 σ' ghx (mRelT S v.toNat).1 J ∧ kc σ σ' (mRelT S v.toNat).2.2.1 (mRelT S v.toNat).2.2.2) ∨
      (mRelC S v = 0 ∧ (mRelT S v.toNat).2.1 = true ∧ r = .inl (some (iv 1)) ∧ ∃ ghx, gext S gh ghx ∧ hRep g w0 σ' ghx (mRelZ (mRelU (mRelT S v.toNat).1 v.toNat) v.toNat) J ∧ kc σ σ' ((mRelT S v.toNat).2.2.1 + (mRelK (mRelT S v.toNat).1 v.toNat).1) ((mRelT S v.toNat).2.2.2 + (mRelK (mRelT S v.toNat).1 v.toNat).2))) := by
  refine M_relH H hF hP hO (fun o ho => (hQ o ho).2.2) ha hv (fun hc σ' H' hs => Or.inl ⟨hc, rfl, H', kc.of hs⟩) (fun hc σ1 b H1 hs1 hb => ?_)
  have hX' := hX hc
  generalize hoo : v.toNat = o at hb hX' ⊢
  have hol : o < sn S 15 := hb.1
  have hr5 : rg (sT S 15 5 o) := by
    rcases (hO o hol).1 with e | e | e | e | e | e <;> rw [e] <;> constructor <;> decide
  refine zW_p 1 rfl ?_
  refine hW_get H1 rfl hb rfl rfl rfl ?_
  refine zW_p 1 rfl ?_
  by_cases e5 : sT S 15 5 o = 45
  · obtain ⟨n1, n2⟩ := hN o hol e5
    have eT : mRelT S o = mRA (mt S 0) o := by unfold mRelT; rw [if_pos e5]
    rw [eT] at hX' ⊢
    refine zW_f rfl rfl (fun q => q ((I_eq (show rg (sT (mt S 0) 15 5 o) from hr5) (by constructor <;> decide)).2 e5)) ?_
    refine zW_p 2 rfl ?_
    obtain ⟨r, σ3, g3, rfl, ghx, x3, H3, k3, hi3⟩ := M_reserve (o := o) H1 (show hCache g w0 gh (mt S 0) from hC) (show mFix (mt S 0) from hF) (show mW (mt S 0) from hW) (show mAv (mt S 0) from hA) (show mPart (mt S 0) from hP) (show mCmp (mt S 0) from hCm) (show mOrd2 (mt S 0) from hO2) (show mOq (mt S 0) o from hQ o hol) n1 n2 (show hat gh (mt S 0) 11 0 a from ha) hb
    refine wV rfl rfl rfl rfl rfl rfl rfl (H1.rc (show hat gh (mt S 0) 11 0 a from ha) rfl rfl) g3 (by omega) ?_
    have kk := kc.same hs1 k3
    cases hh : (mRA (mt S 0) o).2.1 with
    | true =>
      refine zW_p 1 rfl ?_
      have hle : ∀ c, sn (mt S 0) c ≤ sn (mRA (mt S 0) o).1 c := fun c => by
        unfold mRA at hh ⊢
        split
        · show sn (mt S 0) c ≤ sn (mRAN (mt S 0) o (mComps (mt S 0) o).length).1 c
          exact hi3.le c
        · rename_i hn
          rw [if_neg hn] at hh
          cases hh
      refine M_relGo H3 (hX' hh) (x3.hat hle (show hat gh (mt S 0) 11 0 a from ha)) (x3.hat hle hb) ⟨rfl, rfl, trivial⟩ (fun σ4 ghy x4 H4 k4 => ?_)
      exact Or.inr (Or.inr ⟨hc, rfl, rfl, ghy, gext.trans (S := mt S 0) x3 x4 hle, H4, kk.trans k4⟩)
    | false =>
      refine zW_p 2 rfl ?_
      exact zW_reti rfl rfl rfl (Or.inr (Or.inl ⟨hc, rfl, rfl, ghx, x3, H3, kk⟩))
  · have eT : mRelT S o = (mt S 0, true, 0, 0) := by unfold mRelT; rw [if_neg e5]
    rw [eT] at hX' ⊢
    refine zW_t rfl rfl (fun q => e5 ((I_eq (show rg (sT (mt S 0) 15 5 o) from hr5) (by constructor <;> decide)).1 q)) ?_
    refine M_relGo H1 (hX' rfl) (show hat gh (mt S 0) 11 0 a from ha) hb ⟨rfl, rfl, trivial⟩ (fun σ4 ghy x4 H4 k4 => ?_)
    exact Or.inr (Or.inr ⟨hc, rfl, rfl, ghy, x4, H4, (kc.same hs1 k4).mono (by show _ ≤ 0 + (mRelK (mt S 0) o).1; omega) (by show _ ≤ 0 + (mRelK (mt S 0) o).2; omega)⟩)
end ZMRL
