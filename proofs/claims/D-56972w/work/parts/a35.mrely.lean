/-! THE MODEL: release's end -/
set_option maxRecDepth 100000
theorem mGoOn_le {S : hS} {o c : Nat} : sn S c ≤ sn (mGoOn S o) c := by
  unfold mGoOn
  split
  · exact Nat.le_refl _
  · unfold mFin
    split
    · show _ ≤ sn (snw (snw (mFinA S o) 14 []) 41 []) c
      exact Nat.le_trans (show sn S c ≤ sn (mFinA S o) c from Nat.le_refl _) (Nat.le_trans sn_w_le sn_w_le)
    · exact Nat.le_refl _
def mRelQ (T : hS) (o : Nat) : hS := sset T 15 8 o (sT T 15 2 o)
def mRelZ (T : hS) (o : Nat) : hS := mBegL (sn (mGoOn (mRelQ T o) o) 12) (mGoOn (mRelQ T o) o) 0
section ZMRY
variable {g : zG} {w0 : hG} {σ : zS} {gh : Nat → Nat → Nat} {S T : hS} {J : zw_W} {a b o : Nat} {lv : zp_L} {Q : Option Value ⊕ String → zS → Prop}
theorem M_relY (H : hRep g w0 σ gh T J) (hF : mFix T) (hP : mPart T) (hOp : mOps T) (hO : mOrd T) (hM : mMach T) (h6 : sT T 15 6 o = (o : Nat)) (ha : hat gh T 11 0 a) (hb : hat gh T 15 o b) (h1 : 0 ≤ sT T 15 1 o ∧ sT T 15 1 o < sn T 13) (h2 : rg (sT T 15 2 o)) (h9 : 0 ≤ sT T 15 9 o ∧ sT T 15 9 o ≤ 1000)
    (hfin : 0 < sT T 15 2 o → (mOpL T o).length ≤ (sT T 15 9 o).toNat → sn T 14 < 100 ∧ (sE T 38 o).length ≤ 1000)
    (hI : mJI (mGoOn (mRelQ T o) o)) (hlv : lvok [(0, .ref a), (2, .ref b)] lv)
    (hQ : ∀ (σ' : zS) (ghx : Nat → Nat → Nat), gext T gh ghx → hRep g w0 σ' ghx (mRelZ T o) J → kc σ σ' (5 + sn (mGoOn (mRelQ T o) o) 12) (320 + 3 * (sE T 38 o).length + 4 * sn (mGoOn (mRelQ T o) o) 12) → Q (.inl (some (iv 1))) σ') :
    zW g 106 234 169 lv [] σ Q := by
  refine zW_ly hlv rfl ?_
  refine zW_p 2 rfl ?_
  refine hW_get H rfl hb rfl rfl rfl ?_
  refine hW_put (v := sT T 15 2 o) H rfl hb rfl rfl rfl (Or.inl rfl) rfl rfl rfl alv0 (fun e => absurd e (by decide)) (fun σ1 H1 e1 => ?_)
  have H1' : hRep g w0 σ1 gh (mRelQ T o) J := H1
  have tQ : ∀ k, k ≠ 8 → sT (mRelQ T o) 15 k o = sT T 15 k o := fun k h => by unfold mRelQ; rw [sT_set, if_neg (by omega)]
  have t8 : sT (mRelQ T o) 15 8 o = sT T 15 2 o := by unfold mRelQ; rw [sT_set, if_pos ⟨rfl, rfl, rfl⟩]
  have eL : mOpL (mRelQ T o) o = mOpL T o := by
    unfold mOpL
    rw [tQ 1 (by decide)]
    rfl
  have hOQ : mOrd (mRelQ T o) := mOrd_of hO rfl (fun q => by unfold mRelQ; rw [sT_set, if_neg (by omega)]) (fun q => by unfold mRelQ; rw [sT_set, if_neg (by omega)])
  obtain ⟨σ2, g2, ghx, x2, H2, k2⟩ := M_goOn (o := o) H1' (show mFix (mRelQ T o) from hF) (show mPart (mRelQ T o) from hP) (show mOps (mRelQ T o) from hOp) hOQ (show mMach (mRelQ T o) from hM) ((tQ 6 (by decide)).trans h6) (show hat gh (mRelQ T o) 11 0 a from ha) (show hat gh (mRelQ T o) 15 o b from hb) (by rw [tQ 1 (by decide)]; exact h1) (by rw [t8]; exact h2) (by rw [tQ 9 (by decide)]; exact h9) (by rw [t8, tQ 9 (by decide), eL]; exact hfin)
  refine zW_p 2 rfl ?_
  refine wV rfl rfl rfl rfl rfl rfl rfl (H1'.rc (show hat gh (mRelQ T o) 11 0 a from ha) rfl rfl) g2 (by omega) ?_
  have ha2 : hat ghx (mGoOn (mRelQ T o) o) 11 0 a := x2.hat (fun c => mGoOn_le) (show hat gh (mRelQ T o) 11 0 a from ha)
  obtain ⟨σ3, g3, H3, k3⟩ := M_begin H2 hI ha2
  refine zW_p 1 rfl ?_
  refine wV rfl rfl rfl rfl rfl rfl rfl (H2.rc ha2 rfl rfl) g3 (by omega) ?_
  refine zW_p 1 rfl ?_
  exact zW_reti rfl rfl rfl (hQ σ3 ghx x2 H3 (((kc.of e1).trans (k2.trans k3)).mono (by omega) (by show _ ≤ 320 + 3 * (sE T 38 o).length + 4 * _; show 0 + (320 + 3 * (sE T 38 o).length + _) ≤ _; omega)))
end ZMRY
