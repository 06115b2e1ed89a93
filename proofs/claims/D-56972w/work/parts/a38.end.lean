/-! Foundrymark: end of a machine's job, the ticks of advance -/
set_option maxRecDepth 100000
def fWk (S : hS) (m : Nat) : Nat := (sT S 1 7 m).toNat
def fEnd1 (S : hS) (m : Nat) : hS := sset (sset (sset S 1 7 m (-1)) 1 11 m (sT S 1 11 m + (sT S 0 6 0 - sT S 1 9 m))) 1 6 m (sT S 1 6 m + sT S 8 8 (fWk S m))
def fEnd2 (S : hS) (m : Nat) : hS := if sT S 1 2 m ≤ sT S 1 6 m + sT S 8 8 (fWk S m) then sset (sset (sset (fEnd1 S m) 1 6 m 0) 1 8 m 1) 1 10 m (sT S 0 6 0 + sT S 1 3 m) else fEnd1 S m
def fEnd3 (S : hS) (m : Nat) : hS := sset (fEnd2 S m) 8 9 (fWk S m) (sT S 8 9 (fWk S m) + 1)
/-- how many jobs go on: none where a machine was broken -/
def fEk (S : hS) (m : Nat) : Nat := if sT S 1 8 m = 1 then 0 else 1
def fEnd (z : Nat → Nat) (S : hS) (m : Nat) : hS := if sT S 1 8 m = 1 then sset S 1 8 m 0 else fGoOn z (fEnd3 S m) (fWk S m)
/-- what goOn asks for -/
def fGoOk (T : hS) (o : Nat) : Prop := fFix T ∧ fPart T ∧ fMach T ∧ fOps T ∧ hOrd T ∧ 0 ≤ sT T 8 1 o ∧ (sT T 8 1 o).toNat % 2 = 0 ∧ 0 ≤ sT T 8 5 o ∧ rg (sT T 8 8 o) ∧ (0 ≤ sT T 8 9 o ∧ sT T 8 9 o ≤ 1000) ∧ ∀ q : Nat, q < sn T 45 → (o : Int) ∉ sE T 45 q
def fEndOk (S : hS) (m : Nat) : Prop := (sT S 1 8 m = 0 ∨ sT S 1 8 m = 1) ∧ (sT S 1 8 m = 0 → 0 ≤ sT S 1 7 m ∧ rg (sT S 0 6 0 - sT S 1 9 m) ∧ rg (sT S 1 6 m + sT S 8 8 (fWk S m)) ∧ rg (sT S 1 2 m) ∧ fGoOk (fEnd3 S m) (fWk S m))
theorem fEnd3_sn {S : hS} {m c : Nat} : sn (fEnd3 S m) c = sn S c := by
  show sn (fEnd2 S m) c = _
  unfold fEnd2
  split <;> rfl
theorem fGoOn_le {z : Nat → Nat} {S : hS} {o c : Nat} : sn S c ≤ sn (fGoOn z S o) c := by
  unfold fGoOn
  split
  · unfold fFinish
    split
    · have h := fAdd_le (S := sset (sset S 8 7 o (z 4 : Nat)) 8 11 o (sT S 0 6 0)) (m := fOL S o) (y := (sT S 8 1 o).toNat) (q := sT S 8 8 o) (c := sT S 8 10 o) (c' := c)
      exact h
    · exact Nat.le_refl _
  · exact Nat.le_refl _
theorem fEnd_le {z : Nat → Nat} {S : hS} {m c : Nat} : sn S c ≤ sn (fEnd z S m) c := by
  unfold fEnd
  split
  · exact Nat.le_refl _
  · exact Nat.le_trans (Nat.le_of_eq fEnd3_sn.symm) fGoOn_le
section ZEN
variable {g : zG} {w0 : hG} {z : Nat → Nat} {σ : zS} {gh : Nat → Nat → Nat} {S T : hS} {J : zw_W} {a b o t m : Nat}
theorem F_goOnK (H : hRep g w0 σ gh T J) (C : hCon g w0 z) (ha : hat gh T 0 0 a) (hb : hat gh T 8 o b) (h : fGoOk T o) :
    ∃ σ' : zS, zEnd g 8 127 [.ref a, .ref b] σ (.inl none) σ' ∧ ∃ ghx, gext T gh ghx ∧ hRep g w0 σ' ghx (fGoOn z T o) J ∧ kc σ σ' 2 300 := by
  obtain ⟨h1, h2, h3, h4, h5, h6, h7, h8, h9, ha', hb'⟩ := h
  exact F_goOn H C h1 h2 h3 h4 h5 ha hb h6 h7 h8 h9 ha' hb'
theorem F_end (H : hRep g w0 σ gh S J) (C : hCon g w0 z) (hE : fEndOk S m) (ha : hat gh S 0 0 a) (hb : hat gh S 1 m b) :
    ∃ σ' : zS, zEnd g 9 160 [.ref a, .ref b] σ (.inl none) σ' ∧ ∃ ghx, gext S gh ghx ∧ hRep g w0 σ' ghx (fEnd z S m) J ∧ kc σ σ' (2 * fEk S m) (300 * fEk S m) := by
  have main : zW g 9 160 0 (lv_args 0 [.ref a, .ref b]) [] σ (fun r σ' => r = .inl none ∧ ∃ ghx, gext S gh ghx ∧ hRep g w0 σ' ghx (fEnd z S m) J ∧ kc σ σ' (2 * fEk S m) (300 * fEk S m)) := by
    obtain ⟨hbr, hgo⟩ := hE
    unfold fEnd
    refine zW_p 1 rfl ?_
    refine hW_get H rfl hb rfl rfl rfl ?_
    rcases hbr with h8 | h8
    · obtain ⟨h7, rb, rw', rl, hG⟩ := hgo h8
      have hk1 : fEk S m = 1 := by unfold fEk; rw [if_neg (by omega)]
      rw [if_neg (by omega), h8, hk1]
      have e7 : sT S 1 7 m = (fWk S m : Nat) := (Int.toNat_of_nonneg h7).symm
      refine zW_p 2 rfl ?_
      refine hW_getr (j := fWk S m) H rfl hb rfl rfl rfl e7 (fun b1 hb1 => ?_)
      refine zW_p 3 rfl ?_
      refine hW_put (v := -1) H rfl hb rfl rfl rfl (Or.inl rfl) rfl rfl rfl (alvN (by decide)) (fun e => absurd e (by decide)) (fun σ2 H2 e2 => ?_)
      refine zW_p 2 rfl ?_
      refine hW_get H2 rfl hb rfl rfl rfl ?_
      rw [sT_set, if_neg (by omega)]
      refine zW_p 1 rfl ?_
      refine hW_get H2 rfl ha rfl rfl rfl ?_
      rw [sT_set, if_neg (by omega)]
      refine zW_p 1 rfl ?_
      refine hW_get H2 rfl hb rfl rfl rfl ?_
      rw [sT_set, if_neg (by omega)]
      refine zW_p 1 rfl ?_
      rw [I_sub]
      refine zW_p 1 rfl ?_
      rw [L_of rb]
      refine zW_p 1 rfl ?_
      rw [L_add]
      refine hW_put (v := sT S 1 11 m + (sT S 0 6 0 - sT S 1 9 m)) H2 rfl hb rfl rfl rfl (Or.inl rfl) rfl rfl rfl alv1 (fun e => absurd e (by decide)) (fun σ3 H3 e3 => ?_)
      refine zW_p 2 rfl ?_
      refine hW_get H3 rfl hb rfl rfl rfl ?_
      rw [sT_set, if_neg (by omega), sT_set, if_neg (by omega)]
      refine zW_p 1 rfl ?_
      refine hW_get H3 rfl hb1 rfl rfl rfl ?_
      rw [sT_set, if_neg (by omega), sT_set, if_neg (by omega)]
      refine zW_p 1 rfl ?_
      rw [I_add]
      refine hW_put (v := sT S 1 6 m + sT S 8 8 (fWk S m)) H3 rfl hb rfl rfl rfl (Or.inl rfl) rfl rfl rfl alv0 (fun e => absurd e (by decide)) (fun σ4 H4 e4 => ?_)
      have H4' : hRep g w0 σ4 gh (fEnd1 S m) J := H4
      have e1T : ∀ c k i, ¬ (c = 1 ∧ (k = 7 ∨ k = 11 ∨ k = 6)) → sT (fEnd1 S m) c k i = sT S c k i := fun c k i h => by
        unfold fEnd1
        rw [sT_set, if_neg (by omega), sT_set, if_neg (by omega), sT_set, if_neg (by omega)]
      have e16 : sT (fEnd1 S m) 1 6 m = sT S 1 6 m + sT S 8 8 (fWk S m) := by unfold fEnd1; rw [sT_set, if_pos ⟨rfl, rfl, rfl⟩]
      have fin : ∀ (σ5 : zS) (lv : zp_L), hRep g w0 σ5 gh (fEnd2 S m) J → σ5.2 = σ.2 → lvok [(0, .ref a), (2, .ref b1)] lv → zW g 9 160 89 lv [] σ5 (fun r σ' => r = .inl none ∧ ∃ ghx, gext S gh ghx ∧ hRep g w0 σ' ghx (fGoOn z (fEnd3 S m) (fWk S m)) J ∧ kc σ σ' (2 * 1) (300 * 1)) := by
        intro σ5 lv H5 e5 hlv
        refine zW_ly hlv rfl ?_
        have n2 : ∀ c, sn (fEnd2 S m) c = sn S c := fun c => by
          have := fEnd3_sn (S := S) (m := m) (c := c)
          exact this
        have hb5 : hat gh (fEnd2 S m) 8 (fWk S m) b1 := ⟨by rw [n2]; exact hb1.1, hb1.2⟩
        have e29 : sT (fEnd2 S m) 8 9 (fWk S m) = sT S 8 9 (fWk S m) := by
          unfold fEnd2
          split
          · rw [sT_set, if_neg (by omega), sT_set, if_neg (by omega), sT_set, if_neg (by omega), e1T _ _ _ (by omega)]
          · rw [e1T _ _ _ (by omega)]
        refine zW_p 2 rfl ?_
        refine hW_get H5 rfl hb5 rfl rfl rfl ?_
        rw [e29]
        refine zW_p 1 rfl ?_
        refine zW_p 1 rfl ?_
        rw [I_add]
        refine hW_put (v := sT S 8 9 (fWk S m) + 1) H5 rfl hb5 rfl rfl rfl (Or.inl rfl) rfl rfl rfl alv0 (fun _ => Or.inl (by decide)) (fun σ6 H6 e6 => ?_)
        have H6' : hRep g w0 σ6 gh (fEnd3 S m) J := H6
        have n3 : ∀ c, sn (fEnd3 S m) c = sn S c := fun c => fEnd3_sn
        have ha6 : hat gh (fEnd3 S m) 0 0 a := ⟨by rw [n3]; exact ha.1, ha.2⟩
        have hb6 : hat gh (fEnd3 S m) 8 (fWk S m) b1 := ⟨by rw [n3]; exact hb1.1, hb1.2⟩
        obtain ⟨σ7, g7, ghx, x7, H7, k7⟩ := F_goOnK (z := z) H6' C ha6 hb6 hG
        refine zW_p 2 rfl ?_
        refine wV rfl rfl rfl rfl rfl rfl rfl (H6'.rc ha6 rfl rfl) g7 (by omega) ?_
        exact wW_ret rfl rfl rfl rfl ⟨rfl, ghx, fun c i hi => x7 c i (by rw [n3]; exact hi), H7, kc.same (e6.trans e5) k7⟩
      refine zW_p 1 rfl ?_
      refine hW_get H4' rfl (show hat gh (fEnd1 S m) 1 m b from hb) rfl rfl rfl ?_
      rw [e16]
      refine zW_p 1 rfl ?_
      refine hW_get H4' rfl (show hat gh (fEnd1 S m) 1 m b from hb) rfl rfl rfl ?_
      rw [e1T 1 2 m (by omega)]
      have e4s : σ4.2 = σ.2 := e4.trans (e3.trans e2)
      by_cases hc : sT S 1 2 m ≤ sT S 1 6 m + sT S 8 8 (fWk S m)
      · refine zW_f rfl rfl (fun q => by have := (I_lt rw' rl).mp q; omega) ?_
        refine zW_p 2 rfl ?_
        refine hW_put (v := 0) H4' rfl (show hat gh (fEnd1 S m) 1 m b from hb) rfl rfl rfl (Or.inl rfl) rfl rfl rfl alv0 (fun e => absurd e (by decide)) (fun σ7 H7 e7' => ?_)
        refine zW_p 2 rfl ?_
        refine hW_put (v := 1) H7 rfl (show hat gh (fEnd1 S m) 1 m b from hb) rfl rfl rfl (Or.inl rfl) rfl rfl rfl alv0 (fun e => absurd e (by decide)) (fun σ8 H8 e8 => ?_)
        refine zW_p 2 rfl ?_
        refine hW_get H8 rfl (show hat gh (fEnd1 S m) 0 0 a from ha) rfl rfl rfl ?_
        rw [sT_set, if_neg (by omega), sT_set, if_neg (by omega), e1T 0 6 0 (by omega)]
        refine zW_p 1 rfl ?_
        refine hW_get H8 rfl (show hat gh (fEnd1 S m) 1 m b from hb) rfl rfl rfl ?_
        rw [sT_set, if_neg (by omega), sT_set, if_neg (by omega), e1T 1 3 m (by omega)]
        refine zW_p 1 rfl ?_
        rw [I_add]
        refine hW_put (v := sT S 0 6 0 + sT S 1 3 m) H8 rfl (show hat gh (fEnd1 S m) 1 m b from hb) rfl rfl rfl (Or.inl rfl) rfl rfl rfl alv0 (fun e => absurd e (by decide)) (fun σ9 H9 e9 => ?_)
        refine fin σ9 _ ?_ (e9.trans (e8.trans (e7'.trans e4s))) ⟨rfl, rfl, trivial⟩
        unfold fEnd2
        rw [if_pos hc]
        exact H9
      · refine zW_t rfl rfl ((I_lt rw' rl).mpr (by omega)) ?_
        refine fin σ4 _ ?_ e4s ⟨rfl, rfl, trivial⟩
        unfold fEnd2
        rw [if_neg hc]
        exact H4'
    · have hk0 : fEk S m = 0 := by unfold fEk; rw [if_pos h8]
      rw [if_pos h8, h8, hk0]
      refine zW_p 3 rfl ?_
      refine hW_put (v := 0) H rfl hb rfl rfl rfl (Or.inl rfl) rfl rfl rfl alv0 (fun e => absurd e (by decide)) (fun σ2 H2 e2 => ?_)
      exact wW_ret rfl rfl rfl rfl ⟨rfl, gh, gext_rfl, H2, (kc.of e2).mono (by omega) (by omega)⟩
  obtain ⟨r, σ', h1, rfl, h2⟩ := main
  exact ⟨σ', h1, h2⟩
end ZEN
