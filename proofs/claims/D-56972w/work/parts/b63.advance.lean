/-! THE SIMULATION: advance, the case -/
set_option maxRecDepth 100000
section ZCA7
variable {g : zG} {w0 : hG} {z : Nat → Nat} {a m ol od k scr n i : Nat} {sf : Nat → Int32} {S A B : hS} {gh : Nat → Nat → Nat} {J : zw_W} {σ : zS} {Q : Option Value ⊕ String → zS → Prop}
theorem ffr.str (h : ffr A B) : strEq A B := ⟨fun c hc => ⟨h.1 c (by omega), fun j i => h.2.1 c j i (by omega), fun i => h.2.2 c i (by omega)⟩, h.1 6 (by decide), fun j i _ => h.2.1 6 j i (by decide), h.1 7 (by decide), fun j i _ => h.2.1 7 j i (by decide), h.1 8 (by decide), fun j i _ => h.2.1 8 j i (by decide), h.2.1 0 5 0 (by decide)⟩
theorem ffr.jb (h : ffr A B) : jbS z A B := ⟨h.1 8 (by decide), fun i => h.2.1 8 8 i (by decide), fun i => h.2.1 8 2 i (by decide), fun i => Or.inl (h.2.1 8 7 i (by decide))⟩
/-- how many operations all orders have behind them -/
def nxS (S : hS) : Int := isum (sn S 8) (fun o => sT S 8 9 o)
def pAd (z : Nat → Nat) (S S2 : hS) (e : Nat) : Prop := ((∃ v : Int, S2 = mt S v) ∧ e = 0) ∨ (shpC z S S2 ∧ jbS z S S2 ∧ nxS S2 = nxS S + e)
theorem tS20 (C : hCon g w0 z) (hz : zInj z) (L : lSt g w0 z a m ol od k S gh J σ) (hs : w0.1 scr = some (.inl (8, n, .inl sf))) (hlt : scr < zg_n g) (hi : i + 5 < n) (hn : n ≤ 1000)
    (hQ : ∀ (S2 : hS) (gh2 : Nat → Nat → Nat) (J2 : zw_W) (σ2 : zS) (e : Nat), pAd z S S2 e → lSt g w0 z a m ol od (k + 1) S2 gh2 J2 σ2 → kc σ σ2 (4010 + 7 * e) (16010 + 1820 * e) → tW g 1600 2441 (tLV scr a m ol od i) [] σ2 Q) : tW g 1600 1600 (tLV scr a m ol od i) [] σ Q := by
  have L0 := L
  obtain ⟨H, ⟨f, hf⟩, ⟨fd, hfd⟩, ha, hm, hC, hR, hI, hMS, hB⟩ := L
  have hne := ol_ne hf hfd
  have h1 : rg (scw sf i 1) := rg_scw
  have hnow := hI.mc.2.1
  have hG := hR.G
  have codeM : ∀ T, rR z S T → mAdvCode T (scw sf i 1) = if ¬ (1 ≤ scw sf i 1 ∧ scw sf i 1 ≤ 500) then 1 else if 5000 < sT S 0 6 0 + scw sf i 1 then 2 else 0 := fun T hT => by
    unfold mAdvCode
    rw [hT.G.2]
  generalize hv : scw sf i 1 = v at *
  have hIk := hI.mono (Nat.le_succ k)
  have hsum := hI.co.2.2.2.2.2
  have TK := fun (hcode : fAdvCode S v = 0) => by
    have h500 : 1 ≤ v ∧ v ≤ 500 := by
      unfold fAdvCode at hcode
      by_cases h : 1 ≤ v ∧ v ≤ 500
      · exact h
      · rw [if_pos h] at hcode; exact absurd hcode (by decide)
    have h5000 : sT S 0 6 0 + v ≤ 5000 := by
      unfold fAdvCode at hcode
      rw [if_neg (fun q => q h500)] at hcode
      by_cases h : 5000 < sT S 0 6 0 + v
      · rw [if_pos h] at hcode; exact absurd hcode (by decide)
      · omega
    have ev : ((v.toNat : Nat) : Int) = v := by omega
    exact ((⟨h500, h5000, ev, fun Y hY hYS hYB => pairTicks (Y := Y) hz hY hIk hYS hYB (v := v.toNat) (by omega) (by push_cast; omega)⟩ : (1 ≤ v ∧ v ≤ 500) ∧ sT S 0 6 0 + v ≤ 5000 ∧ ((v.toNat : Nat) : Int) = v ∧ ∀ Y : hS, rR z S Y → mShape Y → mBox Y → ∀ t : Nat, t ≤ v.toNat → tkP z (k + 1) S Y (fTicks z S t).1 (mTicks Y t).1 (205000 * t) ((fTicks z S t).2 : Int) ∧ ((mTicks Y t).2.1 ≤ 6 * t + 5 * (fTicks z S t).2 ∧ (mTicks Y t).2.2 ≤ 24 * t + 1520 * (fTicks z S t).2) ∧ sT (fTicks z S t).1 0 6 0 = sT S 0 6 0 + t ∧ (t < v.toNat → fTickOk z (fTicks z S t).1 ∧ mTickOk (mTicks Y t).1)))
  obtain ⟨r, σ0, r1, hr⟩ := F_advance H C h1 hnow ha (fun hcode t ht => (((TK hcode).2.2.2 S hR hMS hB t (by omega)).2.2.2 ht).1)
  rcases hr with ⟨hc0, rfl, H0, k0⟩ | ⟨hc0, rfl, gh1, hg1, H0, hle, k0⟩
  · have hcm : mAdvCode S v ≠ 0 := by
      rw [codeM S hR]
      unfold fAdvCode at hc0
      split
      · decide
      · rename_i h
        rw [if_neg h] at hc0
        split
        · decide
        · rename_i h2
          rw [if_neg h2] at hc0
          exact absurd rfl hc0
    obtain ⟨r2, σ2, p2, hr2⟩ := M_advance H0 h1 (by rw [hG.2]; exact hnow) hm (fun w => absurd w hcm)
    rcases hr2 with ⟨-, rfl, H2, e2⟩ | ⟨hx, -⟩
    · have hfin : ∀ c : Nat, zEnd g 21 157 [.ref a, iv v, .ref ol] σ (.inl (some (iv c))) σ0 → mAdvCode S v = (c : Nat) → 0 < c ∧ c < 5 → tW g 1600 1600 (tLV scr a m ol od i) [] σ Q := fun c p1 ec hc => by
        rw [ec] at H2
        rw [← hv] at p1 p2
        refine tC20 (b := 0) (f := f) H hs hlt hi hn p1 (by decide) H0 hm p2 (by decide) (by decide) H2 hm ⟨by omega, by omega⟩ ⟨by decide, by decide⟩ (by rw [sT_set, if_pos ⟨rfl, rfl, rfl⟩]) (fun e => by omega) ?_
        refine hQ _ _ _ σ2 0 (Or.inl ⟨⟨_, rfl⟩, rfl⟩) (L0.quiet ffr.refl mfr.refl (gext_rfl (S := S)) (fun _ => Nat.le_refl _) H2 ⟨f, hf⟩ ⟨fd, hfd⟩) ?_
        exact (k0.trans e2).mono (by omega) (by omega)
      by_cases h5 : 1 ≤ v ∧ v ≤ 500
      · have e4 : fAdvCode S v = 4 ∧ mAdvCode S v = 2 := by
          have ec := codeM S hR
          unfold fAdvCode at hc0 ⊢
          rw [if_neg (fun q => q h5)] at hc0 ⊢ ec
          by_cases h6 : 5000 < sT S 0 6 0 + v
          · rw [if_pos h6] at ec ⊢; exact ⟨rfl, ec⟩
          · rw [if_neg h6] at hc0; exact absurd rfl hc0
        rw [e4.1] at r1
        exact hfin 2 (Lh_advanceX2 (b := ol) H ha r1 (by omega)) e4.2 ⟨by decide, by decide⟩
      · have e3 : fAdvCode S v = 3 ∧ mAdvCode S v = 1 := by
          have ec := codeM S hR
          unfold fAdvCode
          rw [if_pos h5] at ec ⊢
          exact ⟨rfl, ec⟩
        rw [e3.1] at r1
        exact hfin 1 (Lh_advanceX1 (b := ol) H ha r1 (by omega)) e3.2 ⟨by decide, by decide⟩
    · exact absurd hx hcm
  · obtain ⟨h500, h5000, ev, TT⟩ := TK hc0
    obtain ⟨⟨u1, u2, u3, u4, u5, u6, u7, u8, u9, u10, u11, u12, u13, u14⟩, -, uN, -⟩ := TT S hR hMS hB v.toNat (Nat.le_refl _)
    have fm := u5
    have hmS := hMS.fr fm
    have hR1 := hR.frY hMS hB fm
    have fm0 := fm.trans (mfr.mt (v := 0))
    have hR2 := hR.frY hMS hB fm0
    have hS2 := hMS.fr fm0
    have hB2 := hB.fr fm0
    have TT2 := TT (mt (fTicks z S v.toNat).1 0) hR2 hS2 hB2
    obtain ⟨⟨w1, w2, w3, w4, w5, w6, w7, w8, w9, w10, w11, w12, w13, w14⟩, ⟨wc, ws⟩, wN, -⟩ := TT2 v.toNat (Nat.le_refl _)
    obtain ⟨σ1, p1, H1, e1⟩ := Lh_advance (d := 21) H ha r1 (by omega) H0 hf (by rw [uN]; exact ⟨by omega, by omega⟩)
    have hm1 := hg1.hat hle hm
    have hcm : mAdvCode (fTicks z S v.toNat).1 v = 0 := by
      rw [codeM _ hR1, if_neg (fun q => q h500), if_neg (by omega)]
    obtain ⟨r2, σ2, p2, hr2⟩ := M_advance H1 h1 (by rw [hR1.G.2]; exact hnow) hm1 (fun _ t ht => ((TT2 t (by omega)).2.2.2 ht).2)
    rcases hr2 with ⟨hx, -⟩ | ⟨-, rfl, gh2, hg2, H2, hle2, e2⟩
    · exact absurd hcm hx
    · have eG : sT (mTicks (mt (fTicks z S v.toNat).1 0) v.toNat).1 11 8 0 = sT (fTicks z S v.toNat).1 0 6 0 := w1.G.2
      rw [eG] at p2
      rw [← hv] at p1 p2
      have hle2' : ∀ c : Nat, sn (fTicks z S v.toNat).1 c ≤ sn (mTicks (mt (fTicks z S v.toNat).1 0) v.toNat).1 c := fun c => w8 c
      have t0 : sT (mTicks (mt (fTicks z S v.toNat).1 0) v.toNat).1 11 0 0 = 0 := by
        rw [w10, sT_set, if_pos ⟨rfl, rfl, rfl⟩]
      rw [hv] at p1 p2
      generalize mTicks (mt (fTicks z S v.toNat).1 0) v.toNat = G at *
      generalize fTicks z S v.toNat = F at *
      have fx : ffr F.1 G.1 := ffr.mt.trans w6
      rw [← hv] at p1 p2
      refine tC20 H hs hlt hi hn p1 (by decide) H1 hm1 p2 (by decide) (by decide) H2 (hg2.hat (S1 := G.1) hle2' hm1) ⟨by decide, by decide⟩ (by rw [uN]; exact ⟨by omega, by omega⟩) t0 (fun _ => ⟨zw_up_same _ _ _, va_up_self _ _ _⟩) ?_
      refine hQ G.1 _ _ σ2 F.2 (Or.inr ⟨u12.trans u13 (shpC.of fx.str ⟨fun i => fx.2.1 8 8 i (by decide), fun i => Or.inl (fx.2.1 8 7 i (by decide))⟩), u13.trans hz fx.jb, ?_⟩) (L0.chg (hg1.trans hg2 hle) (fun c => Nat.le_trans (hle c) (hle2' c)) w1 u2 w3 w4 fx H2 ⟨_, zw_up_same _ _ _⟩ ⟨fd, (zw_up_ne _ _ hne).trans hfd⟩) ?_
      · unfold nxS
        rw [fx.1 8 (by decide), u13.1, isum_cg (g := fun o => sT F.1 8 9 o) (fun q _ => fx.2.1 8 9 q (by decide))]
        exact u14
      · exact ((k0.trans (kc.of e1)).trans e2).mono (by omega) (by omega)
end ZCA7
