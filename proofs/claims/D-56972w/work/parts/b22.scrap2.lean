/-! THE SIMULATION: scrap, the case -/
set_option maxRecDepth 100000
section ZBS2
variable {g : zG} {w0 : hG} {z : Nat → Nat} {a m ol od k scr n i : Nat} {sf : Nat → Int32} {S : hS} {gh : Nat → Nat → Nat} {J : zw_W} {σ : zS} {Q : Option Value ⊕ String → zS → Prop}
def psSc (z : Nat → Nat) (S S2 : hS) (v n : Int) : Prop := (∃ v : Int, S2 = mt S v) ∨ ((0 ≤ v ∧ v < sn S 8) ∧ fScrapCode z S v.toNat n = 0 ∧ S2 = sset (mt (sset S 8 8 v.toNat (sT S 8 8 v.toNat - n)) 0) 15 8 v.toNat (sT S 8 8 v.toNat - n))
theorem scrap0 {X : hS} {o : Nat} {v : Int} (hz : zInj z) (hI : iAll z k X) (ho : o < sn X 8) (hc : fScrapCode z X o v = 0) : (1 ≤ v ∧ v ≤ sT X 8 8 o) ∧ sT X 8 7 o ≠ (z 0 : Nat) ∧ sT X 8 7 o ≠ (z 1 : Nat) := by
  unfold fScrapCode at hc
  by_cases h : fUw z X o = false
  · rw [if_pos h] at hc
    cases hc
  · rw [if_neg h] at hc
    by_cases h2 : 1 ≤ v ∧ v ≤ sT X 8 8 o
    · refine ⟨h2, ?_⟩
      have hu : fUw z X o = true := by
        cases e : fUw z X o with
        | true => rfl
        | false => exact absurd e h
      obtain ⟨-, -, -, s, s6, hs⟩ := hI.Ord o ho
      unfold fUw at hu
      rw [Bool.or_eq_true, fStg_iff hz s6 (t := 2) (by decide) hs, fStg_iff hz s6 (t := 3) (by decide) hs] at hu
      constructor
      · intro e
        have := hz s 0 (by omega) (by decide) (by omega)
        omega
      · intro e
        have := hz s 1 (by omega) (by decide) (by omega)
        omega
    · rw [if_pos h2] at hc
      cases hc
theorem tS19 (C : hCon g w0 z) (hz : zInj z) (L : lSt g w0 z a m ol od k S gh J σ) (hs : w0.1 scr = some (.inl (8, n, .inl sf))) (hlt : scr < zg_n g) (hi : i + 5 < n) (hn : n ≤ 1000)
    (hQ : ∀ (S2 : hS) (gh2 : Nat → Nat → Nat) (J2 : zw_W) (σ2 : zS), psSc z S S2 (scw sf i 1) (scw sf i 2) → lSt g w0 z a m ol od (k + 1) S2 gh2 J2 σ2 → kc σ σ2 1 6 → tW g 1600 2441 (tLV scr a m ol od i) [] σ2 Q) : tW g 1600 1532 (tLV scr a m ol od i) [] σ Q := by
  have L0 := L
  obtain ⟨H, ⟨f, hf⟩, ⟨fd, hfd⟩, ha, hm, hC, hR, hI, hS, hB⟩ := L
  have hne := ol_ne hf hfd
  have h1 : rg (scw sf i 1) := rg_scw
  have h2 : rg (scw sf i 2) := rg_scw
  have hO15 : sn S 15 = sn S 8 := hR.O.1
  have h88 : ∀ o : Nat, o < sn S 8 → 0 ≤ sT S 8 8 o ∧ sT S 8 8 o ≤ 100 := fun o ho => (hI.or o ho).2.2.2.2.2.2.2.2.1
  have hM8 : ∀ o : Nat, o < sn S 15 → sT S 15 8 o = sT S 8 8 o := fun o ho => (hR.O.2 o (by omega)).2.1.2.1
  by_cases hb : 0 ≤ scw sf i 1 ∧ scw sf i 1 < sn S 8
  · obtain ⟨o, ho, ho8⟩ := idx hb
    have hw8 := h88 o ho8
    obtain ⟨σ1, r1, H1, k1⟩ := F_scrap (n := scw sf i 2) H C hI.fix hI.Ord ha ho8 h2 (by unfold rg; omega)
    rw [← ho] at r1
    have ec := scrapCode (o := o) (n := scw sf i 2) hz hR ho8
    have hle : fScrapCode z S o (scw sf i 2) = 0 ∨ fScrapCode z S o (scw sf i 2) = 2 ∨ fScrapCode z S o (scw sf i 2) = 3 := by
      unfold fScrapCode
      repeat' split
      all_goals omega
    by_cases hk : fScrapCode z S o (scw sf i 2) = 0
    · obtain ⟨hv1, hv2⟩ := scrap0 hz hI ho8 hk
      rw [if_pos hk] at r1 H1
      obtain ⟨σ2, p1, H2, e1⟩ := Lh_scrap (d := 5) H ha r1 (by omega) H1 hf ⟨by omega, by omega⟩
      have fm : mfr S (sset S 8 8 o (sT S 8 8 o - scw sf i 2)) := mfr.refl.set (by decide)
      have hmS := hS.fr fm
      have hR1 := hR.frY hS hB fm
      have hB1 := hB.fr fm
      obtain ⟨σ3, p2, H3, e2⟩ := M_scrap H2 hmS.1 (hR1.mOrd hmS) (fun q hq => by
        have h := h88 q (by rw [← hO15]; exact hq)
        have e := hM8 q hq
        show rg (sT (sset S 8 8 o _) 15 8 q)
        rw [sT_set, if_neg (by omega), e]
        unfold rg; omega) hm h1 h2
      have ec1 := scrapCode (o := o) (n := scw sf i 2) hz hR1 ho8
      rw [hk, ← ho] at ec1
      have ec1 : mScC (sset S 8 8 o (sT S 8 8 o - scw sf i 2)) (scw sf i 1) (scw sf i 2) = 0 := ec1
      have e88 : sT (sset S 8 8 o (sT S 8 8 o - scw sf i 2)) 15 8 (scw sf i 1).toNat = sT S 8 8 o := by
        rw [sT_set, if_neg (by omega), ho, Int.toNat_natCast]
        exact hM8 o (by omega)
      rw [if_pos ec1, e88] at p2 H3
      obtain ⟨q1, q2, q3, q4⟩ := pair88 (v := sT S 8 8 o - scw sf i 2) hz hR1 hI hmS hB1 ⟨by omega, by omega⟩ hv2
      have eo : (scw sf i 1).toNat = o := by omega
      rw [eo] at H3
      have ff : ffr (sset S 8 8 o (sT S 8 8 o - scw sf i 2)) (sset (mt (sset S 8 8 o (sT S 8 8 o - scw sf i 2)) 0) 15 8 o (sT S 8 8 o - scw sf i 2)) := ffr.mt.set (by decide)
      refine tC19 H hs hlt hi hn p1 (by decide) H2 hm p2 (by decide) (by decide) H3 hm ⟨by decide, by decide⟩ ⟨by omega, by omega⟩ (by rw [sT_set, if_neg (by omega), sT_set, if_pos ⟨rfl, rfl, rfl⟩]) (fun _ => ⟨zw_up_same _ _ _, va_up_self _ _ _⟩) ?_
      refine hQ (sset (mt (sset S 8 8 o (sT S 8 8 o - scw sf i 2)) 0) 15 8 o (sT S 8 8 o - scw sf i 2)) _ _ σ3 (Or.inr ⟨hb, by rw [eo]; exact hk, by rw [eo]⟩) (L0.chg (gext_rfl (S := S)) (fun c => Nat.le_refl _) q1 (q2.mono (Nat.le_succ _)) q3 q4 ff H3 ⟨_, zw_up_same _ _ _⟩ ⟨fd, (zw_up_ne _ _ hne).trans hfd⟩) ?_
      exact ((k1.trans (kc.of e1)).trans e2).mono (by omega) (by omega)
    · rw [if_neg hk] at r1 H1
      obtain ⟨σ2, p2, H2, e2⟩ := M_scrap H1 hS.1 (hR.mOrd hS) (fun q hq => by
        have h := h88 q (by rw [← hO15]; exact hq)
        rw [hM8 q hq]
        unfold rg; omega) hm h1 h2
      rw [← ho] at ec
      have hz2 : mScC S (scw sf i 1) (scw sf i 2) ≠ 0 := by omega
      rw [if_neg hz2] at p2 H2
      have fin : ∀ p1 : zEnd g 5 155 [.ref a, iv (scw sf i 1), iv (scw sf i 2), .ref ol] σ (.inl (some (iv ((fScrapCode z S o (scw sf i 2) : Nat) : Int)))) σ1, tW g 1600 1532 (tLV scr a m ol od i) [] σ Q := by
        intro p1
        refine tC19 (f := f) H hs hlt hi hn p1 (by decide) H1 hm p2 (by decide) (by decide) H2 hm ⟨by omega, by omega⟩ ⟨by decide, by decide⟩ (by rw [sT_set, if_pos ⟨rfl, rfl, rfl⟩, ec]) (fun e => by omega) ?_
        refine hQ _ _ _ σ2 (Or.inl ⟨_, rfl⟩) (L0.quiet ffr.refl mfr.refl (gext_rfl (S := S)) (fun _ => Nat.le_refl _) H2 ⟨f, hf⟩ ⟨fd, hfd⟩) ?_
        exact (k1.trans e2).mono (by omega) (by omega)
      rcases hle with e | e | e
      · exact absurd e hk
      · rw [e] at r1 fin
        exact fin (Lh_scrapX2 (d := 5) (b := ol) H ha r1 (by omega))
      · rw [e] at r1 fin
        exact fin (Lh_scrapX3 (d := 5) (b := ol) H ha r1 (by omega))
  · obtain ⟨σ1, r1, H1, k1⟩ := F_scrapX (w := scw sf i 2) H hI.fix ha h1 hb
    have p1 := Lh_scrapX1 (d := 5) (b := ol) H ha r1 (by omega)
    obtain ⟨σ2, p2, H2, e2⟩ := M_scrap H1 hS.1 (hR.mOrd hS) (fun q hq => by
      have h := h88 q (by rw [← hO15]; exact hq)
      rw [hM8 q hq]
      unfold rg; omega) hm h1 h2
    have ec : mScC S (scw sf i 1) (scw sf i 2) = 1 := by
      unfold mScC
      rw [if_pos (show ¬ (0 ≤ scw sf i 1 ∧ scw sf i 1 < sn S 15) by rw [hO15]; exact hb)]
    rw [ec, if_neg (by decide)] at p2 H2
    refine tC19 (f := f) H hs hlt hi hn p1 (by decide) H1 hm p2 (by decide) (by decide) H2 hm ⟨by decide, by decide⟩ ⟨by decide, by decide⟩ (by rw [sT_set, if_pos ⟨rfl, rfl, rfl⟩]) (fun e => absurd e (by decide)) ?_
    refine hQ _ _ _ σ2 (Or.inl ⟨1, rfl⟩) (L0.quiet ffr.refl mfr.refl (gext_rfl (S := S)) (fun _ => Nat.le_refl _) H2 ⟨f, hf⟩ ⟨fd, hfd⟩) ?_
    exact (k1.trans e2).mono (by omega) (by omega)
end ZBS2
