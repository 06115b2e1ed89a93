/-! THE SIMULATION: order, the case -/
set_option maxRecDepth 100000
section ZBO3
variable {g : zG} {w0 : hG} {z : Nat → Nat} {a m ol od k scr n i : Nat} {sf : Nat → Int32} {S : hS} {gh : Nat → Nat → Nat} {J : zw_W} {σ : zS} {Q : Option Value ⊕ String → zS → Prop}
theorem fO_mfr {p q o d : Int} : mfr S (fOrderS z S p q o d) := by
  unfold fOrderS kFOrder
  exact ((((((((((((mfr.refl.snw (by decide)).snw (by decide)).set (by decide)).snw (by decide)).set (by decide)).set (by decide)).set (by decide)).set (by decide)).set (by decide)).set (by decide)).set (by decide)).ssE (by decide))
theorem mO_ffr {Y : hS} {p q o d : Int} : ffr Y (mOrderS Y p q o d) := by
  unfold mOrderS kMOrder
  exact (((((((((((((((ffr.mt.snw (by decide)).set (by decide)).snw (by decide)).set (by decide)).snw (by decide)).set (by decide)).set (by decide)).set (by decide)).snw (by decide)).set (by decide)).set (by decide)).set (by decide)).set (by decide)).set (by decide)).set (by decide)).ssE (by decide)
theorem fO_le {p q o d : Int} : ∀ c : Nat, sn S c ≤ sn (fOrderS z S p q o d) c := fun c => by
  show _ ≤ sn (snw (sset (snw (snw S 8 []) 26 []) 8 5 _ _) 27 []) c
  exact Nat.le_trans (sn_w_le (S := S) (c := 8) (xs := [])) (Nat.le_trans (sn_w_le (S := snw S 8 []) (c := 26) (xs := [])) (sn_w_le (S := sset (snw (snw S 8 []) 26 []) 8 5 (sn S 8) _) (c := 27) (xs := [])))
theorem mO_le {Y : hS} {p q o d : Int} : ∀ c : Nat, sn Y c ≤ sn (mOrderS Y p q o d) c := fun c => by
  by_cases h : c ≠ 11 ∧ c ≠ 15 ∧ c ≠ 33 ∧ c ≠ 38 ∧ c ≠ 39 ∧ c ≠ 40
  · rw [(mO_ceq h).1]; exact Nat.le_refl _
  · by_cases h2 : c = 15 ∨ c = 38 ∨ c = 39 ∨ c = 40
    · rw [mO_n h2]; exact Nat.le_succ _
    · by_cases h3 : c = 11
      · subst h3; exact Nat.le_refl _
      · obtain rfl : c = 33 := by omega
        exact Nat.le_refl _
def pOr (z : Nat → Nat) (S S2 : hS) (p q o d : Int) : Prop := (∃ v : Int, S2 = mt S v) ∨ (fOrderCode S p q o d = 0 ∧ S2 = mOrderS (fOrderS z S p q o d) p q o d)
theorem orderCode {X Y : hS} {p q o d : Int} (hR : rR z X Y) (hI : iAll z k X) : (fOrderCode X p q o d = 0 ∧ mOrderCode Y p q o d = 0 ∧ fIsP X p ∧ ((1 ≤ q ∧ q ≤ 100) ∧ (0 ≤ o ∧ o ≤ 2) ∧ (0 ≤ d ∧ d ≤ 9999)) ∧ sn X 8 < 30) ∨ (fOrderCode X p q o d = 1 ∧ mOrderCode Y p q o d = 1) ∨ (fOrderCode X p q o d = 3 ∧ mOrderCode Y p q o d = 2) ∨ (fOrderCode X p q o d = 4 ∧ mOrderCode Y p q o d = 3) := by
  have h13 : sn Y 13 = np X := hR.P.1
  have h15 : sn Y 15 = sn X 8 := hR.O.1
  have h30 := hI.fix.2.2.2.2.2.2.2.2.2.2.2.1
  unfold fOrderCode mOrderCode
  by_cases c1 : fIsP X p
  · have c1' : 0 ≤ p ∧ p < sn Y 13 := by rw [h13]; exact c1
    rw [if_neg (show ¬ ¬ fIsP X p from fun w => w c1), if_neg (show ¬ ¬ (0 ≤ p ∧ p < sn Y 13) from fun w => w c1')]
    by_cases c2 : (1 ≤ q ∧ q ≤ 100) ∧ (0 ≤ o ∧ o ≤ 2) ∧ (0 ≤ d ∧ d ≤ 9999)
    · have c2' : ¬ ¬ ((1 ≤ q ∧ q ≤ 100) ∧ (0 ≤ o ∧ o ≤ 2) ∧ (0 ≤ d ∧ d ≤ 9999)) := fun w => w c2
      rw [if_neg c2', if_neg c2']
      by_cases c3 : 30 ≤ sn X 8
      · rw [if_pos c3, if_pos (by omega)]
        exact Or.inr (Or.inr (Or.inr ⟨rfl, rfl⟩))
      · rw [if_neg c3, if_neg (by omega)]
        exact Or.inl ⟨rfl, rfl, c1, c2, by omega⟩
    · rw [if_pos c2, if_pos c2]
      exact Or.inr (Or.inr (Or.inl ⟨rfl, rfl⟩))
  · have c1' : ¬ (0 ≤ p ∧ p < sn Y 13) := by rw [h13]; exact c1
    rw [if_pos c1, if_pos c1']
    exact Or.inr (Or.inl ⟨rfl, rfl⟩)
theorem tS15 (C : hCon g w0 z) (hz : zInj z) (L : lSt g w0 z a m ol od k S gh J σ) (hs : w0.1 scr = some (.inl (8, n, .inl sf))) (hlt : scr < zg_n g) (hi : i + 5 < n) (hn : n ≤ 1000)
    (hQ : ∀ (S2 : hS) (gh2 : Nat → Nat → Nat) (J2 : zw_W) (σ2 : zS), pOr z S S2 (scw sf i 1) (scw sf i 2) (scw sf i 3) (scw sf i 4) → lSt g w0 z a m ol od (k + 1) S2 gh2 J2 σ2 → kc σ σ2 9 400 → tW g 1600 2441 (tLV scr a m ol od i) [] σ2 Q) : tW g 1600 1258 (tLV scr a m ol od i) [] σ Q := by
  have L0 := L
  obtain ⟨H, ⟨f, hf⟩, ⟨fd, hfd⟩, ha, hm, hC, hR, hI, hS, hB⟩ := L
  have hne := ol_ne hf hfd
  have h1 : rg (scw sf i 1) := rg_scw
  have h2 : rg (scw sf i 2) := rg_scw
  have h3 : rg (scw sf i 3) := rg_scw
  have h4 : rg (scw sf i 4) := rg_scw
  have h30 := hI.fix.2.2.2.2.2.2.2.2.2.2.2.1
  obtain ⟨r, σ0, r1, hr⟩ := F_order (z := z) H C hI.fix ha h1 h2 h3 h4
  have oc := orderCode (p := scw sf i 1) (q := scw sf i 2) (o := scw sf i 3) (d := scw sf i 4) hR hI
  rcases hr with ⟨hk0, rfl, H0, k0⟩ | ⟨hk0, rfl, gh1, hg1, H0, k0⟩
  · obtain ⟨r2, σ2, p2, hr2⟩ := M_order H0 hS.1 hm h1 h2 h3 h4
    have fin : ∀ kk : Int, kk = 1 ∨ kk = 2 ∨ kk = 3 → mOrderCode S (scw sf i 1) (scw sf i 2) (scw sf i 3) (scw sf i 4) = kk → zEnd g 9 106 [.ref a, iv (scw sf i 1), iv (scw sf i 2), iv (scw sf i 3), iv (scw sf i 4), .ref ol] σ (.inl (some (iv kk))) σ0 → tW g 1600 1258 (tLV scr a m ol od i) [] σ Q := by
      intro kk hkk ec p1
      rw [ec] at hr2
      rcases hr2 with ⟨-, rfl, H2, e2⟩ | ⟨hx, -⟩
      · refine tC15 (f := f) H hs hlt hi hn p1 (by decide) H0 hm p2 (by decide) (by decide) H2 hm ⟨by omega, by omega⟩ ⟨by decide, by decide⟩ (by rw [sT_set, if_pos ⟨rfl, rfl, rfl⟩]) (fun e => by omega) ?_
        refine hQ _ _ _ σ2 (Or.inl ⟨_, rfl⟩) (L0.quiet ffr.refl mfr.refl (gext_rfl (S := S)) (fun _ => Nat.le_refl _) H2 ⟨f, hf⟩ ⟨fd, hfd⟩) ?_
        exact (k0.trans e2).mono (by omega) (by omega)
      · omega
    rcases oc with ⟨w, -⟩ | ⟨w, w2⟩ | ⟨w, w2⟩ | ⟨w, w2⟩
    · exact absurd w hk0
    · rw [w] at r1
      exact fin 1 (by omega) w2 (Lh_orderX1 (d := 9) (b := ol) H ha r1 (by omega))
    · rw [w] at r1
      exact fin 2 (by omega) w2 (Lh_orderX2 (d := 9) (b := ol) H ha r1 (by omega))
    · rw [w] at r1
      exact fin 3 (by omega) w2 (Lh_orderX3 (d := 9) (b := ol) H ha r1 (by omega))
  · obtain ⟨σ1, p1, H1, e1⟩ := Lh_order (d := 9) H ha r1 (by omega) H0 hf ⟨by omega, by omega⟩
    have fm : mfr S (fOrderS z S (scw sf i 1) (scw sf i 2) (scw sf i 3) (scw sf i 4)) := fO_mfr
    have hmS := hS.fr fm
    have hR1 := hR.frY hS hB fm
    have hB1 := hB.fr fm
    have hm1 := hg1.hat (fO_le (z := z) (p := scw sf i 1) (q := scw sf i 2) (o := scw sf i 3) (d := scw sf i 4)) hm
    obtain ⟨r2, σ2, p2, hr2⟩ := M_order H1 hmS.1 hm1 h1 h2 h3 h4
    rcases oc with ⟨-, w2, c1, c2, c3⟩ | ⟨w, -⟩ | ⟨w, -⟩ | ⟨w, -⟩
    · have oc1 := orderCode (p := scw sf i 1) (q := scw sf i 2) (o := scw sf i 3) (d := scw sf i 4) hR1 hI
      have ec : mOrderCode (fOrderS z S (scw sf i 1) (scw sf i 2) (scw sf i 3) (scw sf i 4)) (scw sf i 1) (scw sf i 2) (scw sf i 3) (scw sf i 4) = 0 := by
        rcases oc1 with ⟨-, w, -⟩ | ⟨w, -⟩ | ⟨w, -⟩ | ⟨w, -⟩
        · exact w
        · rw [hk0] at w; exact absurd w (by decide)
        · rw [hk0] at w; exact absurd w (by decide)
        · rw [hk0] at w; exact absurd w (by decide)
      rw [ec] at hr2
      rcases hr2 with ⟨hx, -⟩ | ⟨-, rfl, gh2, hg2, H2, e2⟩
      · exact absurd rfl hx
      · obtain ⟨q1, q2, q3, q4⟩ := pairO (p := scw sf i 1) hz hR1 hI hmS hB1 c1 c2 c3
        have e15 : sn (fOrderS z S (scw sf i 1) (scw sf i 2) (scw sf i 3) (scw sf i 4)) 15 = sn S 8 := (fm.1 15 (by decide)).trans hR.O.1
        rw [e15] at p2
        refine tC15 H hs hlt hi hn p1 (by decide) H1 hm1 p2 (by decide) (by decide) H2 (hg2.hat mO_le hm1) ⟨by decide, by decide⟩ ⟨by omega, by omega⟩ mO_t0 (fun _ => ⟨zw_up_same _ _ _, va_up_self _ _ _⟩) ?_
        refine hQ (mOrderS (fOrderS z S (scw sf i 1) (scw sf i 2) (scw sf i 3) (scw sf i 4)) (scw sf i 1) (scw sf i 2) (scw sf i 3) (scw sf i 4)) _ _ σ2 (Or.inr ⟨hk0, rfl⟩) (L0.chg (hg1.trans hg2 fO_le) (fun c => Nat.le_trans (fO_le c) (mO_le c)) q1 q2 q3 q4 mO_ffr H2 ⟨_, zw_up_same _ _ _⟩ ⟨fd, (zw_up_ne _ _ hne).trans hfd⟩) ?_
        exact ((k0.trans (kc.of e1)).trans e2).mono (by omega) (by omega)
    · rw [hk0] at w; exact absurd w (by decide)
    · rw [hk0] at w; exact absurd w (by decide)
    · rw [hk0] at w; exact absurd w (by decide)
end ZBO3
