/-! THE SIMULATION: lotsIn, the two shares, isSound -/
set_option maxRecDepth 1000000
def zfT2 (x y : Nat) : Bool := !FP.Core.dIsNaN (FP.Core.f2d (FP.Core.fdiv (.ofNat (FP.Core.fromInt FP.Core.b32 x)) (.ofNat (FP.Core.fromInt FP.Core.b32 y))))
theorem zf_all2 : zAll (fun y => zAll (fun x => zfT2 x (y + 1)) 31) 30 = true := by decide +kernel
theorem shr_ok {x y : Nat} (hx : x ≤ 30) (hy : 1 ≤ y) (hy2 : y ≤ 30) : FP.Core.dIsNaN (FP.f2d (shr x y)) = false := by
  have h1 := zf_ok hx hy hy2
  have h2 := zAll_at (zAll_at zf_all2 (y - 1) (by omega)) x (by omega)
  unfold zfT2 at h2
  rw [show y - 1 + 1 = y by omega] at h2
  unfold shr
  unfold FP.f2d
  rw [if_neg (by rw [h1]; decide)]
  rw [zi2f ⟨by omega, by omega⟩, zi2f ⟨by omega, by omega⟩]
  have h3 : FP.Core.dIsNaN (FP.Core.f2d (FP.Core.fdiv (.ofNat (FP.Core.fromInt FP.Core.b32 (x : Int))) (.ofNat (FP.Core.fromInt FP.Core.b32 (y : Int))))) = false := by simpa using h2
  exact h3
theorem mean_I {x : Int} {n : Nat} (h0 : 0 ≤ x) (h1 : x < 1000000) : mean x n = meanI x n := by
  unfold mean meanI
  have e : FP.l2d (Int64.ofInt x) = FP.i2d (Int32.ofInt x) := by
    rw [zl2d ⟨by omega, by omega⟩, zi2d (x := x) ⟨by omega, by omega⟩]
  rw [e]
theorem cntB_cg {f g : Nat → Bool} {n : Nat} (h : ∀ i : Nat, i < n → f i = g i) : cntB f n = cntB g n := by
  unfold cntB
  rw [List.filter_congr (fun x hx => h x (List.mem_range.mp hx))]
theorem ffr.ssA {X X' : hS} {c i : Nat} {xs : List Int} (h : ffr X X') (hc : ¬ fcl c) : ffr X (ssA X' c i xs) := by
  refine ⟨fun c' h' => h.1 c' h', fun c' k' i' h' => h.2.1 c' k' i' h', fun c' i' h' => ?_⟩
  rw [sE_ssA, if_neg (by rintro ⟨rfl, -⟩; exact hc h')]
  exact h.2.2 c' i' h'
theorem mfr.ssA {Y Y' : hS} {c i : Nat} {xs : List Int} (h : mfr Y Y') (hc : ¬ mcl c ∧ c ≠ 46) : mfr Y (ssA Y' c i xs) := by
  refine ⟨fun c' h' => h.1 c' h', fun c' k' i' h' hk => h.2.1 c' k' i' h' hk, fun c' i' h' => ?_, h.2.2.2.1, fun i' h' => ?_⟩
  · rw [sE_ssA, if_neg (by rintro ⟨rfl, -⟩; exact hc.1 h')]
    exact h.2.2.1 c' i' h'
  · rw [sE_ssA, if_neg (by rintro ⟨q, -⟩; exact hc.2 q.symm)]
    exact h.2.2.2.2 i' h'
section ZBU
variable {z : Nat → Nat} {k : Nat} {X X' Y : hS}
theorem ffr.inO (hf : ffr X X') (x o : Nat) : fInO X' x o = fInO X x o := by
  unfold fInO fInQ
  have e1 : fLotOf X' = fLotOf X := by
    funext t
    unfold fLotOf
    rw [hf.2.1 7 0 t.toNat (by decide)]
  rw [hf.dl, hf.2.2 27 _ (by decide), hf.ch, e1]
theorem fEq.ffr (h : fEq X X') : ffr X X' := ⟨fun c hc => h.1 c (by omega) (by omega), fun c k i hc => h.2.2.1 c k i (by omega) (by omega), fun c i hc => h.2.2.2.1 c i (by omega) (by omega)⟩
theorem fEq.mfr (h : fEq X X') : mfr X X' := ⟨fun c hc => h.1 c (by omega) (by omega), fun c k i hc _ => h.2.2.1 c k i (by omega) (by omega), fun c i hc => h.2.2.2.1 c i (by omega) (by omega), h.2.1.1, h.2.2.2.2.2⟩
theorem rR.bz (hR : rR z X Y) (hI : iAll z k X) {m : Nat} (hm : m < sn X 1) : mBz Y m = fBz X m ∧ 0 ≤ fBz X m ∧ fBz X m ≤ 5000 := by
  obtain ⟨g1, g2, g3, g4, g5, g6, g7, g8⟩ := hR.M.2 m hm
  obtain ⟨q1, q2⟩ := hI.qw.2.1 m hm
  obtain ⟨-, c2, -, -, -, -, c7, c8⟩ := hI.mc.2.2 m hm
  have h0 := hI.mc.2.1
  have hG := hR.G.2
  unfold mBz fBz
  rw [g7, g4, g6, hG]
  unfold fState
  by_cases e1 : sT X 1 8 m = 1
  · rw [if_pos e1]
    have : sT X 1 7 m < 0 := by
      by_cases w : 0 ≤ sT X 1 7 m
      · have := (q2 w).1
        omega
      · omega
    rw [if_pos this] at c8 ⊢
    rw [if_neg (by decide)]
    exact ⟨rfl, by omega, by omega⟩
  · rw [if_neg e1]
    by_cases e2 : sT X 1 7 m < 0
    · rw [if_pos e2] at c8 ⊢
      rw [if_pos e2, if_neg (by decide)]
      exact ⟨rfl, by omega, by omega⟩
    · rw [if_neg e2] at c8 ⊢
      rw [if_neg e2, if_pos rfl]
      exact ⟨rfl, by omega, by omega⟩
theorem rR.bzN (hR : rR z X Y) (hI : iAll z k X) : ∀ p : Nat, p ≤ sn X 1 → mBzN Y p = fBzN X p ∧ 0 ≤ fBzN X p ∧ fBzN X p ≤ 5000 * p := by
  intro p
  show p ≤ sn X 1 → isum p (mBz Y) = isum p (fBz X) ∧ 0 ≤ isum p (fBz X) ∧ isum p (fBz X) ≤ 5000 * p
  induction p with
  | zero => intro _; exact ⟨rfl, Int.le_refl _, Int.le_refl _⟩
  | succ p ih =>
    intro hp
    obtain ⟨h1, h2, h3⟩ := ih (by omega)
    obtain ⟨b1, b2, b3⟩ := hR.bz hI (m := p) (by omega)
    rw [isum_succ, isum_succ, h1, b1]
    exact ⟨rfl, by omega, by omega⟩
end ZBU
section ZBQ
variable {g : zG} {w0 : hG} {z : Nat → Nat} {a m ol od k scr n i : Nat} {sf : Nat → Int32} {S : hS} {gh : Nat → Nat → Nat} {J : zw_W} {σ : zS} {Q : Option Value ⊕ String → zS → Prop}
/-- something new that nobody reads, and what was thrown -/
theorem lSt.quiet {v : Int} {σ0 σ' : zS} {J0 J' : zw_W} {S1 : hS} {gh1 : Nat → Nat → Nat} (L : lSt g w0 z a m ol od k S gh J0 σ0) (hf : ffr S S1) (hfm : mfr S S1) (hx : gext S gh gh1) (hle : ∀ c : Nat, sn S c ≤ sn S1 c) (H : hRep g w0 σ' gh1 (mt S1 v) J') (j1 : ∃ f, J' ol = some (wLA f)) (j2 : ∃ fd, J' od = some (wDA fd)) : lSt g w0 z a m ol od (k + 1) (mt S1 v) gh1 J' σ' := by
  obtain ⟨-, -, -, ha, hm, hC, hR, hI, hS, hB⟩ := L
  have hf2 : ffr S (mt S1 v) := hf.trans ffr.mt
  have hm2 : mfr S (mt S1 v) := hfm.trans mfr.mt
  exact ⟨H, j1, j2, hx.hat (S1 := mt S1 v) hle ha, hx.hat (S1 := mt S1 v) hle hm, hC.ext hx (hle 19) (fun j hj => hm2.2.1 19 0 j (by decide) (by omega)), (hR.frY hS hB hm2).frX hI hf2, (hI.fr hf2).mono (Nat.le_succ _), hS.fr hm2, hB.fr hm2⟩
def nLin (S : hS) (v : Int) : Nat := if 0 ≤ v ∧ v < sn S 8 then (fRc S v.toNat).2 + (cntP (fun x => fInO S x v.toNat) (sn S 6)).2 else 0
theorem tS30 (C : hCon g w0 z) (L : lSt g w0 z a m ol od k S gh J σ) (hs : w0.1 scr = some (.inl (8, n, .inl sf))) (hlt : scr < zg_n g) (hi : i + 5 < n) (hn : n ≤ 1000)
    (hQ : ∀ (v : Int) (S1 : hS) (gh1 : Nat → Nat → Nat) (J2 : zw_W) (σ2 : zS), ffr S S1 → mfr S S1 → lSt g w0 z a m ol od (k + 1) (mt S1 v) gh1 J2 σ2 → kc σ σ2 (2 + nLin S (scw sf i 1)) (110 + 4 * nLin S (scw sf i 1)) → tW g 1600 2441 (tLV scr a m ol od i) [] σ2 Q) : tW g 1600 2186 (tLV scr a m ol od i) [] σ Q := by
  have L0 := L
  obtain ⟨H, ⟨f, hf⟩, ⟨fd, hfd⟩, ha, hm, hC, hR, hI, hS, hB⟩ := L
  have hne := ol_ne hf hfd
  have hv : rg (scw sf i 1) := rg_scw
  have h100 := hI.fix.2.2.2.2.2.2.2.2.2.2.1
  have hn14 : sn S 14 = sn S 6 := hR.L.1
  have hn15 : sn S 15 = sn S 8 := hR.O.1
  unfold nLin at hQ
  by_cases hc : 0 ≤ scw sf i 1 ∧ scw sf i 1 < sn S 8
  · obtain ⟨x, hx, hx8⟩ := idx hc
    rw [if_pos hc, hx, Int.toNat_natCast] at hQ
    obtain ⟨σ0, r1, ghx, hgx, H0, k0⟩ := F_lotsIn H hI.fix hI.W hI.Tk hI.Ln hI.Ord ha hx8
    rw [← hx] at r1
    have hle : ∀ c : Nat, sn S c ≤ sn (fLii S x) c := fun c => sn_w_le (S := S) (c := 49) (xs := List.replicate (sn S 6) 0)
    have hff : ffr S (fLii S x) := (ffr.refl.snw (by decide)).ssA (by decide)
    have hmf : mfr S (fLii S x) := (mfr.refl.snw (by decide)).ssA (by decide)
    have hR1 : rR z (fLii S x) (fLii S x) := (hR.frY hS hB hmf).frX hI hff
    have hI1 := hI.fr hff
    have hS1 := hS.fr hmf
    have hsum := rc_sum hI hx8
    have hcs := cntP_sum (f := fun y => fInO S y x) (sn S 6)
    have hcl := cntP_le (f := fun y => fInO S y x) (sn S 6)
    obtain ⟨σ1, p1, H1, e1⟩ := Lh_lotsIn (d := 105) H ha r1 (by omega) H0 hf ⟨by omega, by omega⟩
    obtain ⟨σ2, p2, H2, e2⟩ := M_lotsIn H1 hS1.1 (hR1.mW hI1 hS1) (hR1.mOrd2 hI1 hS1) (hgx.hat (S1 := fLii S x) hle hm) hv
    have h15' : sn (fLii S x) 15 = sn S 15 := hmf.1 15 (by decide)
    have h14' : sn (fLii S x) 14 = sn S 14 := hmf.1 14 (by decide)
    have hcM : 0 ≤ scw sf i 1 ∧ scw sf i 1 < sn (fLii S x) 15 := by omega
    have em : mLotsIn (fLii S x) (scw sf i 1) = cntP (fun y => fInO S y x) (sn S 6) := by
      unfold mLotsIn
      rw [if_pos hcM, hx, Int.toNat_natCast, h14', hn14]
      refine cntP_cg (fun y hy => ?_)
      rw [hR1.inO hI1 y (by rw [hff.1 8 (by decide)]; exact hx8), hff.inO]
    rw [em] at p2 e2
    rw [if_pos hcM] at H2
    have eb : (fRc S x).1.sum = (((cntP (fun y => fInO S y x) (sn S 6)).1 : Nat) : Int) := by rw [hsum, hcs]
    refine tC30 H hs hlt hi hn p1 (by decide) H1 (hgx.hat (S1 := fLii S x) hle hm) p2 (by decide) (by decide) H2 (hgx.hat (S1 := fLii S x) hle hm) ⟨by decide, by decide⟩ ⟨by omega, by omega⟩ (by rw [sT_set, if_pos ⟨rfl, rfl, rfl⟩]) (fun _ => ⟨zw_up_same _ _ _, by rw [← eb]; exact va_up_self _ _ _⟩) ?_
    refine hQ _ _ _ _ σ2 hff hmf (L0.quiet hff hmf hgx hle H2 ⟨_, zw_up_same _ _ _⟩ ⟨fd, (zw_up_ne _ _ hne).trans hfd⟩) ?_
    exact ((k0.trans (kc.of e1)).trans e2).mono (by omega) (by omega)
  · rw [if_neg hc] at hQ
    obtain ⟨σ1, r1, H1, k1⟩ := F_lotsInX H hI.fix ha hv hc
    have p1 := Lh_lotsInX1 (d := 5) (b := ol) H ha r1 (by omega)
    obtain ⟨σ2, p2, H2, e2⟩ := M_lotsIn H1 hS.1 (hR.mW hI hS) (hR.mOrd2 hI hS) hm hv
    have hcM : ¬ (0 ≤ scw sf i 1 ∧ scw sf i 1 < sn S 15) := by omega
    have em : mLotsIn S (scw sf i 1) = (0, 0) := by
      unfold mLotsIn
      rw [if_neg hcM]
    rw [em] at p2 e2
    rw [if_neg hcM] at H2
    refine tC30 (f := f) H hs hlt hi hn p1 (by decide) H1 hm p2 (by decide) (by decide) H2 hm ⟨by decide, by decide⟩ ⟨by decide, by decide⟩ (by rw [sT_set, if_pos ⟨rfl, rfl, rfl⟩]) (fun e => absurd e (by decide)) ?_
    refine hQ 1 S gh _ σ2 ffr.refl mfr.refl (L0.same H2 ⟨f, hf⟩ ⟨fd, hfd⟩) ?_
    exact (k1.trans e2).mono (by omega) (by omega)
/-- what isSound walks -/
def nSnd (S : hS) : Nat := 3 * sn S 8 + fBackW S (sn S 8) + fForW S (sn S 6) + fPwalk S (sn S 6)
theorem tS34 (C : hCon g w0 z) (L : lSt g w0 z a m ol od k S gh J σ)
    (hQ : ∀ (v : Int) (S1 : hS) (gh1 : Nat → Nat → Nat) (J2 : zw_W) (σ2 : zS), ffr S S1 → mfr S S1 → lSt g w0 z a m ol od (k + 1) (mt S1 v) gh1 J2 σ2 → kc σ σ2 (6 + nSnd S) (3130 + 4 * nSnd S) → tW g 1600 2441 (tLV scr a m ol od i) [] σ2 Q) : tW g 1600 2428 (tLV scr a m ol od i) [] σ Q := by
  have L0 := L
  obtain ⟨H, ⟨f, hf⟩, ⟨fd, hfd⟩, ha, hm, hC, hR, hI, hS, hB⟩ := L
  have h100 := hI.fix.2.2.2.2.2.2.2.2.2.2.1
  have h30 := hI.fix.2.2.2.2.2.2.2.2.2.2.2.1
  obtain ⟨σ0, r1, ghx, S1, hq, hgx, H0, k0⟩ := F_isSound H C hI.fix hI.W hI.Tk hI.Ln hI.Ord ha hI.pok hI.co.2.2.2.2.1 (back_for hI)
  obtain ⟨σ2, p2, H2, e2⟩ := M_isSound H0 (hgx.hat hq.le hm)
  refine tC34 H ha r1 (by decide) H0 (hgx.hat hq.le hm) p2 (by decide) ?_
  refine hQ _ S1 ghx J σ2 hq.ffr hq.mfr (L0.quiet hq.ffr hq.mfr hgx hq.le H2 ⟨f, hf⟩ ⟨fd, hfd⟩) ?_
  have hmul : sn S 6 * sn S 8 ≤ 100 * 30 := Nat.mul_le_mul h100 h30
  unfold nSnd
  exact (k0.trans (kc.of e2)).mono (by omega) (by omega)
theorem tS33 (C : hCon g w0 z) (L : lSt g w0 z a m ol od k S gh J σ) (hs : w0.1 scr = some (.inl (8, n, .inl sf))) (hlt : scr < zg_n g) (hi : i + 5 < n) (hn : n ≤ 1000)
    (hQ : ∀ (v : Int) (J2 : zw_W) (σ2 : zS), lSt g w0 z a m ol od (k + 1) (mt S v) gh J2 σ2 → kc σ σ2 4 20 → tW g 1600 2441 (tLV scr a m ol od i) [] σ2 Q) : tW g 1600 2363 (tLV scr a m ol od i) [] σ Q := by
  have L0 := L
  obtain ⟨H, ⟨f, hf⟩, ⟨fd, hfd⟩, ha, hm, hC, hR, hI, hS, hB⟩ := L
  have hne := ol_ne hf hfd
  have h5 := hI.fix.2.2.2.2.2.2.2.2.2.1
  have hn12 : sn S 12 = sn S 1 := hR.M.1
  obtain ⟨b1, b2, b3⟩ := hR.bzN hI (sn S 1) (Nat.le_refl _)
  have b4 : fBzN S (sn S 1) < 1000000 := by
    have : 5000 * ((sn S 1 : Nat) : Int) ≤ 5000 * 5 := by omega
    omega
  obtain ⟨σ0, r1, H0, k0⟩ := F_meanBusy H hI.fix (fun q hq => by
    have := hI.mc.2.2 q hq
    have h0 := hI.mc.2.1
    exact ⟨by omega, by omega⟩) ⟨b2, b4⟩ ha
  by_cases hc : sn S 1 = 0
  · rw [if_pos hc] at r1
    have p1 := Lh_meanBusyX1 (d := 5) (b := od) H ha r1 (by omega)
    obtain ⟨σ2, p2, H2, e2⟩ := M_meanBusy H0 hS.1 hR.mMach (by rw [hn12, b1]; exact ⟨b2, b4⟩) hm
    rw [if_pos (hn12.trans hc)] at p2 H2
    refine tC33 (fd := fd) H hs hlt hi hn p1 (by decide) H0 hm p2 (by decide) (by decide) H2 hm ⟨by decide, by decide⟩ (by rw [sT_set, if_pos ⟨rfl, rfl, rfl⟩]) (fun e => absurd e (by decide)) ?_
    refine hQ 1 _ σ2 (L0.same H2 ⟨f, hf⟩ ⟨fd, hfd⟩) ?_
    exact (k0.trans e2).mono (by omega) (by omega)
  · rw [if_neg hc] at r1
    obtain ⟨σ1, p1, H1, e1⟩ := Lh_meanBusy (d := 5) H ha r1 (by omega) H0 hfd
    obtain ⟨σ2, p2, H2, e2⟩ := M_meanBusy H1 hS.1 hR.mMach (by rw [hn12, b1]; exact ⟨b2, b4⟩) hm
    rw [if_neg (by omega)] at p2 H2
    rw [hn12, b1, ← mean_I b2 b4] at p2
    refine tC33 H hs hlt hi hn p1 (by decide) H1 hm p2 (by decide) (by decide) H2 hm ⟨by decide, by decide⟩ (by rw [sT_set, if_pos ⟨rfl, rfl, rfl⟩]) (fun _ => ⟨zw_up_same _ _ _, va_up_self _ _ _, by
      rw [mean_I b2 b4]
      exact zd_okI b2 b4 (by omega) (by omega)⟩) ?_
    refine hQ 0 _ σ2 (L0.same H2 ⟨f, (zw_up_ne _ _ (Ne.symm hne)).trans hf⟩ ⟨_, zw_up_same _ _ _⟩) ?_
    exact ((k0.trans (kc.of e1)).trans e2).mono (by omega) (by omega)
theorem tS32 (C : hCon g w0 z) (hz : zInj z) (L : lSt g w0 z a m ol od k S gh J σ) (hs : w0.1 scr = some (.inl (8, n, .inl sf))) (hlt : scr < zg_n g) (hi : i + 5 < n) (hn : n ≤ 1000)
    (hQ : ∀ (v : Int) (J2 : zw_W) (σ2 : zS), lSt g w0 z a m ol od (k + 1) (mt S v) gh J2 σ2 → kc σ σ2 4 20 → tW g 1600 2441 (tLV scr a m ol od i) [] σ2 Q) : tW g 1600 2297 (tLV scr a m ol od i) [] σ Q := by
  have L0 := L
  obtain ⟨H, ⟨f, hf⟩, ⟨fd, hfd⟩, ha, hm, hC, hR, hI, hS, hB⟩ := L
  have hne := ol_ne hf hfd
  have h30 := hI.fix.2.2.2.2.2.2.2.2.2.2.2.1
  have hn15 : sn S 15 = sn S 8 := hR.O.1
  have hor : ∀ o : Nat, o < sn S 8 → rg (sT S 8 12 o) ∧ rg (sT S 8 4 o) := fun o ho => by
    obtain ⟨-, -, -, -, h4, -, -, -, -, -, -, -, h12, -⟩ := hI.or o ho
    exact ⟨⟨by omega, by omega⟩, ⟨by omega, by omega⟩⟩
  have h14 : ∀ o : Nat, o < sn S 8 → mDlv S o = fDlv z S o ∧ mInT S o = fInT z S o ∧ rg (sT S 15 14 o) ∧ rg (sT S 15 4 o) := fun o ho => by
    obtain ⟨⟨s, s6, s7, s8, s9, s10⟩, -⟩ := (hR.O.2 o ho).2.1
    have h4 := (hR.O.2 o ho).1.2.2.2
    obtain ⟨-, -, -, -, q4, -, -, -, -, -, -, -, h12, -⟩ := hI.or o ho
    have hst := fStg_iff hz s6 (t := 5) (by decide) s7
    unfold mDlv mInT fDlv fInT
    rw [s10, h4]
    by_cases e : s = 5
    · rw [if_pos e, hst.mpr e, decide_eq_true (show 0 ≤ sT S 8 12 o by omega)]
      exact ⟨rfl, rfl, ⟨by omega, by omega⟩, ⟨by omega, by omega⟩⟩
    · have hb : fStg z S o 5 = false := by
        cases hb : fStg z S o 5 with
        | false => rfl
        | true => exact absurd (hst.mp hb) e
      rw [if_neg e, hb]
      exact ⟨rfl, rfl, ⟨by decide, by decide⟩, ⟨by omega, by omega⟩⟩
  have ec1 : cntB (mDlv S) (sn S 15) = cntB (fDlv z S) (sn S 8) := by
    rw [hn15]
    exact cntB_cg (fun o ho => (h14 o ho).1)
  have ec2 : cntB (mInT S) (sn S 15) = cntB (fInT z S) (sn S 8) := by
    rw [hn15]
    exact cntB_cg (fun o ho => (h14 o ho).2.1)
  have l1 := cntB_le (f := fDlv z S) (p := sn S 8)
  have l2 := cntB_le (f := fInT z S) (p := sn S 8)
  obtain ⟨σ0, r1, H0, k0⟩ := F_inTimeShare H C hI.fix hI.Ord hor ha
  by_cases hc : cntB (fDlv z S) (sn S 8) = 0
  · rw [if_pos hc] at r1
    have p1 := Lh_inTimeShareX1 (d := 5) (b := od) H ha r1 (by omega)
    obtain ⟨σ2, p2, H2, e2⟩ := M_inTimeShare H0 hS.1 (fun o ho => (h14 o (by omega)).2.2) hm
    rw [if_pos (ec1.trans hc)] at p2 H2
    refine tC32 (fd := fd) H hs hlt hi hn p1 (by decide) H0 hm p2 (by decide) (by decide) H2 hm ⟨by decide, by decide⟩ (by rw [sT_set, if_pos ⟨rfl, rfl, rfl⟩]) (fun e => absurd e (by decide)) ?_
    refine hQ 1 _ σ2 (L0.same H2 ⟨f, hf⟩ ⟨fd, hfd⟩) ?_
    exact (k0.trans e2).mono (by omega) (by omega)
  · rw [if_neg hc] at r1
    have hok := shr_ok (x := cntB (fInT z S) (sn S 8)) (y := cntB (fDlv z S) (sn S 8)) (by omega) (by omega) (by omega)
    obtain ⟨σ1, p1, H1, e1⟩ := Lh_inTimeShare (d := 5) H ha r1 (by omega) H0 hfd hok
    obtain ⟨σ2, p2, H2, e2⟩ := M_inTimeShare H1 hS.1 (fun o ho => (h14 o (by omega)).2.2) hm
    rw [if_neg (by rw [ec1]; exact hc)] at p2 H2
    rw [ec1, ec2] at p2
    refine tC32 H hs hlt hi hn p1 (by decide) H1 hm p2 (by decide) (by decide) H2 hm ⟨by decide, by decide⟩ (by rw [sT_set, if_pos ⟨rfl, rfl, rfl⟩]) (fun _ => ⟨zw_up_same _ _ _, va_up_self _ _ _, hok⟩) ?_
    refine hQ 0 _ σ2 (L0.same H2 ⟨f, (zw_up_ne _ _ (Ne.symm hne)).trans hf⟩ ⟨_, zw_up_same _ _ _⟩) ?_
    exact ((k0.trans (kc.of e1)).trans e2).mono (by omega) (by omega)
end ZBQ
