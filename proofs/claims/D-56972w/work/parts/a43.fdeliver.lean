/-! Foundrymark: deliver whole -/
set_option maxRecDepth 100000
abbrev fDlm (S : hS) : Nat := sn S 27
def fDlT (S : hS) (o : Nat) : fRst := fDlN S o (sn S 6)
section ZDV
variable {g : zG} {w0 : hG} {z : Nat → Nat} {σ : zS} {gh : Nat → Nat → Nat} {S T : hS} {J : zw_W} {a b o m l lb mb : Nat} {t pt n : Int} {lv : zp_L} {Q : Option Value ⊕ String → zS → Prop}
theorem fW_w27 (hW : fW S) : fW (snw S 27 []) := fW_of hW (by rw [sn_w, if_neg (by decide)]) (fun i => by rw [sT_w, if_neg (fun e => absurd e.1 (by decide))]) (fun i => by rw [sT_w, if_neg (fun e => absurd e.1 (by decide))]) (fun m t ht => by rw [sE_w, if_neg (fun e => absurd e.1 (by decide))] at ht; exact ht) (fun t => by rw [sT_w, if_neg (fun e => absurd e.1 (by decide))])
theorem F_planStep {s : fRst} (H : hRep g w0 σ gh s.1 J) (hI : fPlI S s.1 m) (hl : l < 100) (hA : fAv S) (hls : l < sn S 6) (hb : hat gh s.1 6 l lb) (hm : hat gh s.1 27 m mb) (hn : 0 ≤ s.2.1 ∧ s.2.1 ≤ 900) (hlen : (sE s.1 27 m).length ≤ 1000) :
    ∃ σ' : zS, zEnd g 104 163 [.ref mb, .ref lb, iv s.2.1] σ (.inl (some (iv (fPlanStep m s l).2.1))) σ' ∧ ∃ ghx, gext s.1 gh ghx ∧ hRep g w0 σ' ghx (fPlanStep m s l).1 J ∧ fPlI S (fPlanStep m s l).1 m ∧ (0 ≤ (fPlanStep m s l).2.1 ∧ (fPlanStep m s l).2.1 ≤ s.2.1) ∧ (∀ c, sn s.1 c ≤ sn (fPlanStep m s l).1 c) ∧ (sE (fPlanStep m s l).1 27 m).length ≤ (sE s.1 27 m).length + 1 ∧ ∀ κ : Nat × Nat, kd κ σ.2 s.2.2.1 s.2.2.2 → kd κ σ'.2 (fPlanStep m s l).2.2.1 (fPlanStep m s l).2.2.2 := by
  obtain ⟨T, lf, ct, sl⟩ := s
  simp only at H hI hb hm hn hlen ⊢
  obtain ⟨v1, v2, v3, v4, v5⟩ := hA l hls
  have hv : 0 ≤ sT T 6 5 l ∧ sT T 6 5 l ≤ sT T 6 4 l ∧ sT T 6 4 l ≤ 500 := by
    rw [hI.2.2.2.2.2.2.1 6 5 l (by decide), hI.2.2.2.2.2.2.1 6 4 l (by decide)]
    exact ⟨v1, v2, v3⟩
  obtain ⟨σ', g', ghx, x', H', k'⟩ := F_plan (n := lf) H hI.1 hl hv hb hm hn hlen
  have hth : fPlanT T l lf ≤ lf ∧ 0 ≤ fPlanT T l lf := by
    unfold fPlanT imin
    repeat' split
    all_goals omega
  refine ⟨σ', g', ghx, x', H', fPlI_plan H hI, ⟨?_, ?_⟩, fun c => ?_, ?_, fun κ hk => ?_⟩
  · show 0 ≤ lf - fPlanT T l lf; omega
  · show lf - fPlanT T l lf ≤ lf; omega
  · show sn T c ≤ sn (fPlanS T m l _) c
    unfold fPlanS
    split
    · rw [fTakeD_sn]
      split
      · rename_i e; rw [e]; omega
      · exact Nat.le_refl _
    · exact Nat.le_refl _
  · show (sE (fPlanS T m l _) 27 m).length ≤ _
    unfold fPlanS
    split
    · rw [fTakeD_sE, if_pos ⟨rfl, rfl⟩, List.length_append]
      simp
    · omega
  · exact kd.trans hk k'.kd
theorem F_dlPlan (H : hRep g w0 σ gh (fDl0 S o).1 J) (hF : fFix S) (hA : fAv S) (h1 : 0 ≤ sT S 8 1 o) (hq : 1 ≤ sT S 8 2 o ∧ sT S 8 2 o ≤ 100) (ha : hat gh (fDl0 S o).1 0 0 a) (hb : hat gh (fDl0 S o).1 8 o b) (hob : o < sn S 8) (hm : hat gh (fDl0 S o).1 27 (sn S 27) mb)
    (hI : fPlI (snw S 27 []) (fDl0 S o).1 (sn S 27)) (hn : 0 ≤ (fDl0 S o).2.1 ∧ (fDl0 S o).2.1 ≤ sT S 8 2 o) (hlen : (sE (fDl0 S o).1 27 (sn S 27)).length ≤ 1) {κ0 : Nat × Nat} {m0 s0 : Nat}
    (hk0 : kd κ0 σ.2 m0 s0) (hm0 : m0 + 1 ≤ (fDl0 S o).2.2.1) (hs0 : s0 + 4 ≤ (fDl0 S o).2.2.2) (hlv : lvok [(0, .ref a), (2, .ref b), (4, .ref mb), (5, iv (fDl0 S o).2.1)] lv)
    (hQ : ∀ (σ' : zS) (ghx : Nat → Nat → Nat) (lv' : zp_L), gext (fDl0 S o).1 gh ghx → hRep g w0 σ' ghx (fDlT S o).1 J → fPlI (snw S 27 []) (fDlT S o).1 (sn S 27) → (∀ c, sn (fDl0 S o).1 c ≤ sn (fDlT S o).1 c) → (0 ≤ (fDlT S o).2.1 ∧ (fDlT S o).2.1 ≤ sT S 8 2 o) → (sE (fDlT S o).1 27 (sn S 27)).length ≤ 1 + sn S 6 → kd κ0 σ'.2 (fDlT S o).2.2.1 (fDlT S o).2.2.2 → lvok [(0, .ref a), (2, .ref b), (4, .ref mb), (5, iv (fDlT S o).2.1)] lv' → zW g 106 162 163 lv' [] σ' Q) :
    zW g 106 162 92 lv [] σ Q := by
  have hFx := hF
  obtain ⟨f0, f1, f2, f3, f4, f5, f6, f7, f8, f9, fa, fb, fc, fd⟩ := hF
  have hT0 := hI.2.2.2.2.2.2.1
  have hE0 := hI.2.2.2.2.1
  have hM0 := hI.2.2.2.2.2.1
  have eT0 : ∀ c k i, c ≠ 7 → c ≠ 27 → sT (fDl0 S o).1 c k i = sT S c k i := fun c k i h7 h27 => by rw [hT0 c k i h7, sT_w, if_neg (fun e => h27 e.1)]
  have en0 : sn (fDl0 S o).1 6 = sn S 6 := by rw [hI.2.2.1 6 (by decide), sn_w, if_neg (by decide)]
  have eE0 : sE (fDl0 S o).1 22 0 = sE S 22 0 := by rw [hE0 22 0 (by decide) (by omega), sE_w, if_neg (fun e => absurd e.1 (by decide))]
  have hy2 : sT S 8 1 o = ((sT S 8 1 o).toNat : Nat) := (Int.toNat_of_nonneg h1).symm
  refine zW_ly hlv rfl ?_
  refine zW_p 1 rfl ?_
  refine hW_getr (j := 0) H rfl ha rfl rfl rfl (by rw [eT0 _ _ _ (by decide) (by decide)]; exact f3) (fun b0 hb0 => ?_)
  refine hW_iter H rfl rfl rfl hb0 rfl rfl rfl (by omega) (fun σ1 it hJ H1 k1 => ?_)
  refine zW_p 1 rfl ?_
  refine zW_lv ((6, .ref it) :: [(0, .ref a), (2, .ref b), (4, .ref mb), (5, iv (fDlN S o 0).2.1)]) rfl ⟨rfl, rfl, rfl, rfl, rfl, trivial⟩ ?_
  refine hW_loop (c := 22) (i := 0) (b := b0) (n := 6) (xs := sE S 22 0) (mc := Int32.ofInt (sM (fDl0 S o).1 22 0)) (fun p lv κ gh' S' => lv = [(0, .ref a), (2, .ref b), (4, .ref mb), (5, iv (fDlN S o p).2.1)] ∧ gext (fDl0 S o).1 gh gh' ∧ S' = (fDlN S o p).1 ∧ fPlI (snw S 27 []) S' (sn S 27) ∧ (0 ≤ (fDlN S o p).2.1 ∧ (fDlN S o p).2.1 ≤ sT S 8 2 o) ∧ (∀ c, sn (fDl0 S o).1 c ≤ sn S' c) ∧ (sE S' 27 (sn S 27)).length ≤ 1 + p ∧ kd κ0 κ (fDlN S o p).2.2.1 (fDlN S o p).2.2.2) hJ rfl rfl rfl (fun _ => rfl) rfl rfl rfl (fun _ => rfl) (fun _ => rfl) rfl rfl rfl (by omega) ?_ ?_ ?_ _ _ _ _ H1 ⟨rfl, gext_rfl, rfl, hI, hn, fun _ => Nat.le_refl _, hlen, ?_⟩
  · rintro p lv κ gh' S' ⟨rfl, hx, hS', hi, hle, hl, hlen2, hk⟩
    refine ⟨hx.hat hl hb0, ?_, ?_⟩
    · rw [hi.2.2.2.2.1 22 0 (by decide) (by omega), sE_w, if_neg (fun e => absurd e.1 (by decide))]
    · rw [hi.2.2.2.2.2.1 22 0 (by decide) (by decide), ← hM0 22 0 (by decide) (by decide)]
  · rintro p y lv σ2 gh' S' J2 e hp hy ⟨rfl, hx, hS', hi, hle, hl, hlen2, hk⟩ H2 hd he hback
    rw [f7, idl_len] at hp
    rw [f7, idl_at hp] at hy
    obtain rfl : p = y := by have := Option.some.inj hy; omega
    have hs : fDlN S o (p + 1) = fDlStep o (sn S 27) (fDlN S o p) p := fDlN_succ
    subst hS'
    have eT : ∀ c k i, c ≠ 7 → c ≠ 27 → sT (fDlN S o p).1 c k i = sT S c k i := fun c k i h7 h27 => by rw [hi.2.2.2.2.2.2.1 c k i h7, sT_w, if_neg (fun e => h27 e.1)]
    have hbx : hat gh' (fDlN S o p).1 8 o b := hx.hat hl hb
    have hmx : hat gh' (fDlN S o p).1 27 (sn S 27) mb := hx.hat hl hm
    obtain ⟨v1, v2, v3, v4, v5⟩ := hA p hp
    have hyp : sT S 6 1 p = ((sT S 6 1 p).toNat : Nat) := (Int.toNat_of_nonneg v4).symm
    have hA0 : fAv (snw S 27 []) := fun l hl => by
      rw [sn_w, if_neg (by decide)] at hl
      have hz : ∀ c k i, c ≠ 27 → sT (snw S 27 []) c k i = sT S c k i := fun c k i h27 => by rw [sT_w, if_neg (fun e => h27 e.1)]
      have := hA l hl
      unfold fPnum fLp at this ⊢
      rw [hz 6 5 l (by decide), hz 6 4 l (by decide), hz 6 1 l (by decide), hz _ _ _ (by omega)]
      exact this
    -- on to the next lot
    have skip : ∀ lv : zp_L, ¬ (sT S 6 1 p = sT S 8 1 o ∧ (p : Int) ≠ sT S 8 13 o) → lvok ((6, .ref it) :: [(0, .ref a), (2, .ref b), (4, .ref mb), (5, iv (fDlN S o p).2.1)]) lv → zW g 106 162 156 lv [] σ2 Q := by
      intro lv hno hlv
      have hs2 : fDlN S o (p + 1) = fDlN S o p := by
        rw [hs]
        unfold fDlStep
        rw [eT 6 1 p (by decide) (by decide), eT 8 1 o (by decide) (by decide), eT 8 13 o (by decide) (by decide), if_neg hno]
      refine zW_ly hlv rfl ?_
      refine zW_p 3 rfl ?_
      refine zW_lv ((6, .ref it) :: [(0, .ref a), (2, .ref b), (4, .ref mb), (5, iv (fDlN S o p).2.1)]) rfl ⟨rfl, rfl, rfl, rfl, rfl, trivial⟩ ?_
      exact hback _ σ2 _ _ H2 ⟨by rw [hs2], hx, by rw [hs2], hi, by rw [hs2]; exact hle, hl, by omega, by rw [hs2]; exact hk⟩
    have take : ∀ lv : zp_L, (sT S 6 1 p = sT S 8 1 o ∧ (p : Int) ≠ sT S 8 13 o) → lvok [(0, .ref a), (2, .ref b), (4, .ref mb), (5, iv (fDlN S o p).2.1), (6, .ref it), (7, .ref e)] lv → zW g 106 162 144 lv [] σ2 Q := by
      intro lv hyes hlv
      have hs2 : fDlN S o (p + 1) = fPlanStep (sn S 27) (fDlN S o p) p := by
        rw [hs]
        unfold fDlStep
        rw [eT 6 1 p (by decide) (by decide), eT 8 1 o (by decide) (by decide), eT 8 13 o (by decide) (by decide), if_pos hyes]
      obtain ⟨σ3, g3, ghx, x3, H3, hi3, hle3, l3, len3, k3⟩ := F_planStep (S := snw S 27 []) H2 hi (by omega) hA0 (by rw [sn_w, if_neg (by decide)]; exact hp) he hmx ⟨hle.1, by omega⟩ (by omega)
      rw [← hs2] at g3 H3 hi3 hle3 l3 len3 k3
      refine zW_ly hlv rfl ?_
      refine zW_p 3 rfl ?_
      refine wS rfl rfl rfl rfl rfl rfl rfl rfl rfl g3 (by omega) ?_
      refine zW_p 3 rfl ?_
      refine zW_lv ((6, .ref it) :: [(0, .ref a), (2, .ref b), (4, .ref mb), (5, iv (fDlN S o (p + 1)).2.1)]) rfl ⟨rfl, rfl, rfl, rfl, rfl, trivial⟩ ?_
      exact hback _ σ3 ghx _ H3 ⟨rfl, gext.trans hx x3 hl, rfl, hi3, ⟨hle3.1, by omega⟩, fun c => Nat.le_trans (hl c) (l3 c), by omega, k3 κ0 hk⟩
    refine hW_cast H2 rfl he rfl rfl rfl ?_
    refine zW_p 2 rfl ?_
    refine hW_getp (j := (sT S 6 1 p).toNat) H2 rfl he rfl rfl rfl (by rw [eT 6 1 p (by decide) (by decide)]; exact hyp) (fun b2 hb2 => ?_)
    refine zW_p 1 rfl ?_
    refine hW_getp (j := (sT S 8 1 o).toNat) H2 rfl hbx rfl rfl rfl (by rw [eT 8 1 o (by decide) (by decide)]; exact hy2) (fun b3 hb3 => ?_)
    by_cases e1 : sT S 6 1 p = sT S 8 1 o
    · have e23 : b2 = b3 := by rw [← hb2.2, ← hb3.2, e1]
      refine zW_f rfl rfl (fun q => q e23) ?_
      refine zW_p 2 rfl ?_
      by_cases e13 : sT S 8 13 o < 0
      · refine hW_getn H2 rfl hbx rfl rfl rfl (by rw [eT 8 13 o (by decide) (by decide)]; exact e13) ?_
        refine zW_p 1 rfl ?_
        exact take _ ⟨e1, by omega⟩ ⟨rfl, rfl, rfl, rfl, rfl, rfl, trivial⟩
      · have hl13 : sT S 8 13 o = ((sT S 8 13 o).toNat : Nat) := (Int.toNat_of_nonneg (by omega)).symm
        refine hW_getr (j := (sT S 8 13 o).toNat) H2 rfl hbx rfl rfl rfl (by rw [eT 8 13 o (by decide) (by decide)]; exact hl13) (fun b4 hb4 => ?_)
        by_cases e4 : p = (sT S 8 13 o).toNat
        · refine zW_t rfl rfl (by rw [← he.2, ← hb4.2, ← e4]) ?_
          exact skip _ (fun q => q.2 (by omega)) ⟨rfl, rfl, rfl, rfl, rfl, trivial⟩
        · refine zW_f rfl rfl (fun q => e4 (H2.inj he.1 hb4.1 (by rw [he.2, hb4.2, q])).2) ?_
          exact take _ ⟨e1, by omega⟩ ⟨rfl, rfl, rfl, rfl, rfl, rfl, trivial⟩
    · refine zW_t rfl rfl (fun q => e1 ?_) ?_
      · have hh := H2.inj hb2.1 hb3.1 (by rw [hb2.2, hb3.2, q])
        rw [hyp, hy2]
        have h1 := hh.1
        have h2 := hh.2
        omega
      · exact skip _ (fun q => e1 q.1) ⟨rfl, rfl, rfl, rfl, rfl, trivial⟩
  · rintro lv σ2 gh' S' H2 ⟨rfl, hx, hS', hi, hle, hl, hlen2, hk⟩
    rw [f7, idl_len] at hle hk hS' hlen2 ⊢
    subst hS'
    exact hQ σ2 gh' _ hx H2 hi hl hle hlen2 hk ⟨rfl, rfl, rfl, rfl, trivial⟩
  · exact (kd.trans hk0 k1.kd).mono hm0 hs0
theorem F_deliver (H : hRep g w0 σ gh S J) (C : hCon g w0 z) (hF : fFix S) (hW : fW S) (hA : fAv S) (hT : fTk S) (hO : fOrd z S) (hq : 1 ≤ sT S 8 2 o ∧ sT S 8 2 o ≤ 100) (ha : hat gh S 0 0 a) (ho : o < sn S 8)
    (hN : fDelOk z S o = true → sE S 27 (fDelL S o) = [])
    (hX : fDelOk z S o = true → (fDlT S o).2.1 ≤ 0 → sE (fDlT S o).1 27 (sn S 27) ≠ [] ∧ ∀ (p : Nat) (t : Int), (sE (fDlT S o).1 27 (sn S 27))[p]? = some t → fGok (fGvN (fDlT S o).1 (sn S 27) p) t.toNat) :
    zM g 106 162 [.ref a, iv o] σ (fun r σ' => (fDelOk z S o = false ∧ r = .inr "java/lang/UnsupportedOperationException" ∧ hRep g w0 σ' gh S J ∧ kc σ σ' 1 6) ∨
      (fDelOk z S o = true ∧ 0 < (fDlT S o).2.1 ∧ r = .inl (some (iv 0)) ∧ ∃ ghx, gext S gh ghx ∧ hRep g w0 σ' ghx (fDlT S o).1 J ∧ kc σ σ' (fDlT S o).2.2.1 (fDlT S o).2.2.2) ∨
      (fDelOk z S o = true ∧ (fDlT S o).2.1 ≤ 0 ∧ r = .inl (some (iv 1)) ∧ ∃ ghx, gext S gh ghx ∧ hRep g w0 σ' ghx (fDlZ z (fDlT S o).1 o (sn S 27)) J ∧ kc σ σ' ((fDlT S o).2.2.1 + 3) ((fDlT S o).2.2.2 + 400))) := by
  obtain ⟨b, hb, g1⟩ := F_theOrder H hF ha ho
  obtain ⟨o1, o2, o3, s, s6, hs⟩ := hO o ho
  have hy : sT S 8 1 o = ((sT S 8 1 o).toNat : Nat) := (Int.toNat_of_nonneg o1).symm
  have hst0 := fStg_z (z := z) (t := 0) C s6 (by decide) hs
  have hst4 := fStg_z (z := z) (t := 4) C s6 (by decide) hs
  have hsn100 : sn S 6 ≤ 100 := hF.2.2.2.2.2.2.2.2.2.2.1
  refine zW_p 2 rfl ?_
  refine wV rfl rfl rfl rfl rfl rfl rfl (H.rc ha rfl rfl) g1 (by omega) ?_
  generalize hQQ : (fun (r : Option Value ⊕ String) (σ' : zS) => (fDelOk z S o = false ∧ r = .inr "java/lang/UnsupportedOperationException" ∧ hRep g w0 σ' gh S J ∧ kc σ σ' 1 6) ∨
      (fDelOk z S o = true ∧ 0 < (fDlT S o).2.1 ∧ r = .inl (some (iv 0)) ∧ ∃ ghx, gext S gh ghx ∧ hRep g w0 σ' ghx (fDlT S o).1 J ∧ kc σ σ' (fDlT S o).2.2.1 (fDlT S o).2.2.2) ∨
      (fDelOk z S o = true ∧ (fDlT S o).2.1 ≤ 0 ∧ r = .inl (some (iv 1)) ∧ ∃ ghx, gext S gh ghx ∧ hRep g w0 σ' ghx (fDlZ z (fDlT S o).1 o (sn S 27)) J ∧ kc σ σ' ((fDlT S o).2.2.1 + 3) ((fDlT S o).2.2.2 + 400))) = QQ
  -- behind the plan
  have fin : fDelOk z S o = true → ∀ (σ' : zS) (gh1 ghx : Nat → Nat → Nat) (mb : Nat) (lv' : zp_L), (∀ c, sn S c ≤ sn (fDl0 S o).1 c) → gext S gh gh1 → hat gh1 (fDl0 S o).1 27 (sn S 27) mb → gext (fDl0 S o).1 gh1 ghx → hRep g w0 σ' ghx (fDlT S o).1 J → fPlI (snw S 27 []) (fDlT S o).1 (sn S 27) → (∀ c, sn (fDl0 S o).1 c ≤ sn (fDlT S o).1 c) → (0 ≤ (fDlT S o).2.1 ∧ (fDlT S o).2.1 ≤ sT S 8 2 o) → (sE (fDlT S o).1 27 (sn S 27)).length ≤ 1 + sn S 6 → kd σ.2 σ'.2 (fDlT S o).2.2.1 (fDlT S o).2.2.2 → lvok [(0, .ref a), (2, .ref b), (4, .ref mb), (5, iv (fDlT S o).2.1)] lv' → zW g 106 162 163 lv' [] σ' QQ := by
    intro hok σ' gh1 ghx mb lv' l0 x1 hm1 x2 H2 hi hl hle hlen hk hlv
    refine zW_ly hlv rfl ?_
    refine zW_p 1 rfl ?_
    have hax : hat ghx (fDlT S o).1 0 0 a := x2.hat hl (x1.hat l0 ha)
    have hbx : hat ghx (fDlT S o).1 8 o b := x2.hat hl (x1.hat l0 hb)
    have hmx : hat ghx (fDlT S o).1 27 (sn S 27) mb := x2.hat hl hm1
    have hxx : gext S gh ghx := gext.trans x1 x2 l0
    by_cases h0 : 0 < (fDlT S o).2.1
    · refine zW_f rfl rfl (fun q => by have := (I_le0 ⟨by omega, by omega⟩).mp q; omega) ?_
      refine zW_p 1 rfl ?_
      refine zW_reti rfl rfl rfl ?_
      rw [← hQQ]
      exact Or.inr (Or.inl ⟨hok, h0, rfl, ghx, hxx, H2, hk.kc⟩)
    · obtain ⟨hpos, hG⟩ := hX hok (by omega)
      have eT : ∀ k, sT (fDlT S o).1 8 k o = sT S 8 k o := fun k => by rw [hi.2.2.2.2.2.2.1 8 k o (by decide), sT_w, if_neg (fun e => absurd e.1 (by decide))]
      have eD : fDelL (fDlT S o).1 o = fDelL S o := by unfold fDelL; rw [eT]
      have hdl : fDelL S o < sn S 27 := (((H.2.2.2.2.1 8 o 6 67 (by decide) ho rfl) o3).2 27 rfl)
      refine zW_t rfl rfl ((I_le0 ⟨by omega, by omega⟩).mpr (by omega)) ?_
      refine F_dlGo H2 C hi.2.1 hax hbx hmx (by rw [eT]; exact o3) (by rw [eD]; omega) ?_ hpos (by omega) hG ⟨rfl, rfl, rfl, trivial⟩ (fun σ3 H3 k3 => ?_)
      · rw [eD, hi.2.2.2.2.1 27 _ (by decide) (by omega), sE_w, if_neg (by omega)]
        exact hN hok
      · rw [← hQQ]
        exact Or.inr (Or.inr ⟨hok, by omega, rfl, ghx, hxx, H3, (hk.kc.trans k3).mono (by omega) (by omega)⟩)
  -- behind the check
  have go : ∀ lv : zp_L, fDelOk z S o = true → lvok [(0, .ref a), (2, .ref b)] lv → zW g 106 162 54 lv [] σ QQ := by
    intro lv hok hlv
    refine zW_ly hlv rfl ?_
    refine hW_newL 27 H rfl rfl rfl rfl rfl rfl rfl rfl rfl (fun _ => rfl) (by omega) (fun σ1 mb H1 hm1 k1 => ?_)
    have x1 : gext S gh (ghw gh S 27 mb) := gext_w gext_rfl (fun _ => Nat.le_refl _)
    have l1 : ∀ c, sn S c ≤ sn (snw S 27 []) c := fun c => sn_w_le
    have hb1 : hat (ghw gh S 27 mb) (snw S 27 []) 8 o b := hb.old
    have ha1 : hat (ghw gh S 27 mb) (snw S 27 []) 0 0 a := ha.old
    have hz : ∀ c k i, c ≠ 27 → sT (snw S 27 []) c k i = sT S c k i := fun c k i h27 => by rw [sT_w, if_neg (fun e => h27 e.1)]
    have hI0 : fPlI (snw S 27 []) (snw S 27 []) (sn S 27) := fPlI.rfl' (fW_w27 hW) (fun t ht => by rw [sn_w, if_neg (by decide)] at ht; rw [hz 7 0 t (by decide)]; exact hT t ht)
    refine zW_p 2 rfl ?_
    by_cases e13 : sT S 8 13 o < 0
    · have eD0 : fDl0 S o = (snw S 27 [], sT S 8 2 o, 2, 7) := by unfold fDl0; rw [if_pos e13]
      refine hW_getn H1 rfl hb1 rfl rfl rfl (by rw [hz 8 13 o (by decide)]; exact e13) ?_
      refine zW_p 2 rfl ?_
      refine hW_get H1 rfl hb1 rfl rfl rfl ?_
      rw [hz 8 2 o (by decide)]
      refine zW_p 2 rfl ?_
      refine F_dlPlan (κ0 := σ.2) (m0 := 1) (s0 := 3) (gh := ghw gh S 27 mb) (b := b) (mb := mb) (by rw [eD0]; exact H1) hF hA o1 hq (by rw [eD0]; exact ha1) (by rw [eD0]; exact hb1) ho (by rw [eD0]; exact hm1) (by rw [eD0]; exact hI0) (by rw [eD0]; exact ⟨by show 0 ≤ sT S 8 2 o; omega, Int.le_refl _⟩) (by rw [eD0]; show (sE (snw S 27 []) 27 (sn S 27)).length ≤ 1; rw [sE_w, if_pos ⟨rfl, rfl⟩]; exact Nat.zero_le _) k1.kd (by rw [eD0]; exact Nat.le_refl _) (by rw [eD0]; exact Nat.le_refl _) (by rw [eD0]; exact ⟨rfl, rfl, rfl, rfl, trivial⟩) (fun σ2 ghx lv2 x2 H2 hi2 l2 hle2 hlen2 hk2 hlv2 => ?_)
      exact fin hok σ2 (ghw gh S 27 mb) ghx mb lv2 (by rw [eD0]; exact l1) x1 (by rw [eD0]; exact hm1) x2 H2 hi2 l2 hle2 hlen2 hk2 hlv2
    · obtain ⟨q, hq13⟩ : ∃ q : Nat, sT S 8 13 o = q := ⟨(sT S 8 13 o).toNat, (Int.toNat_of_nonneg (by omega)).symm⟩
      have hql : q < sn S 6 := by
        have := ((H.2.2.2.2.1 8 o 13 46 (by decide) ho rfl) (by omega)).2 6 rfl
        rw [hq13, Int.toNat_natCast] at this
        exact this
      have eD0 : fDl0 S o = fPlanStep (sn S 27) (snw S 27 [], sT S 8 2 o, 2, 7) q := by unfold fDl0; rw [if_neg e13, hq13, Int.toNat_natCast]
      have hA0 : fAv (snw S 27 []) := fun l hl => by
        rw [sn_w, if_neg (by decide)] at hl
        have := hA l hl
        unfold fPnum fLp at this ⊢
        rw [hz 6 5 l (by decide), hz 6 4 l (by decide), hz 6 1 l (by decide), hz _ _ _ (by omega)]
        exact this
      refine hW_getr (j := q) H1 rfl hb1 rfl rfl rfl (by rw [hz 8 13 o (by decide)]; exact hq13) (fun b2 hb2 => ?_)
      refine zW_p 3 rfl ?_
      refine hW_getr (j := q) H1 rfl hb1 rfl rfl rfl (by rw [hz 8 13 o (by decide)]; exact hq13) (fun b3 hb3 => ?_)
      refine zW_p 1 rfl ?_
      refine hW_get H1 rfl hb1 rfl rfl rfl ?_
      rw [hz 8 2 o (by decide)]
      have hlen0 : (sE (snw S 27 []) 27 (sn S 27)).length = 0 := by rw [sE_w, if_pos ⟨rfl, rfl⟩]; rfl
      obtain ⟨σ2, g2, ghy, y2, H2, hi2, hle2, l2, len2, k2⟩ := F_planStep (s := (snw S 27 [], sT S 8 2 o, 1, 3)) (S := snw S 27 []) (m := sn S 27) (l := q) H1 hI0 (by omega) hA0 (by rw [sn_w, if_neg (by decide)]; exact hql) hb3 hm1 ⟨by show 0 ≤ sT S 8 2 o; omega, by show sT S 8 2 o ≤ 900; omega⟩ (by show (sE (snw S 27 []) 27 (sn S 27)).length ≤ 1000; omega)
      have e1 : (fPlanStep (sn S 27) (snw S 27 [], sT S 8 2 o, 1, 3) q).1 = (fDl0 S o).1 := by rw [eD0]; rfl
      have e2 : (fPlanStep (sn S 27) (snw S 27 [], sT S 8 2 o, 1, 3) q).2.1 = (fDl0 S o).2.1 := by rw [eD0]; rfl
      rw [e1] at H2 hi2 l2 len2
      rw [e2] at g2 hle2
      refine wS rfl rfl rfl rfl rfl rfl rfl rfl rfl g2 (by omega) ?_
      refine zW_p 1 rfl ?_
      have hb4 : hat ghy (fDl0 S o).1 8 o b := y2.hat l2 hb1
      have ha4 : hat ghy (fDl0 S o).1 0 0 a := y2.hat l2 ha1
      have hm4 : hat ghy (fDl0 S o).1 27 (sn S 27) mb := y2.hat l2 hm1
      refine F_dlPlan (κ0 := σ.2) (m0 := (fPlanStep (sn S 27) (snw S 27 [], sT S 8 2 o, 1, 3) q).2.2.1) (s0 := (fPlanStep (sn S 27) (snw S 27 [], sT S 8 2 o, 1, 3) q).2.2.2) H2 hF hA o1 hq ha4 hb4 ho hm4 hi2 hle2 (by have h := len2; rw [show (sE ((snw S 27 [], sT S 8 2 o, 1, 3) : fRst).1 27 (sn S 27)).length = 0 from hlen0] at h; exact h) (k2 σ.2 k1.kd) (by rw [eD0]; show 1 + fPlanC (snw S 27 []) q (fPlanT (snw S 27 []) q (sT S 8 2 o)) + 1 ≤ 2 + fPlanC (snw S 27 []) q (fPlanT (snw S 27 []) q (sT S 8 2 o)); omega) (by rw [eD0]; show 3 + fPlanB (snw S 27 []) (sn S 27) q (fPlanT (snw S 27 []) q (sT S 8 2 o)) + 4 ≤ 7 + fPlanB (snw S 27 []) (sn S 27) q (fPlanT (snw S 27 []) q (sT S 8 2 o)); omega) ⟨rfl, rfl, rfl, rfl, trivial⟩ (fun σ3 ghx lv2 x3 H3 hi3 l3 hle3 hlen3 hk3 hlv3 => ?_)
      exact fin hok σ3 ghy ghx mb lv2 (fun c => Nat.le_trans (l1 c) (l2 c)) (gext.trans x1 y2 l1) hm4 x3 H3 hi3 l3 hle3 hlen3 hk3 hlv3
  have bad : ∀ lv : zp_L, fDelOk z S o = false → zW g 106 162 50 lv [] σ QQ := by
    intro lv h
    obtain ⟨σ1, q1, q2, q3⟩ := F_reqF66 H
    refine zW_p 1 rfl ?_
    refine wST rfl rfl rfl rfl rfl rfl rfl rfl rfl q1 (by omega) rfl ?_
    rw [← hQQ]
    exact Or.inl ⟨h, rfl, q2, q3⟩
  have good : ∀ lv : zp_L, fDelOk z S o = true → lvok [(0, .ref a), (2, .ref b)] lv → zW g 106 162 46 lv [] σ QQ := by
    intro lv h hlv
    refine zW_ly hlv rfl ?_
    refine zW_p 2 rfl ?_
    refine wS rfl rfl rfl rfl rfl rfl rfl rfl rfl F_reqT66 (by omega) ?_
    exact go _ h ⟨rfl, rfl, trivial⟩
  have mid : ∀ (w : Bool) (lv : zp_L), w = (decide ((sT S 8 1 o).toNat % 2 = 1) && fStg z S o 0) → lvok [(0, .ref a), (2, .ref b), (3, iv (bi w))] lv → zW g 106 162 32 lv [] σ QQ := by
    intro w lv hw hlv
    have hD : fDelOk z S o = (w || fStg z S o 4) := by unfold fDelOk; rw [hw]
    refine zW_ly hlv rfl ?_
    cases w with
    | true =>
      refine zW_p 2 rfl ?_
      exact good _ (by rw [hD]; rfl) ⟨rfl, rfl, trivial⟩
    | false =>
      refine zW_p 3 rfl ?_
      refine hW_get H rfl hb rfl rfl rfl ?_
      rw [hs, ← convC]
      refine aW_stat rfl rfl (C.1 4 (by decide)).1 ?_
      by_cases e4 : s = 4
      · subst e4
        refine zW_f rfl rfl (fun q => q rfl) ?_
        exact good _ (by rw [hD, hst4]; rfl) ⟨rfl, rfl, trivial⟩
      · refine zW_t rfl rfl (fun q => e4 (C.inj (by omega) (by decide) q)) ?_
        exact bad _ (by rw [hD, hst4, decide_eq_false e4]; rfl)
  refine zW_p 2 rfl ?_
  refine hW_getp H rfl hb rfl rfl rfl hy (fun b1 hb1 => ?_)
  by_cases e : (sT S 8 1 o).toNat % 2 = 0
  · rw [e] at hb1
    refine hW_inst H rfl hb1 rfl rfl rfl (Or.inr ⟨_, rfl⟩) ?_
    refine zW_p 3 rfl ?_
    exact mid false _ (by rw [decide_eq_false (by omega)]; rfl) ⟨rfl, rfl, rfl, trivial⟩
  · have e1 : (sT S 8 1 o).toNat % 2 = 1 := by omega
    rw [e1] at hb1
    refine hW_inst H rfl hb1 rfl rfl rfl (Or.inl rfl) ?_
    refine zW_p 2 rfl ?_
    refine hW_get H rfl hb rfl rfl rfl ?_
    rw [hs, ← convC]
    refine aW_stat rfl rfl (C.1 0 (by decide)).1 ?_
    by_cases e0 : s = 0
    · subst e0
      refine zW_f rfl rfl (fun q => q rfl) ?_
      refine zW_p 3 rfl ?_
      exact mid true _ (by rw [decide_eq_true e1, hst0]; rfl) ⟨rfl, rfl, rfl, trivial⟩
    · refine zW_t rfl rfl (fun q => e0 (C.inj (by omega) (by decide) q)) ?_
      refine zW_p 2 rfl ?_
      exact mid false _ (by rw [hst0, decide_eq_false e0, Bool.and_false]) ⟨rfl, rfl, rfl, trivial⟩
end ZDV
