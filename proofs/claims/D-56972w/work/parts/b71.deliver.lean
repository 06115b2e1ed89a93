/-! THE SIMULATION: deliver, the case -/
set_option maxRecDepth 100000
section ZCB8
variable {g : zG} {w0 : hG} {z : Nat → Nat} {a m ol od k scr n i o mm : Nat} {sf : Nat → Int32} {S X T Y U : hS} {gh : Nat → Nat → Nat} {J : zw_W} {σ : zS} {Q : Option Value ⊕ String → zS → Prop}
theorem dZ_mfr : mfr T (fDlZ z T o mm) := by
  have e : ∀ c : Nat, mcl c → c ≠ 6 ∧ c ≠ 7 ∧ c ≠ 8 ∧ c ≠ 27 := fun c hc => ⟨by rintro rfl; exact absurd hc (by decide), by rintro rfl; exact absurd hc (by decide), by rintro rfl; exact absurd hc (by decide), by rintro rfl; exact absurd hc (by decide)⟩
  exact ⟨fun c hc => (dZ_c (e c hc)).1, fun c j i hc _ => (dZ_c (e c hc)).2.1 j i, fun c i hc => (dZ_c (e c hc)).2.2 i, Nat.le_of_eq (dZ_n (c := 46)).symm, fun i _ => (dZ_c (c := 46) (by decide)).2.2 i⟩
theorem mSrcI.mfr (h : mSrcI Y U) : mfr Y U := by
  have e : ∀ c : Nat, mcl c → c ≠ 42 := fun c hc => by rintro rfl; exact absurd hc (by decide)
  exact ⟨fun c hc => h.1 c (e c hc), fun c j i hc _ => h.2.2.1 c j i (e c hc), fun c i hc => h.2.2.2.1 c i (e c hc), Nat.le_of_eq (h.1 46 (by decide)).symm, fun i _ => h.2.2.2.1 46 i (by decide)⟩
theorem mSrcI.ffr (h : mSrcI Y U) : ffr Y U := by
  have e : ∀ c : Nat, fcl c → c ≠ 42 := fun c hc => by rintro rfl; exact absurd hc (by decide)
  exact ⟨fun c hc => h.1 c (e c hc), fun c j i hc => h.2.2.1 c j i (e c hc), fun c i hc => h.2.2.2.1 c i (e c hc)⟩
theorem mZ_ffr : ffr U (mDvZ U o mm) := by
  have e : ∀ c : Nat, fcl c → c ≠ 14 ∧ c ≠ 15 ∧ c ≠ 40 := fun c hc => ⟨by rintro rfl; exact absurd hc (by decide), by rintro rfl; exact absurd hc (by decide), by rintro rfl; exact absurd hc (by decide)⟩
  exact ⟨fun c hc => mZ_n, fun c j i hc => mZ_T (by have := e c hc; omega) (by have := e c hc; omega), fun c i hc => mZ_E (by have := e c hc; omega)⟩
/-- the sum of what can be asked -/
theorem dav_sum (hI : iAll z k X) : ∀ L : List Nat, (∀ l ∈ L, l < sn X 6) → (L.map (dav X)).sum = ((L.filter (fun l => decide (tHeld (fh X) (fch X) 100 l = false))).map (dav X)).sum ∧ 0 ≤ (L.map (dav X)).sum ∧ (L.map (dav X)).sum ≤ 500 * L.length := by
  intro L
  induction L with
  | nil => intro _; exact ⟨rfl, Int.le_refl _, Int.le_refl _⟩
  | cons x L ih =>
    intro h
    have hd := dav_range hI (h x List.mem_cons_self)
    obtain ⟨h1, h2, h3⟩ := ih (fun l hl => h l (List.mem_cons_of_mem _ hl))
    rw [List.filter_cons, List.map_cons, List.sum_cons, List.length_cons]
    refine ⟨?_, by omega, by push_cast; omega⟩
    by_cases hh : tHeld (fh X) (fch X) 100 x = false
    · rw [if_pos (decide_eq_true hh), List.map_cons, List.sum_cons, h1]
    · rw [decide_eq_false hh]
      have e0 : dav X x = 0 := by unfold dav; rw [if_neg hh]
      rw [e0, h1]
      show _ = (List.map (dav X) (L.filter _)).sum
      omega
/-- what the model does, all in all -/
theorem mDel (hR : rR z X Y) (hI : iAll z k X) (hS : mShape Y) (hk : k ≤ 1000) (ho : o < sn X 8) (hN : sE X 27 (fDelL X o) = []) :
    mSrcI Y (mSrc Y o).1 ∧ (rg (mSrcSum (mSrc Y o).1 (sn Y 42) (sE (mSrc Y o).1 42 (sn Y 42)).length) ∧ (sT Y 15 2 o ≤ mSrcSum (mSrc Y o).1 (sn Y 42) (sE (mSrc Y o).1 42 (sn Y 42)).length ↔ (dPl X (dCand X o (sn X 6)) (sT X 8 2 o)).2 ≤ 0)) ∧ mDvOk (mSrc Y o).1 o (sn Y 42) ∧
    mdP X (mSrc Y o).1 o (mDvE (mSrc Y o).1 o (sn Y 42)) (dPl X (dCand X o (sn X 6)) (sT X 8 2 o)) ∧ ((mDvE (mSrc Y o).1 o (sn Y 42)).2.2.1 ≤ 1 + (dNL X o (sn X 6)).length ∧ (mDvE (mSrc Y o).1 o (sn Y 42)).2.2.2 ≤ 4 + 212 * (dNL X o (sn X 6)).length) := by
  obtain ⟨hU, hL⟩ := srcG hR hI ho (sn X 6) (Nat.le_refl _)
  have e14 : sn Y 14 = sn X 6 := hR.L.1
  have eM : mSrc Y o = mSrcN Y o (sn X 6) := by unfold mSrc; rw [e14]
  rw [eM]
  generalize (mSrcN Y o (sn X 6)).1 = U at *
  obtain ⟨c1, c2⟩ := dCand_ok hI ho
  have hq := (hI.or o ho).2.2.1
  have O := hR.O.2 o ho
  have hcl : ∀ l ∈ dCand X o (sn X 6), l < sn X 6 := fun l hl => (c2 l hl).1
  have hlen : (sE U 42 (sn Y 42)).length = (dNL X o (sn X 6)).length := by rw [hL, List.length_map]
  have n2 : ∀ l ∈ dNL X o (sn X 6), l < sn X 6 ∧ tHeld (fh X) (fch X) 100 l = false := fun l hl => by
    obtain ⟨h1, h2⟩ := List.mem_filter.mp hl
    exact ⟨(c2 l h1).1, of_decide_eq_true h2⟩
  have hUL : ∀ l : Nat, l < sn X 6 → sT U 14 2 l = sT X 6 4 l ∧ sT U 14 3 l = sT X 6 5 l ∧ sT U 14 4 l = sT X 6 6 l := fun l hl => by
    have h := hR.L.2 l hl
    rw [hU.2.2.1 14 2 l (by decide), hU.2.2.1 14 3 l (by decide), hU.2.2.1 14 4 l (by decide)]
    exact ⟨h.2.1, h.2.2.1, h.2.2.2.1⟩
  have h2 : sT U 15 2 o = sT X 8 2 o := by rw [hU.2.2.1 15 2 o (by decide)]; exact O.1.2.1
  have h40 : sE U 40 o = [] := by rw [hU.2.2.2.1 40 o (by decide), O.2.2.2.1, hN]; rfl
  have hsum : mSrcSum U (sn Y 42) (sE U 42 (sn Y 42)).length = ((dCand X o (sn X 6)).map (dav X)).sum := by
    rw [(dav_sum hI _ hcl).1]
    unfold mSrcSum
    rw [List.take_length, hL, List.map_map]
    refine congrArg List.sum (List.map_congr_left (fun l hl => ?_))
    show mAvl U (l : Int) = dav X l
    unfold mAvl dav av
    rw [Int.toNat_natCast, (hUL l (n2 l hl).1).1, (hUL l (n2 l hl).1).2.1, if_pos (n2 l hl).2]
  have hcn : (dCand X o (sn X 6)).length ≤ 101 := by
    have h100 : sn X 6 ≤ 100 := hI.fix.2.2.2.2.2.2.2.2.2.2.1
    have h3 := List.length_filter_le (fun l => decide (sT X 6 1 l = sT X 8 1 o ∧ (l : Int) ≠ sT X 8 13 o)) (List.range (sn X 6))
    rw [List.length_range] at h3
    unfold dCand
    rw [List.length_append]
    split <;> simp only [List.length_nil, List.length_cons] <;> omega
  obtain ⟨-, s2, s3⟩ := dav_sum hI _ hcl
  have mG := mdG (m := sn Y 42) hI hk ho hL hUL h2 h40
  have efold : (dNL X o (sn X 6)).foldl (dSt X) ([], sT X 8 2 o) = dPl X (dCand X o (sn X 6)) (sT X 8 2 o) := (dPl_filter hI _ _ (by show 0 ≤ sT X 8 2 o; omega) hcl).symm
  refine ⟨hU, ⟨by rw [hsum]; unfold rg; omega, ?_⟩, fun p l hp => ?_, ?_⟩
  · rw [hsum, O.1.2.1]
    exact (dPl_sum hI _ ([], sT X 8 2 o) (by show 0 ≤ sT X 8 2 o; omega) hcl).symm
  · by_cases hpl : p ≤ (dNL X o (sn X 6)).length
    · exact (mG p hpl).2.2 l hp
    · rw [List.getElem?_eq_none (by omega)] at hp
      cases hp
  · obtain ⟨q1, q2, -⟩ := mG (dNL X o (sn X 6)).length (Nat.le_refl _)
    rw [List.take_length, efold] at q1
    unfold mDvE
    rw [hlen]
    exact ⟨q1, q2⟩
def cDl (z : Nat → Nat) (S : hS) (v : Int) : Bool := decide (0 ≤ v ∧ v < sn S 8) && fDelOk z S v.toNat
def pDl (z : Nat → Nat) (S S2 : hS) (v : Int) : Prop := (∃ w : Int, S2 = mt S w) ∨ (cDl z S v = true ∧ 0 < (fDlT S v.toNat).2.1 ∧ S2 = (mSrc (mt (fDlT S v.toNat).1 0) v.toNat).1) ∨
  (cDl z S v = true ∧ (fDlT S v.toNat).2.1 ≤ 0 ∧ S2 = mDvZ (mSrc (mt (fDlZ z (fDlT S v.toNat).1 v.toNat (sn S 27)) 0) v.toNat).1 v.toNat (sn (mt (fDlZ z (fDlT S v.toNat).1 v.toNat (sn S 27)) 0) 42))
def nDl (z : Nat → Nat) (S : hS) (v : Int) : Nat × Nat := if cDl z S v = true then (if 0 < (fDlT S v.toNat).2.1 then ((fDlT S v.toNat).2.2.1 + (mSrc (mt (fDlT S v.toNat).1 0) v.toNat).2.1, (fDlT S v.toNat).2.2.2 + (mSrc (mt (fDlT S v.toNat).1 0) v.toNat).2.2)
  else ((fDlT S v.toNat).2.2.1 + (mSrc (mt (fDlZ z (fDlT S v.toNat).1 v.toNat (sn S 27)) 0) v.toNat).2.1 + (dNL S v.toNat (sn S 6)).length, (fDlT S v.toNat).2.2.2 + (mSrc (mt (fDlZ z (fDlT S v.toNat).1 v.toNat (sn S 27)) 0) v.toNat).2.2 + 212 * (dNL S v.toNat (sn S 6)).length)) else (0, 0)
/-- what the model's contract asks, out of the relation -/
theorem M_del2 {S S1 : hS} {J1 : zw_W} {gh1 : Nat → Nat → Nat} {σ1 : zS} {v : Int} (hI : iAll z k S) (h1 : rg v) (H1 : hRep g w0 σ1 gh1 S1 J1) (hR1 : rR z S S1) (hS1 : mShape S1) (hm1 : hat gh1 S1 11 0 m)
    (hX : mDelC S1 v = 0 → rg (mSrcSum (mSrc (mt S1 0) v.toNat).1 (sn S1 42) (sE (mSrc (mt S1 0) v.toNat).1 42 (sn S1 42)).length) ∧ (sT S1 15 2 v.toNat ≤ mSrcSum (mSrc (mt S1 0) v.toNat).1 (sn S1 42) (sE (mSrc (mt S1 0) v.toNat).1 42 (sn S1 42)).length → mDvOk (mSrc (mt S1 0) v.toNat).1 v.toNat (sn S1 42))) :
    zM g 110 244 [.ref m, iv v] σ1 (fun r σ' => (mDelC S1 v ≠ 0 ∧ r = .inl (some (iv 0)) ∧ hRep g w0 σ' gh1 (mt S1 (mDelC S1 v)) J1 ∧ kc σ1 σ' 0 0) ∨
      (mDelC S1 v = 0 ∧ ¬ (sT S1 15 2 v.toNat ≤ mSrcSum (mSrc (mt S1 0) v.toNat).1 (sn S1 42) (sE (mSrc (mt S1 0) v.toNat).1 42 (sn S1 42)).length) ∧ r = .inl (some (iv 0)) ∧ ∃ ghx, gext S1 gh1 ghx ∧ hRep g w0 σ' ghx (mSrc (mt S1 0) v.toNat).1 J1 ∧ kc σ1 σ' ((mSrc (mt S1 0) v.toNat).2.1 + 1) ((mSrc (mt S1 0) v.toNat).2.2 + 4)) ∨
      (mDelC S1 v = 0 ∧ sT S1 15 2 v.toNat ≤ mSrcSum (mSrc (mt S1 0) v.toNat).1 (sn S1 42) (sE (mSrc (mt S1 0) v.toNat).1 42 (sn S1 42)).length ∧ r = .inl (some (iv 1)) ∧ ∃ ghx, gext S1 gh1 ghx ∧ hRep g w0 σ' ghx (mDvZ (mSrc (mt S1 0) v.toNat).1 v.toNat (sn S1 42)) J1 ∧ kc σ1 σ' ((mSrc (mt S1 0) v.toNat).2.1 + 1 + (mDvE (mSrc (mt S1 0) v.toNat).1 v.toNat (sn S1 42)).2.2.1) ((mSrc (mt S1 0) v.toNat).2.2 + 4 + (mDvE (mSrc (mt S1 0) v.toNat).1 v.toNat (sn S1 42)).2.2.2))) :=
  M_deliver H1 hS1.1 (hR1.mW hI hS1) (hR1.mPart hI hS1) (hR1.mOrd hS1) (hR1.mOrd2 hI hS1) (fun o ho => by
    obtain ⟨⟨p, g1, g2, g3⟩, -⟩ := (hR1.O.2 o (by rw [← hR1.O.1]; exact ho)).1
    rw [hR1.P.1, g2]; omega) (fun o ho => by
    have hO := hR1.O.2 o (by rw [← hR1.O.1]; exact ho)
    have := (hI.or o (by rw [← hR1.O.1]; exact ho)).2.2.1
    rw [hO.1.2.1]; unfold rg; omega) (fun l hl => by
    obtain ⟨⟨p, g1, g2, g3⟩, -⟩ := hR1.L.2 l (by rw [← hR1.L.1]; exact hl)
    have := np_le hI
    rw [g2]; unfold rg; omega) hm1 h1 hX
theorem tS21 (C : hCon g w0 z) (hz : zInj z) (L : lSt g w0 z a m ol od k S gh J σ) (hk : k ≤ 1000) (hs : w0.1 scr = some (.inl (8, n, .inl sf))) (hlt : scr < zg_n g) (hi : i + 5 < n) (hn : n ≤ 1000)
    (hQ : ∀ (S2 : hS) (gh2 : Nat → Nat → Nat) (J2 : zw_W) (σ2 : zS), pDl z S S2 (scw sf i 1) → lSt g w0 z a m ol od (k + 1) S2 gh2 J2 σ2 → kc σ σ2 (10 + (nDl z S (scw sf i 1)).1) (500 + (nDl z S (scw sf i 1)).2) → tW g 1600 2441 (tLV scr a m ol od i) [] σ2 Q) : tW g 1600 1656 (tLV scr a m ol od i) [] σ Q := by
  have L0 := L
  obtain ⟨H, ⟨f, hf⟩, ⟨fd, hfd⟩, ha, hm, hC, hR, hI, hMS, hB⟩ := L
  have hne := ol_ne hf hfd
  have h1 : rg (scw sf i 1) := rg_scw
  have hnM : sn S 15 = sn S 8 := hR.O.1
  by_cases hc : 0 ≤ scw sf i 1 ∧ scw sf i 1 < sn S 8
  · obtain ⟨o, ho, ho8⟩ := idx hc
    have eo : (scw sf i 1).toNat = o := by omega
    have ecP : cDl z S (scw sf i 1) = fDelOk z S o := by
      unfold cDl
      rw [decide_eq_true hc, Bool.true_and, eo]
    have codeM : ∀ T, rR z S T → mDelC T (scw sf i 1) = if fDelOk z S o = true then 0 else 2 := fun T hT => by
      unfold mDelC mC2
      rw [if_neg (show ¬ ¬ (0 ≤ scw sf i 1 ∧ scw sf i 1 < sn T 15) from fun w => w (by rw [hT.O.1]; exact hc)), eo]
      have e : mDelB T o = fDelOk z S o := by
        have e0 := hT.stIff hz ho8 (s := 0) (by decide)
        have e4 := hT.stIff hz ho8 (s := 4) (by decide)
        have hbs := (hI.or o ho8).2.2.2.2.2.2.2.2.2.2.2.2.2.1
        unfold mDelB fDelOk fStg
        rw [hT.madeO ho8]
        unfold fMadeO
        by_cases hmd : (sT S 8 1 o).toNat % 2 = 0
        · rw [decide_eq_true hmd, if_pos rfl, decide_eq_false (show ¬ (sT S 8 1 o).toNat % 2 = 1 by omega), Bool.false_and, Bool.false_or]
          exact decide_eq_decide.mpr e4
        · have hmd1 : (sT S 8 1 o).toNat % 2 = 1 := by omega
          rw [decide_eq_false hmd, if_neg (by decide), decide_eq_true hmd1, Bool.true_and]
          have n4 : sT S 8 7 o ≠ (z 4 : Nat) := fun w => by
            rcases hbs hmd1 with h | h
            · exact absurd (hz 4 0 (by decide) (by decide) (by omega)) (by decide)
            · exact absurd (hz 4 5 (by decide) (by decide) (by omega)) (by decide)
          rw [decide_eq_false n4, Bool.or_false]
          exact decide_eq_decide.mpr e0
      rw [e]
    have hN : fDelOk z S o = true → sE S 27 (fDelL S o) = [] := fun hst => (hI.em o ho8).2.1 (fun w => by
      have hz5 : (z 5 : Int) ≠ (z 0 : Nat) := fun e => absurd (hz 5 0 (by decide) (by decide) (by omega)) (by decide)
      have hz54 : (z 5 : Int) ≠ (z 4 : Nat) := fun e => absurd (hz 5 4 (by decide) (by decide) (by omega)) (by decide)
      unfold fDelOk fStg at hst
      rw [w, decide_eq_false hz5, decide_eq_false hz54, Bool.and_false] at hst
      cases hst)
    obtain ⟨pG, pE, pL, pN⟩ := dlG hI ho8 (sn S 6) (Nat.le_refl _)
    have hq := (hI.or o ho8).2.2.1
    obtain ⟨c1, c2⟩ := dCand_ok hI ho8
    obtain ⟨hO, -, -⟩ := dPl_ok (o := o) (n := sT S 8 2 o) hI (dCand S o (sn S 6)) (by omega) c1 c2
    have pG : plG S (fDlT S o).1 := pG
    have pE : tlD (fDlT S o).1 (sn S 27) = (dPl S (dCand S o (sn S 6)) (sT S 8 2 o)).1 := pE
    have pL : (fDlT S o).2.1 = (dPl S (dCand S o (sn S 6)) (sT S 8 2 o)).2 := pL
    obtain ⟨r, σ0, r1, hr⟩ := F_deliver (o := o) H C hI.fix hI.W hI.Av hI.Tk hI.Ord hq ha ho8 hN (fun hok hl => by
      refine ⟨fun w => ?_, fun p t ht => (gvF hI hk pG pE hO p ?_).2 t ht⟩
      · have e0 : (dPl S (dCand S o (sn S 6)) (sT S 8 2 o)).1 = [] := by
          rw [← pE]
          unfold tlD
          rw [w]; rfl
        have h3 := hO.2.2.1
        rw [e0, ← pL] at h3
        have h3 : 0 + (fDlT S o).2.1 = sT S 8 2 o := h3
        omega
      · obtain ⟨h3, -⟩ := List.getElem?_eq_some_iff.mp ht
        omega)
    rw [← ho] at r1
    rcases hr with ⟨hk0, rfl, H0, k0⟩ | ⟨hk0, hl, rfl, gh1, hg1, H0, k0⟩ | ⟨hk0, hl, rfl, gh1, hg1, H0, k0⟩
    · have p1 := Lh_deliverX2 (d := 107) (b := ol) H ha r1 (by omega)
      obtain ⟨r2, σ2, p2, hr2⟩ := M_del2 (m := m) hI h1 H0 hR hMS hm (fun w => by
        rw [codeM S hR, hk0] at w
        exact absurd w (by decide))
      rw [codeM S hR, hk0, if_neg (by decide)] at hr2
      rcases hr2 with ⟨-, rfl, H2, e2⟩ | ⟨hx, -⟩ | ⟨hx, -⟩
      · refine tC21 (v := false) (f := f) H hs hlt hi hn p1 (by decide) H0 hm p2 (by decide) (by decide) H2 hm ⟨by decide, by decide⟩ (by rw [sT_set, if_pos ⟨rfl, rfl, rfl⟩]) (fun e => absurd e (by decide)) ?_
        refine hQ _ _ _ σ2 (Or.inl ⟨_, rfl⟩) (L0.quiet ffr.refl mfr.refl (gext_rfl (S := S)) (fun _ => Nat.le_refl _) H2 ⟨f, hf⟩ ⟨fd, hfd⟩) ?_
        exact (k0.trans e2).mono (by omega) (by omega)
      · exact absurd hx (by decide)
      · exact absurd hx (by decide)
    · -- there are not enough pieces
      have en : nDl z S (scw sf i 1) = ((fDlT S o).2.2.1 + (mSrc (mt (fDlT S o).1 0) o).2.1, (fDlT S o).2.2.2 + (mSrc (mt (fDlT S o).1 0) o).2.2) := by
        unfold nDl
        rw [ecP, hk0, if_pos rfl, eo, if_pos hl]
      rw [en] at hQ
      dsimp only at hQ
      have pd : ∀ S2 : hS, S2 = (mSrc (mt (fDlT S o).1 0) o).1 → pDl z S S2 (scw sf i 1) := fun S2 e => Or.inr (Or.inl ⟨by rw [ecP]; exact hk0, by rw [eo]; exact hl, by rw [eo]; exact e⟩)
      have tm := pG.mfr
      have tn : ∀ c : Nat, sn S c ≤ sn (fDlT S o).1 c := fun c => by
        by_cases h7 : c = 7
        · rw [h7]; exact pG.2.2.1
        · by_cases h27 : c = 27
          · rw [h27, pG.2.1]; omega
          · rw [pG.1 c ⟨h7, h27⟩]; exact Nat.le_refl _
      have hIT := pG.inv hI
      have hRT := pG.rel hR hI
      generalize fDlT S o = F at *
      have hR0 := hR.frY hMS hB tm
      have fm0 : mfr S (mt F.1 0) := tm.trans mfr.mt
      have hRY := hR.frY hMS hB fm0
      have hRTY := hRT.frY hMS hB fm0
      have hSY := hMS.fr fm0
      have hBY := hB.fr fm0
      obtain ⟨q1, ⟨q2, q3⟩, q4, -⟩ := mDel hRY hI hSY hk ho8 (hN hk0)
      obtain ⟨σ1, p1, H1, e1⟩ := Lh_deliver (v := false) (d := 107) H ha r1 (by omega) H0 hf
      have hm1 := hg1.hat tn hm
      obtain ⟨r2, σ2, p2, hr2⟩ := M_del2 (m := m) hI h1 H1 hR0 (hMS.fr tm) hm1 (fun _ => by
        rw [eo]
        exact ⟨q2, fun _ => q4⟩)
      rw [codeM _ hR0, hk0, if_pos rfl, eo] at hr2
      have hnl : ¬ (sT F.1 15 2 o ≤ mSrcSum (mSrc (mt F.1 0) o).1 (sn F.1 42) (sE (mSrc (mt F.1 0) o).1 42 (sn F.1 42)).length) := fun w => by
        have := q3.mp w
        omega
      rcases hr2 with ⟨hx, -⟩ | ⟨-, -, rfl, gh2, hg2, H2, e2⟩ | ⟨-, hx, -⟩
      · exact absurd rfl hx
      · generalize hV : mSrc (mt F.1 0) o = V at *
        have hmf : mfr (mt F.1 0) V.1 := q1.mfr
        have hff : ffr F.1 V.1 := ffr.mt.trans q1.ffr
        have vn : ∀ c : Nat, sn F.1 c ≤ sn V.1 c := fun c => q1.le c
        have v11 : sT V.1 11 0 0 = 0 := by
          rw [q1.2.2.1 11 0 0 (by decide), sT_set, if_pos ⟨rfl, rfl, rfl⟩]
        refine tC21 (v := false) H hs hlt hi hn p1 (by decide) H1 hm1 p2 (by decide) (by decide) H2 (hg2.hat (S1 := V.1) vn hm1) ⟨by decide, by decide⟩ v11 (fun _ => ⟨zw_up_same _ _ _, va_up_self _ _ _⟩) ?_
        refine hQ V.1 _ _ σ2 (pd _ rfl) (L0.chg (hg1.trans hg2 tn) (fun c => Nat.le_trans (tn c) (vn c)) (hRTY.frY hSY hBY hmf) (hIT.mono (Nat.le_succ _)) (hSY.fr hmf) (hBY.fr hmf) hff H2 ⟨_, zw_up_same _ _ _⟩ ⟨fd, (zw_up_ne _ _ hne).trans hfd⟩) ?_
        exact ((k0.trans (kc.of e1)).trans e2).mono (by omega) (by omega)
      · exact absurd hx hnl
    · -- it is delivered
      have en : nDl z S (scw sf i 1) = ((fDlT S o).2.2.1 + (mSrc (mt (fDlZ z (fDlT S o).1 o (sn S 27)) 0) o).2.1 + (dNL S o (sn S 6)).length, (fDlT S o).2.2.2 + (mSrc (mt (fDlZ z (fDlT S o).1 o (sn S 27)) 0) o).2.2 + 212 * (dNL S o (sn S 6)).length) := by
        unfold nDl
        rw [ecP, hk0, if_pos rfl, eo, if_neg (by omega)]
      rw [en] at hQ
      dsimp only at hQ
      have pd : ∀ S2 : hS, S2 = mDvZ (mSrc (mt (fDlZ z (fDlT S o).1 o (sn S 27)) 0) o).1 o (sn (mt (fDlZ z (fDlT S o).1 o (sn S 27)) 0) 42) → pDl z S S2 (scw sf i 1) := fun S2 e => Or.inr (Or.inr ⟨by rw [ecP]; exact hk0, by rw [eo]; exact hl, by rw [eo]; exact e⟩)
      have tm : mfr S (fDlZ z (fDlT S o).1 o (sn S 27)) := pG.mfr.trans dZ_mfr
      have tn : ∀ c : Nat, sn S c ≤ sn (fDlZ z (fDlT S o).1 o (sn S 27)) c := fun c => by
        rw [dZ_n]
        by_cases h7 : c = 7
        · rw [h7]; exact pG.2.2.1
        · by_cases h27 : c = 27
          · rw [h27, pG.2.1]; omega
          · rw [pG.1 c ⟨h7, h27⟩]; exact Nat.le_refl _
      have hID := delInv hz hI hk pG ho8 hk0 hO pE
      have fm0 : mfr S (mt (fDlZ z (fDlT S o).1 o (sn S 27)) 0) := tm.trans mfr.mt
      have hRTY := (pG.rel hR hI).frY hMS hB fm0
      have hRY := hR.frY hMS hB fm0
      have hSY := hMS.fr fm0
      have hBY := hB.fr fm0
      obtain ⟨q1, ⟨q2, q3⟩, q4, q5, q6, q7⟩ := mDel hRY hI hSY hk ho8 (hN hk0)
      obtain ⟨w1, w2, w3⟩ := pairDel hz hI hk pG hRTY ho8 hk0 hO pE hSY hBY q1 q5
      have hR0 := hR.frY hMS hB tm
      generalize hF : fDlZ z (fDlT S o).1 o (sn S 27) = F at *
      obtain ⟨σ1, p1, H1, e1⟩ := Lh_deliver (v := true) (d := 107) H ha r1 (by omega) H0 hf
      have hm1 := hg1.hat tn hm
      obtain ⟨r2, σ2, p2, hr2⟩ := M_del2 (m := m) hI h1 H1 hR0 (hMS.fr tm) hm1 (fun _ => by
        rw [eo]
        exact ⟨q2, fun _ => q4⟩)
      rw [codeM _ hR0, hk0, if_pos rfl, eo] at hr2
      have hnl : sT F 15 2 o ≤ mSrcSum (mSrc (mt F 0) o).1 (sn F 42) (sE (mSrc (mt F 0) o).1 42 (sn F 42)).length := q3.mpr (by omega)
      rcases hr2 with ⟨hx, -⟩ | ⟨-, hx, -⟩ | ⟨-, -, rfl, gh2, hg2, H2, e2⟩
      · exact absurd rfl hx
      · exact absurd hnl hx
      · have hff : ffr F (mDvZ (mSrc (mt F 0) o).1 o (sn (mt F 0) 42)) := (ffr.mt.trans q1.ffr).trans mZ_ffr
        have vn : ∀ c : Nat, sn F c ≤ sn (mDvZ (mSrc (mt F 0) o).1 o (sn (mt F 0) 42)) c := fun c => by
          rw [mZ_n]; exact q1.le c
        have v11 : sT (mDvZ (mSrc (mt F 0) o).1 o (sn (mt F 0) 42)) 11 0 0 = 0 := by
          rw [mZ_T (by omega) (by omega), q1.2.2.1 11 0 0 (by decide), sT_set, if_pos ⟨rfl, rfl, rfl⟩]
        refine tC21 (v := true) H hs hlt hi hn p1 (by decide) H1 hm1 p2 (by decide) (by decide) H2 (hg2.hat (S1 := mDvZ (mSrc (mt F 0) o).1 o (sn (mt F 0) 42)) vn hm1) ⟨by decide, by decide⟩ v11 (fun _ => ⟨zw_up_same _ _ _, va_up_self _ _ _⟩) ?_
        refine hQ (mDvZ (mSrc (mt F 0) o).1 o (sn (mt F 0) 42)) _ _ σ2 (pd _ rfl) (L0.chg (hg1.trans hg2 tn) (fun c => Nat.le_trans (tn c) (vn c)) w1 (hID.mono (Nat.le_succ _)) w2 w3 hff H2 ⟨_, zw_up_same _ _ _⟩ ⟨fd, (zw_up_ne _ _ hne).trans hfd⟩) ?_
        have q6 : (mDvE (mSrc (mt F 0) o).1 o (sn F 42)).2.2.1 ≤ 1 + (dNL S o (sn S 6)).length := q6
        have q7 : (mDvE (mSrc (mt F 0) o).1 o (sn F 42)).2.2.2 ≤ 4 + 212 * (dNL S o (sn S 6)).length := q7
        exact ((k0.trans (kc.of e1)).trans e2).mono (by omega) (by omega)
  · obtain ⟨σ1, r1, H1, k1⟩ := F_deliverX H hI.fix ha h1 hc
    have p1 := Lh_deliverX1 (d := 107) (b := ol) H ha r1 (by omega)
    have ec : mDelC S (scw sf i 1) = 1 := by
      unfold mDelC mC2
      rw [if_pos (show ¬ (0 ≤ scw sf i 1 ∧ scw sf i 1 < sn S 15) by rw [hnM]; exact hc)]
    obtain ⟨r2, σ2, p2, hr2⟩ := M_del2 (m := m) hI h1 H1 hR hMS hm (fun w => by
      rw [ec] at w
      exact absurd w (by decide))
    rw [ec] at hr2
    rcases hr2 with ⟨-, rfl, H2, e2⟩ | ⟨hx, -⟩ | ⟨hx, -⟩
    · refine tC21 (v := false) (f := f) H hs hlt hi hn p1 (by decide) H1 hm p2 (by decide) (by decide) H2 hm ⟨by decide, by decide⟩ (by rw [sT_set, if_pos ⟨rfl, rfl, rfl⟩]) (fun e => absurd e (by decide)) ?_
      refine hQ _ _ _ σ2 (Or.inl ⟨1, rfl⟩) (L0.quiet ffr.refl mfr.refl (gext_rfl (S := S)) (fun _ => Nat.le_refl _) H2 ⟨f, hf⟩ ⟨fd, hfd⟩) ?_
      exact (k1.trans e2).mono (by omega) (by omega)
    · exact absurd hx (by decide)
    · exact absurd hx (by decide)
end ZCB8
