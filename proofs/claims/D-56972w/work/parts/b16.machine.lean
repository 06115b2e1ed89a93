/-! THE SIMULATION: addMachine -/
set_option maxRecDepth 100000
section ZBM1
variable {z : Nat → Nat} {k : Nat} {X Y : hS} {p q r t : Int}
theorem fAM_ceq {c : Nat} (h1 : c ≠ 1) (h45 : c ≠ 45) (h20 : c ≠ 20) : ceq X (fAddMachine X p q r t) c :=
  ((((((((ceq.refl.snw h1).snw h45).set h1).set h1).set h1).set h1).set h1).set h1).ssE h20
theorem fAM_n1 : sn (fAddMachine X p q r t) 1 = sn X 1 + 1 := rfl
theorem fAM_n45 : sn (fAddMachine X p q r t) 45 = sn X 45 + 1 := rfl
theorem fAM_E45 {i : Nat} : sE (fAddMachine X p q r t) 45 i = if i = sn X 45 then [] else sE X 45 i := by
  unfold fAddMachine kFMachine
  rw [sE_ssE, if_neg (by omega), sE_set, sE_set, sE_set, sE_set, sE_set, sE_set, sE_w]
  have e : sn (snw X 1 []) 45 = sn X 45 := rfl
  rw [e]
  by_cases h : i = sn X 45
  · rw [if_pos ⟨rfl, h⟩, if_pos h]
  · rw [if_neg (fun w => h w.2), if_neg h, sE_w, if_neg (by omega)]
theorem fAM_old {k i : Nat} (h : i ≠ sn X 1) : sT (fAddMachine X p q r t) 1 k i = sT X 1 k i := by
  unfold fAddMachine kFMachine
  rw [sT_ssE, sT_set, if_neg (by omega), sT_set, if_neg (by omega), sT_set, if_neg (by omega), sT_set, if_neg (by omega), sT_set, if_neg (by omega), sT_set, if_neg (by omega), sT_w, if_neg (by omega), sT_w, if_neg (by omega)]
theorem fAM_new {k : Nat} (hk : k < 12) : sT (fAddMachine X p q r t) 1 k (sn X 1) = match k with
  | 0 => p | 1 => q | 2 => r | 3 => t | 4 => (sn X 45 : Nat) | 5 => -1 | 7 => -1 | _ => 0 := by
  unfold fAddMachine kFMachine
  simp only [sT_ssE, sT_set, sT_w]
  match k, hk with
  | 0, _ => rfl
  | 1, _ => rfl
  | 2, _ => rfl
  | 3, _ => rfl
  | 4, _ => rfl
  | 5, _ => rfl
  | 6, _ => rfl
  | 7, _ => rfl
  | 8, _ => rfl
  | 9, _ => rfl
  | 10, _ => rfl
  | 11, _ => rfl
def mAM (Y : hS) (p q r t : Int) : hS := ssE (kMMachine (snw (mt Y 0) 12 []) (sn Y 12) p q r t) 30 0 (sE Y 30 0 ++ [(sn Y 12 : Int)])
theorem mAM_ceq {c : Nat} (h11 : c ≠ 11) (h12 : c ≠ 12) (h30 : c ≠ 30) : ceq Y (mAM Y p q r t) c :=
  (((((((((ceq.refl.set h11).snw h12).set h12).set h12).set h12).set h12).set h12).set h12).ssE h30)
theorem mAM_11 {k i : Nat} (hk : k ≠ 0) : sT (mAM Y p q r t) 11 k i = sT Y 11 k i := by
  unfold mAM kMMachine
  rw [sT_ssE, sT_set, if_neg (by omega), sT_set, if_neg (by omega), sT_set, if_neg (by omega), sT_set, if_neg (by omega), sT_set, if_neg (by omega), sT_set, if_neg (by omega), sT_w, if_neg (by omega), sT_set, if_neg (by omega)]
theorem mAM_old {k i : Nat} (h : i ≠ sn Y 12) : sT (mAM Y p q r t) 12 k i = sT Y 12 k i := by
  unfold mAM kMMachine
  rw [sT_ssE, sT_set, if_neg (by omega), sT_set, if_neg (by omega), sT_set, if_neg (by omega), sT_set, if_neg (by omega), sT_set, if_neg (by omega), sT_set, if_neg (by omega), sT_w, if_neg (fun w => h w.2), sT_set, if_neg (by omega)]
theorem mAM_new {k : Nat} (hk : k < 11) : sT (mAM Y p q r t) 12 k (sn Y 12) = match k with
  | 0 => p | 1 => q | 2 => r | 3 => t | 4 => -1 | 6 => 45 | 9 => -1 | _ => 0 := by
  unfold mAM kMMachine
  have e : sn (mt Y 0) 12 = sn Y 12 := rfl
  simp only [sT_ssE, sT_set, sT_w, e]
  match k, hk with
  | 0, _ => rfl
  | 1, _ => rfl
  | 2, _ => rfl
  | 3, _ => rfl
  | 4, _ => rfl
  | 5, _ => rfl
  | 6, _ => rfl
  | 7, _ => rfl
  | 8, _ => rfl
  | 9, _ => rfl
  | 10, _ => rfl
theorem pairAM (hR : rR z X Y) (hI : iAll z k X) (hS : mShape Y) (hB : mBox Y) (hok : okMachine p q r t = true) (hn : sn X 1 < 5) :
    rR z (fAddMachine X p q r t) (mAM Y p q r t) ∧ iAll z k (fAddMachine X p q r t) ∧ mShape (mAM Y p q r t) ∧ mBox (mAM Y p q r t) := by
  have h12 : sn Y 12 = sn X 1 := hR.M.1
  have h45 : sn X 45 = sn X 1 := hI.mc.1
  have okk : (0 ≤ p ∧ p ≤ 20) ∧ (0 ≤ q ∧ q ≤ 50) ∧ (5 ≤ r ∧ r ≤ 500) ∧ (1 ≤ t ∧ t ≤ 99) := by
    unfold okMachine at hok
    simpa using hok
  have fc := fun (c : Nat) (h1 : c ≠ 1) (h2 : c ≠ 45) (h3 : c ≠ 20) => fAM_ceq (X := X) (p := p) (q := q) (r := r) (t := t) h1 h2 h3
  have mc := fun (c : Nat) (h1 : c ≠ 11) (h2 : c ≠ 12) (h3 : c ≠ 30) => mAM_ceq (Y := Y) (p := p) (q := q) (r := r) (t := t) h1 h2 h3
  have fold := fun (k i : Nat) (h : i ≠ sn X 1) => fAM_old (p := p) (q := q) (r := r) (t := t) (k := k) h
  have mold := fun (k i : Nat) (h : i ≠ sn Y 12) => mAM_old (p := p) (q := q) (r := r) (t := t) (k := k) h
  have fst : ∀ m : Nat, m < sn X 1 → fState (fAddMachine X p q r t) m = fState X m := fun m hm => by
    unfold fState
    rw [fold 8 m (by omega), fold 7 m (by omega)]
  have n0 := fun (k : Nat) (hk : k < 12) => fAM_new (X := X) (p := p) (q := q) (r := r) (t := t) hk
  have m0 := fun (k : Nat) (hk : k < 11) => mAM_new (Y := Y) (p := p) (q := q) (r := r) (t := t) hk
  refine ⟨?_, ?_, ?_, ?_⟩
  · obtain ⟨hG, hM, hP, hL, hO, hQ, hSu⟩ := hR
    refine ⟨?_, ?_, ?_, ?_, ?_, ?_, ?_⟩
    · unfold rG at hG ⊢
      rw [mAM_11 (by decide), mAM_11 (by decide), (fc 0 (by decide) (by decide) (by decide)).2.1, (fc 0 (by decide) (by decide) (by decide)).2.1]
      exact hG
    · refine ⟨?_, fun m hm => ?_⟩
      · show sn Y 12 + 1 = sn X 1 + 1
        omega
      · have hm : m < sn X 1 + 1 := hm
        by_cases e : m = sn X 1
        · have eY : m = sn Y 12 := by omega
          have g := fun (k : Nat) (hk : k < 11) => (congrArg (fun i => sT (mAM Y p q r t) 12 k i) eY).trans (m0 k hk)
          have f := fun (k : Nat) (hk : k < 12) => (congrArg (fun i => sT (fAddMachine X p q r t) 1 k i) e).trans (n0 k hk)
          have es : fState (fAddMachine X p q r t) m = 45 := by
            unfold fState
            rw [f 8 (by decide), f 7 (by decide)]
            rfl
          refine ⟨⟨(g 0 (by decide)).trans (f 0 (by decide)).symm, (g 1 (by decide)).trans (f 1 (by decide)).symm, (g 2 (by decide)).trans (f 2 (by decide)).symm, (g 3 (by decide)).trans (f 3 (by decide)).symm⟩, (g 4 (by decide)).trans (f 5 (by decide)).symm, (g 5 (by decide)).trans (f 6 (by decide)).symm, (g 6 (by decide)).trans es.symm, (g 7 (by decide)).trans (f 10 (by decide)).symm, (g 8 (by decide)).trans (f 9 (by decide)).symm, (g 10 (by decide)).trans (f 11 (by decide)).symm, fun hw => ?_⟩
          rw [f 7 (by decide)] at hw
          exact absurd (show (0 : Int) ≤ -1 from hw) (by decide)
        · have h := hM.2 m (by omega)
          rw [fst m (by omega)]
          simp only [fold _ m e, mold _ m (by omega)]
          exact h
    · exact rP_congr (fun c k i hc => (fc c (by omega) (by omega) (by omega)).2.1 k i) (fun c i hc => (fc c (by omega) (by omega) (by omega)).2.2 i) (fun k i => (mc 13 (by decide) (by decide) (by decide)).2.1 k i) (fun c i hc => (mc c (by omega) (by omega) (by omega)).2.2 i) (mc 13 (by decide) (by decide) (by decide)).1 hP
    · exact rL_congr (fun k i _ _ _ => (fc 6 (by decide) (by decide) (by decide)).2.1 k i) ((fc 21 (by decide) (by decide) (by decide)).2.2 0) (fc 6 (by decide) (by decide) (by decide)).1 (fun l _ => by rw [ch_cg (fc 6 (by decide) (by decide) (by decide)) (fc 7 (by decide) (by decide) (by decide)) (fc 26 (by decide) (by decide) (by decide))]) (fun k i _ _ => (mc 14 (by decide) (by decide) (by decide)).2.1 k i) (fun i => (mc 41 (by decide) (by decide) (by decide)).2.2 i) (mc 14 (by decide) (by decide) (by decide)).1 hL
    · have f8 := fc 8 (by decide) (by decide) (by decide)
      have f7 := fc 7 (by decide) (by decide) (by decide)
      have m15 := mc 15 (by decide) (by decide) (by decide)
      refine ⟨by rw [f8.1, m15.1]; exact hO.1, fun o ho => ?_⟩
      rw [f8.1] at ho
      obtain ⟨g1, g2, g3, g4⟩ := hO.2 o ho
      refine ⟨rOa_congr (fun k _ => f8.2.1 k o) ((fc 21 (by decide) (by decide) (by decide)).2.2 0) (fun k _ => m15.2.1 k o) g1, rOb_congr (fun k _ => f8.2.1 k o) (fun k _ => m15.2.1 k o) g2, ⟨?_, ?_⟩, ?_⟩
      · rw [tl_cg f7 f8 (fc 26 (by decide) (by decide) (by decide)), mTl_congr ((mc 38 (by decide) (by decide) (by decide)).2.2 o) ((mc 39 (by decide) (by decide) (by decide)).2.2 o) (fun q _ => (mc 19 (by decide) (by decide) (by decide)).2.1 0 q.toNat)]
        exact g3.1
      · rw [(mc 38 (by decide) (by decide) (by decide)).2.2 o, (mc 39 (by decide) (by decide) (by decide)).2.2 o]
        exact g3.2
      · exact rD_congr (by unfold fDelL; rw [f8.2.1]) ((fc 27 (by decide) (by decide) (by decide)).2.2 _) (fun t _ => ⟨f7.2.1 0 _, f7.2.1 2 _⟩) ((mc 40 (by decide) (by decide) (by decide)).2.2 o) (m15.2.1 15 o) g4
    · intro m hm
      have hm : m < sn X 1 + 1 := hm
      have m15 := mc 15 (by decide) (by decide) (by decide)
      rw [fAM_E45, (fc 8 (by decide) (by decide) (by decide)).1]
      simp only [m15.2.1]
      by_cases e : m = sn X 1
      · rw [if_pos (by omega)]
        refine ⟨List.nodup_nil, fun x => ⟨fun h => absurd h List.not_mem_nil, fun h => ?_⟩⟩
        have h2 := (hS.2.2.2.1 x.toNat (by rw [hO.1]; omega)).2.2.2.2.2 h.2.2.1
        omega
      · rw [if_neg (by omega)]
        exact hQ m (by omega)
    · exact rS_congr (fun x _ => ⟨(fc 28 (by decide) (by decide) (by decide)).2.2 x, (fc 9 (by decide) (by decide) (by decide)).2.1 0 x⟩) (fun c i hc => (mc c (by omega) (by omega) (by omega)).2.2 i) (mc 35 (by decide) (by decide) (by decide)).1 hSu
  · have f := fun (c : Nat) (h : c ≠ 1 ∧ c ≠ 45 ∧ c ≠ 20) => fc c h.1 h.2.1 h.2.2
    obtain ⟨i1, i2, i3, i4, i5, i6, i7, i8, i9, i10, i11, i12, i13, i14⟩ := hI
    refine ⟨?_, i2.cg (f 2 (by decide)) (f 3 (by decide)) (f 4 (by decide)) (f 5 (by decide)) (f 21 (by decide)) (f 24 (by decide)) (f 25 (by decide)) (Nat.le_succ _), ?_, i4.cg (f 6 (by decide)) (f 7 (by decide)) (f 21 (by decide)) (f 26 (by decide)), i5.cg (f 6 (by decide)).1 (f 7 (by decide)) (f 26 (by decide)) (f 27 (by decide)), i6.cg (f 6 (by decide)) (f 8 (by decide)) (f 21 (by decide)) (f 26 (by decide)).1 (f 27 (by decide)).1, i7.cg (f 6 (by decide)) (f 8 (by decide)), ?_, i9.cg (f 6 (by decide)) (f 7 (by decide)) (f 8 (by decide)) (f 26 (by decide)) (f 27 (by decide)), i10.cg (f 0 (by decide)) (f 6 (by decide)) (f 7 (by decide)) (f 8 (by decide)) (f 27 (by decide)), i11.cg (f 6 (by decide)) (f 7 (by decide)) (f 8 (by decide)) (f 26 (by decide)), i12.cg (f 8 (by decide)) (f 26 (by decide)) (f 27 (by decide)), i13.cg (f 0 (by decide)) (f 6 (by decide)).1 (f 8 (by decide)) (f 28 (by decide)), i14.cg (f 9 (by decide)) (f 28 (by decide)) (f 48 (by decide))⟩
    · unfold fFix at i1 ⊢
      obtain ⟨x1, x2, x3, x4, x5, x6, x7, x8, x9, x10, x11, x12, x13, x14⟩ := i1
      have f0 := f 0 (by decide)
      rw [f0.1, f0.2.1, f0.2.1, f0.2.1, f0.2.1, f0.2.1, (f 22 (by decide)).2.2, (f 23 (by decide)).2.2, (f 21 (by decide)).2.2, (f 6 (by decide)).1, (f 8 (by decide)).1]
      refine ⟨x1, x2, x3, x4, x5, x6, ?_, x8, x9, ?_, x11, x12, x13, x14⟩
      · show sE (fAddMachine X p q r t) 20 0 = idl (sn X 1 + 1)
        unfold fAddMachine
        rw [sE_ssE, if_pos ⟨rfl, rfl⟩, idl_succ, x7]
      · show sn X 1 + 1 ≤ 5
        omega
    · obtain ⟨a1, a2, a3⟩ := i3
      have f0 := f 0 (by decide)
      refine ⟨by show sn X 45 + 1 = sn X 1 + 1; omega, by rw [f0.2.1]; exact a2, fun m hm => ?_⟩
      have hm : m < sn X 1 + 1 := hm
      rw [f0.2.1]
      by_cases e : m = sn X 1
      · have g := fun (k : Nat) (hk : k < 12) => (congrArg (fun i => sT (fAddMachine X p q r t) 1 k i) e).trans (n0 k hk)
        simp only [g 0 (by decide), g 1 (by decide), g 2 (by decide), g 3 (by decide), g 4 (by decide), g 5 (by decide), g 6 (by decide), g 7 (by decide), g 8 (by decide), g 9 (by decide), g 10 (by decide), g 11 (by decide)]
        refine ⟨by omega, Or.inl trivial, okk, by omega, by omega, by omega, by omega, by omega, ?_⟩
        rw [if_pos (by decide)]
        omega
      · simp only [fold _ m e]
        exact a3 m (by omega)
    · obtain ⟨a1, a2, a3⟩ := i8
      have f8 := f 8 (by decide)
      have hq : ∀ j : Nat, fQok (fAddMachine X p q r t) j ↔ fQok X j := fun j => by
        unfold fQok fOpL
        rw [f8.2.1, f8.2.1, f8.2.1, (f 2 (by decide)).2.1, (f 25 (by decide)).2.2]
      simp only [iQw, hq, f8.1, f8.2.1]
      refine ⟨fun m hm => ?_, fun m hm => ?_, fun m w hm hw => ?_⟩
      · have hm : m < sn X 1 + 1 := hm
        rw [fAM_E45]
        by_cases e : m = sn X 45
        · rw [if_pos e]
          exact fun x hx => absurd hx List.not_mem_nil
        · rw [if_neg e]
          exact a1 m (by omega)
      · have hm : m < sn X 1 + 1 := hm
        by_cases e : m = sn X 1
        · have g := fun (k : Nat) (hk : k < 12) => (congrArg (fun i => sT (fAddMachine X p q r t) 1 k i) e).trans (n0 k hk)
          rw [g 7 (by decide)]
          exact ⟨(by decide : (-1 : Int) ≤ -1), fun w => absurd (show (0 : Int) ≤ -1 from w) (by decide)⟩
        · rw [fold 7 m e, fold 8 m e]
          exact a2 m (by omega)
      · have hm : m < sn X 1 + 1 := hm
        have hw : w < sn X 1 + 1 := hw
        by_cases e : m = sn X 1
        · have g := fun (k : Nat) (hk : k < 12) => (congrArg (fun i => sT (fAddMachine X p q r t) 1 k i) e).trans (n0 k hk)
          rw [g 7 (by decide)]
          exact fun w => absurd (show (0 : Int) ≤ -1 from w) (by decide)
        · rw [fold 7 m e]
          by_cases e2 : w = sn X 1
          · have g := fun (k : Nat) (hk : k < 12) => (congrArg (fun i => sT (fAddMachine X p q r t) 1 k i) e2).trans (n0 k hk)
            rw [g 7 (by decide)]
            intro h1 h2
            have h2 : sT X 1 7 m = -1 := h2
            omega
          · rw [fold 7 w e2]
            exact a3 m w (by omega) (by omega)
  · obtain ⟨s1, s2, s3, s4, s5⟩ := hS
    have f := fun (c : Nat) (h : c ≠ 11 ∧ c ≠ 12 ∧ c ≠ 30) => mc c h.1 h.2.1 h.2.2
    refine ⟨?_, ?_, ?_, ?_, ?_⟩
    · unfold mFix at s1 ⊢
      obtain ⟨x1, x2, x3, x4, x5, x6, x7, x8, x9, x10, x11, x12, x13, x14, x15⟩ := s1
      rw [mAM_11 (by decide), mAM_11 (by decide), mAM_11 (by decide), mAM_11 (by decide), mAM_11 (by decide), mAM_11 (by decide), (f 31 (by decide)).2.2, (f 32 (by decide)).2.2, (f 33 (by decide)).2.2, (f 13 (by decide)).1, (f 14 (by decide)).1, (f 15 (by decide)).1]
      refine ⟨x1, x2, x3, x4, x5, x6, x7, ?_, x9, x10, x11, ?_, x13, x14, x15⟩
      · show sE (mAM Y p q r t) 30 0 = idl (sn Y 12 + 1)
        unfold mAM
        rw [sE_ssE, if_pos ⟨rfl, rfl⟩, idl_succ, x8]
      · show sn Y 12 + 1 ≤ 5
        omega
    · simp only [(f 13 (by decide)).1, (f 13 (by decide)).2.1, (f 36 (by decide)).2.2, (f 37 (by decide)).2.2, (f 46 (by decide)).1]
      exact s2
    · simp only [(f 14 (by decide)).1, (f 14 (by decide)).2.1, (f 41 (by decide)).2.2]
      exact s3
    · intro o ho
      simp only [(f 15 (by decide)).1, (f 15 (by decide)).2.1] at ho ⊢
      obtain ⟨w1, w2, w3, w4, w5, w6⟩ := s4 o ho
      refine ⟨w1, w2, w3, w4, w5, fun h => ?_⟩
      have h6 := w6 h
      have e : sn (mAM Y p q r t) 12 = sn Y 12 + 1 := rfl
      omega
    · rw [(f 36 (by decide)).1, (f 37 (by decide)).1, (f 41 (by decide)).1, (f 38 (by decide)).1, (f 39 (by decide)).1, (f 40 (by decide)).1, (f 13 (by decide)).1, (f 14 (by decide)).1, (f 15 (by decide)).1]
      exact s5
  · obtain ⟨b1, b2, b3⟩ := hB
    have f := fun (c : Nat) (h : c ≠ 11 ∧ c ≠ 12 ∧ c ≠ 30) => mc c h.1 h.2.1 h.2.2
    unfold mBox
    simp only [(f 19 (by decide)).1, (f 19 (by decide)).2.1, (f 15 (by decide)).1, (f 39 (by decide)).2.2]
    exact ⟨b1, b2, b3⟩
end ZBM1
section ZBQ
variable {g : zG} {w0 : hG} {z : Nat → Nat} {a m ol od k scr n i : Nat} {sf : Nat → Int32} {S : hS} {gh : Nat → Nat → Nat} {J : zw_W} {σ : zS} {Q : Option Value ⊕ String → zS → Prop}
/-- what addMachine leaves -/
def pAM (S S2 : hS) (p q r t : Int) : Prop := (∃ v : Int, S2 = mt S v) ∨ (okMachine p q r t = true ∧ sn S 1 < 5 ∧ S2 = mAM (fAddMachine S p q r t) p q r t)
theorem fAM_mfr {p q r t : Int} : mfr S (fAddMachine S p q r t) := by
  unfold fAddMachine kFMachine
  exact ((((((((mfr.refl.snw (by decide)).snw (by decide)).set (by decide)).set (by decide)).set (by decide)).set (by decide)).set (by decide)).set (by decide)).ssE (by decide)
theorem mAM_ffr {Y : hS} {p q r t : Int} : ffr Y (mAM Y p q r t) := by
  unfold mAM kMMachine
  exact ((((((((ffr.mt).snw (by decide)).set (by decide)).set (by decide)).set (by decide)).set (by decide)).set (by decide)).set (by decide)).ssE (by decide)
theorem mAM_thrown {Y : hS} {p q r t : Int} : sT (mAM Y p q r t) 11 0 0 = 0 := by
  unfold mAM kMMachine
  rw [sT_ssE, sT_set, if_neg (by omega), sT_set, if_neg (by omega), sT_set, if_neg (by omega), sT_set, if_neg (by omega), sT_set, if_neg (by omega), sT_set, if_neg (by omega), sT_w, if_neg (by omega), sT_set, if_pos ⟨rfl, rfl, rfl⟩]
theorem tS0 (L : lSt g w0 z a m ol od k S gh J σ) (hs : w0.1 scr = some (.inl (8, n, .inl sf))) (hlt : scr < zg_n g) (hi : i + 5 < n) (hn : n ≤ 1000)
    (hQ : ∀ (S2 : hS) (gh2 : Nat → Nat → Nat) (J2 : zw_W) (σ2 : zS), pAM S S2 (scw sf i 1) (scw sf i 2) (scw sf i 3) (scw sf i 4) → lSt g w0 z a m ol od (k + 1) S2 gh2 J2 σ2 → kc σ σ2 8 120 → tW g 1600 2441 (tLV scr a m ol od i) [] σ2 Q) : tW g 1600 200 (tLV scr a m ol od i) [] σ Q := by
  have L0 := L
  obtain ⟨H, ⟨f, hf⟩, ⟨fd, hfd⟩, ha, hm, hC, hR, hI, hS, hB⟩ := L
  have hne := ol_ne hf hfd
  have h1 : rg (scw sf i 1) := rg_scw
  have h2 : rg (scw sf i 2) := rg_scw
  have h3 : rg (scw sf i 3) := rg_scw
  have h4 : rg (scw sf i 4) := rg_scw
  have hn12 : sn S 12 = sn S 1 := hR.M.1
  have h5 := hI.fix.2.2.2.2.2.2.2.2.2.1
  have hmS := hS.fr (fAM_mfr (S := S) (p := scw sf i 1) (q := scw sf i 2) (r := scw sf i 3) (t := scw sf i 4))
  by_cases hok : okMachine (scw sf i 1) (scw sf i 2) (scw sf i 3) (scw sf i 4) = true
  · by_cases hf5 : sn S 1 = 5
    · obtain ⟨σ1, r1, H1, k1⟩ := F_addMachineB H hI.fix ha h1 h2 h3 h4 hok hf5
      have p1 := Lh_addMachineX2 (d := 9) (b := ol) H ha r1 (by omega)
      obtain ⟨σ2, p2, ghx, hgx, H2, e2⟩ := M_addMachine H1 hS.1 hm h1 h2 h3 h4
      have eT : mAddMachineT S (scw sf i 1) (scw sf i 2) (scw sf i 3) (scw sf i 4) = 2 := by
        unfold mAddMachineT
        rw [if_neg (by rw [hok]; decide), if_pos (by omega)]
      unfold mAddMachine at H2
      rw [eT, if_neg (by decide)] at p2 H2
      refine tC0 (f := f) H hs hlt hi hn p1 (by decide) H1 hm p2 (by decide) (by decide) H2 (hgx.hat (S1 := mt S 2) (fun _ => Nat.le_refl _) hm) ⟨by decide, by decide⟩ ⟨by decide, by decide⟩ (by rw [sT_set, if_pos ⟨rfl, rfl, rfl⟩]) (fun e => absurd e (by decide)) ?_
      refine hQ _ _ _ σ2 (Or.inl ⟨2, rfl⟩) (L0.quiet ffr.refl mfr.refl hgx (fun _ => Nat.le_refl _) H2 ⟨f, hf⟩ ⟨fd, hfd⟩) ?_
      exact (k1.trans e2).mono (by omega) (by omega)
    · obtain ⟨σ0, r1, gh1, hg1, H0, k0⟩ := F_addMachine H hI.fix ha h1 h2 h3 h4 hok (by omega)
      obtain ⟨σ1, p1, H1, e1⟩ := Lh_addMachine (d := 9) H ha r1 (by omega) H0 hf ⟨by omega, by omega⟩
      have le1 : ∀ c : Nat, sn S c ≤ sn (fAddMachine S (scw sf i 1) (scw sf i 2) (scw sf i 3) (scw sf i 4)) c := fun c => Nat.le_trans (sn_w_le (S := S) (c := 1) (xs := [])) (sn_w_le (S := snw S 1 []) (c := 45) (xs := []))
      have hm1 := hg1.hat le1 hm
      obtain ⟨σ2, p2, gh2, hg2, H2, e2⟩ := M_addMachine H1 hmS.1 hm1 h1 h2 h3 h4
      have e12 : sn (fAddMachine S (scw sf i 1) (scw sf i 2) (scw sf i 3) (scw sf i 4)) 12 = sn S 1 := hn12
      have eT : mAddMachineT (fAddMachine S (scw sf i 1) (scw sf i 2) (scw sf i 3) (scw sf i 4)) (scw sf i 1) (scw sf i 2) (scw sf i 3) (scw sf i 4) = 0 := by
        unfold mAddMachineT
        rw [if_neg (by rw [hok]; decide), if_neg (by omega)]
      unfold mAddMachine at H2
      rw [eT, if_pos rfl] at p2 H2
      rw [e12] at p2
      obtain ⟨q1, q2, q3, q4⟩ := pairAM (hR.frY hS hB fAM_mfr) hI hmS (hB.fr fAM_mfr) hok (by omega)
      have le2 : ∀ c : Nat, sn (fAddMachine S (scw sf i 1) (scw sf i 2) (scw sf i 3) (scw sf i 4)) c ≤ sn (mAM (fAddMachine S (scw sf i 1) (scw sf i 2) (scw sf i 3) (scw sf i 4)) (scw sf i 1) (scw sf i 2) (scw sf i 3) (scw sf i 4)) c := fun c => sn_w_le (S := mt (fAddMachine S (scw sf i 1) (scw sf i 2) (scw sf i 3) (scw sf i 4)) 0) (c := 12) (xs := [])
      have hg : gext S gh gh2 := hg1.trans hg2 le1
      refine tC0 H hs hlt hi hn p1 (by decide) H1 hm1 p2 (by decide) (by decide) H2 (hg2.hat le2 hm1) ⟨by decide, by decide⟩ ⟨by omega, by omega⟩ (mAM_thrown) (fun _ => ⟨zw_up_same _ _ _, va_up_self _ _ _⟩) ?_
      refine hQ _ _ _ σ2 (Or.inr ⟨hok, by omega, rfl⟩) (L0.chg hg (fun c => Nat.le_trans (le1 c) (le2 c)) q1 (q2.mono (Nat.le_succ _)) q3 q4 mAM_ffr H2 ⟨_, zw_up_same _ _ _⟩ ⟨fd, (zw_up_ne _ _ hne).trans hfd⟩) ?_
      exact ((k0.trans (kc.of e1)).trans e2).mono (by omega) (by omega)
  · have hok : okMachine (scw sf i 1) (scw sf i 2) (scw sf i 3) (scw sf i 4) = false := by simpa using hok
    obtain ⟨σ1, r1, H1, k1⟩ := F_addMachineA (a := a) H h1 h2 h3 h4 hok
    have p1 := Lh_addMachineX1 (d := 9) (b := ol) H ha r1 (by omega)
    obtain ⟨σ2, p2, ghx, hgx, H2, e2⟩ := M_addMachine H1 hS.1 hm h1 h2 h3 h4
    have eT : mAddMachineT S (scw sf i 1) (scw sf i 2) (scw sf i 3) (scw sf i 4) = 1 := by
      unfold mAddMachineT
      rw [if_pos hok]
    unfold mAddMachine at H2
    rw [eT, if_neg (by decide)] at p2 H2
    refine tC0 (f := f) H hs hlt hi hn p1 (by decide) H1 hm p2 (by decide) (by decide) H2 (hgx.hat (S1 := mt S 1) (fun _ => Nat.le_refl _) hm) ⟨by decide, by decide⟩ ⟨by decide, by decide⟩ (by rw [sT_set, if_pos ⟨rfl, rfl, rfl⟩]) (fun e => absurd e (by decide)) ?_
    refine hQ _ _ _ σ2 (Or.inl ⟨1, rfl⟩) (L0.quiet ffr.refl mfr.refl hgx (fun _ => Nat.le_refl _) H2 ⟨f, hf⟩ ⟨fd, hfd⟩) ?_
    exact (k1.trans e2).mono (by omega) (by omega)
end ZBQ
