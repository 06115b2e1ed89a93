/-! THE SIMULATION: all machines end what is due -/
set_option maxRecDepth 100000
/-- the pair within a tick: b more was worked for, e jobs went on -/
def tkP (z : Nat → Nat) (k : Nat) (X Y X' Y' : hS) (b e : Int) : Prop := rR z X' Y' ∧ iAll z k X' ∧ mShape Y' ∧ mBox Y' ∧ mfr X X' ∧ ffr Y Y' ∧ (∀ c : Nat, sn X c ≤ sn X' c) ∧ (∀ c : Nat, sn Y c ≤ sn Y' c) ∧ sT X' 0 7 0 + sT X' 0 8 0 ≤ sT X 0 7 0 + sT X 0 8 0 + b ∧ sT Y' 11 0 0 = sT Y 11 0 0 ∧ sn X' 1 = sn X 1 ∧ shpC z X X' ∧ jbS z X X' ∧
  isum (sn X 8) (fun o => sT X' 8 9 o) = isum (sn X 8) (fun o => sT X 8 9 o) + e
section ZCA4
variable {z : Nat → Nat} {k m o : Nat} {X Y X' Y' X2 Y2 : hS} {b b2 e e2 : Int}
theorem tkP.trans (hz : zInj z) (h : tkP z k X Y X' Y' b e) (h2 : tkP z k X' Y' X2 Y2 b2 e2) : tkP z k X Y X2 Y2 (b + b2) (e + e2) := by
  obtain ⟨a1, a2, a3, a4, a5, a6, a7, a8, a9, a10, a11, a12, a13, a14⟩ := h
  obtain ⟨c1, c2, c3, c4, c5, c6, c7, c8, c9, c10, c11, c12, c13, c14⟩ := h2
  refine ⟨c1, c2, c3, c4, a5.trans c5, a6.trans c6, fun c => Nat.le_trans (a7 c) (c7 c), fun c => Nat.le_trans (a8 c) (c8 c), by omega, c10.trans a10, c11.trans a11, a12.trans a13 c12, a13.trans hz c13, ?_⟩
  rw [a13.1] at c14
  rw [c14, a14]; omega
/-- a machine that is mended -/
theorem pairMend (hR : rR z X Y) (hI : iAll z k X) (hS : mShape Y) (hB : mBox Y) (hm : m < sn X 1) (h8 : sT X 1 8 m = 1) : tkP z k X Y (sset X 1 8 m 0) (mEnd0 Y m) 0 0 := by
  have hw : sT X 1 7 m < 0 := by
    rcases Int.lt_or_le (sT X 1 7 m) 0 with h | h
    · exact h
    · have := ((hI.qw.2.1 m hm).2 h).1
      omega
  have u : ∀ c : Nat, c ≠ 1 → ceq X (sset X 1 8 m 0) c := fun c h => ceq.refl.set h
  have g : ∀ c : Nat, c ≠ 12 → ceq Y (mEnd0 Y m) c := fun c h => ceq.refl.set h
  have v1 : ∀ j i : Nat, ¬ (j = 8 ∧ i = m) → sT (sset X 1 8 m 0) 1 j i = sT X 1 j i := fun j i h => by rw [sT_set, if_neg (by omega)]
  have v18 : sT (sset X 1 8 m 0) 1 8 m = 0 := by rw [sT_set, if_pos ⟨rfl, rfl, rfl⟩]
  refine ⟨⟨hR.G, ?_, ?_, ?_, ?_, ?_, ?_⟩, ?_, hS, hB, mfr.refl.set (Or.inl (by decide)), ffr.refl.set (by decide), fun _ => Nat.le_refl _, fun _ => Nat.le_refl _, by show sT X 0 7 0 + sT X 0 8 0 ≤ _; omega, rfl, rfl, shpC.of ⟨fun c hc => u c (by omega), rfl, fun _ _ _ => rfl, rfl, fun _ _ _ => rfl, rfl, fun _ _ _ => rfl, rfl⟩ ⟨fun _ => rfl, fun _ => Or.inl rfl⟩, jbS.refl, by show isum (sn X 8) (fun o => sT X 8 9 o) = _; omega⟩
  · refine ⟨hR.M.1, fun q hq => ?_⟩
    have hq : q < sn X 1 := hq
    obtain ⟨b1, b2, b3, b4, b5, b6, b7, b8⟩ := hR.M.2 q hq
    have w : ∀ j : Nat, ¬ (j = 6 ∧ q = m) → sT (mEnd0 Y m) 12 j q = sT Y 12 j q := fun j h => by
      unfold mEnd0
      rw [sT_set, if_neg (by omega)]
    unfold fState at b4 ⊢
    rw [w 0 (by omega), w 1 (by omega), w 2 (by omega), w 3 (by omega), w 4 (by omega), w 5 (by omega), w 7 (by omega), w 8 (by omega), w 10 (by omega), w 9 (by omega), v1 0 q (by omega), v1 1 q (by omega), v1 2 q (by omega), v1 3 q (by omega), v1 5 q (by omega), v1 6 q (by omega), v1 10 q (by omega), v1 9 q (by omega), v1 11 q (by omega), v1 7 q (by omega)]
    refine ⟨b1, b2, b3, ?_, b5, b6, b7, b8⟩
    by_cases eq : q = m
    · subst eq
      rw [v18, if_neg (by decide), if_pos hw]
      unfold mEnd0
      rw [sT_set, if_pos ⟨rfl, rfl, rfl⟩]
    · rw [w 6 (by omega), v1 8 q (by omega)]
      exact b4
  · exact rP_congr (X' := sset X 1 8 m 0) (X := X) (Y' := mEnd0 Y m) (Y := Y) (fun c j i hc => (u c (by omega)).2.1 j i) (fun c i hc => rfl) (fun j i => (g 13 (by decide)).2.1 j i) (fun c i hc => rfl) rfl hR.P
  · exact hR.L.gr (pgr.same rfl) (u 6 (by decide)) (u 7 (by decide)) (u 26 (by decide)) (g 14 (by decide)) (g 41 (by decide))
  · exact hR.O
  · exact hR.Q
  · exact rS_congr (fun x _ => ⟨rfl, rfl⟩) (fun c i hc => rfl) rfl hR.S
  · obtain ⟨i1, i2, i3, i4, i5, i6, i7, i8, i9, i10, i11, i12, i13, i14⟩ := hI
    refine ⟨i1, i2.cg (u 2 (by decide)) (u 3 (by decide)) (u 4 (by decide)) (u 5 (by decide)) (u 21 (by decide)) (u 24 (by decide)) (u 25 (by decide)) (Nat.le_refl _), ?_, i4.cg (u 6 (by decide)) (u 7 (by decide)) (u 21 (by decide)) (u 26 (by decide)), i5.cg rfl (u 7 (by decide)) (u 26 (by decide)) (u 27 (by decide)), i6.cg (u 6 (by decide)) (u 8 (by decide)) (u 21 (by decide)) rfl rfl, i7.cg (u 6 (by decide)) (u 8 (by decide)), ?_, i9.cg (u 6 (by decide)) (u 7 (by decide)) (u 8 (by decide)) (u 26 (by decide)) (u 27 (by decide)), i10.cg (u 0 (by decide)) (u 6 (by decide)) (u 7 (by decide)) (u 8 (by decide)) (u 27 (by decide)), i11.cg (u 6 (by decide)) (u 7 (by decide)) (u 8 (by decide)) (u 26 (by decide)), i12.cg (u 8 (by decide)) (u 26 (by decide)) (u 27 (by decide)), i13.cg (u 0 (by decide)) rfl (u 8 (by decide)) (u 28 (by decide)), i14.cg (u 9 (by decide)) (u 28 (by decide)) (u 48 (by decide))⟩
    · obtain ⟨a1, a2, a3⟩ := i3
      refine ⟨a1, a2, fun q hq => ?_⟩
      obtain ⟨b1, b2, b3, b4, b5, b6, b7, b8⟩ := a3 q hq
      have e0 : sT (sset X 1 8 m 0) 0 6 0 = sT X 0 6 0 := rfl
      rw [v1 4 q (by omega), v1 0 q (by omega), v1 1 q (by omega), v1 2 q (by omega), v1 3 q (by omega), v1 5 q (by omega), v1 6 q (by omega), v1 10 q (by omega), v1 9 q (by omega), v1 11 q (by omega), v1 7 q (by omega), e0]
      refine ⟨b1, ?_, b3, b4, b5, b6, b7, b8⟩
      by_cases eq : q = m
      · rw [eq, v18]; exact Or.inl rfl
      · rw [v1 8 q (by omega)]; exact b2
    · obtain ⟨a1, a2, a3⟩ := i8
      refine ⟨a1, fun q hq => ?_, a3⟩
      obtain ⟨d1, d2⟩ := a2 q hq
      refine ⟨d1, fun h => ?_⟩
      obtain ⟨e1, e2, e3, e4⟩ := d2 h
      refine ⟨?_, e2, e3, e4⟩
      by_cases eq : q = m
      · rw [eq, v18]
      · rw [v1 8 q (by omega)]; exact e1
/-- a job goes on from its machine -/
theorem pairEndW (hz : zInj z) (hR : rR z X Y) (hI : iAll z k X) (hS : mShape Y) (hB : mBox Y) (hm : m < sn X 1) (hw : 0 ≤ sT X 1 7 m) : tkP z k X Y (fGoOn z (fEnd3 X m) (fWk X m)) (mGoOn (mEnd3 Y m) (mWk Y m)) 0 1 ∧ fGoOk (fEnd3 X m) (fWk X m) ∧ mGoOk (mEnd3 Y m) (mWk Y m) ∧ 0 ≤ sT Y 12 9 m := by
  obtain ⟨w1, w2, w3, w4, w5⟩ := wk_facts hI hm hw
  obtain ⟨R3, ew⟩ := endR hR hI hm hw
  have hI2 := endInv hz hI hm hw
  rw [ew]
  have h88 := fE3_8 (X := X) (m := m) (j := 8) (i := fWk X m) (by omega)
  have h87 := fE3_8 (X := X) (m := m) (j := 7) (i := fWk X m) (by omega)
  have h81 := fE3_8 (X := X) (m := m) (j := 1) (i := fWk X m) (by omega)
  have h85 := fE3_8 (X := X) (m := m) (j := 5) (i := fWk X m) (by omega)
  have h813 := fE3_8 (X := X) (m := m) (j := 13) (i := fWk X m) (by omega)
  have hG : sT Y 12 9 m = sT X 1 7 m := (hR.M.2 m hm).2.2.2.2.2.2.2 hw
  have g := fun (c : Nat) (h : c ≠ 12 ∧ c ≠ 15) => mE3_c (Y := Y) (m := m) h
  have S3 : mShape (mEnd3 Y m) := by
    obtain ⟨y1, y2, y3, y4, y5⟩ := hS
    refine ⟨?_, ?_, fun l hl => ?_, fun q hq => ?_, ?_⟩
    · unfold mFix at y1 ⊢
      have g11 := g 11 (by decide)
      simp only [mE3_n, mE3_E, g11.2.1]
      exact y1
    · simp only [mE3_n, mE3_E, (g 13 (by decide)).2.1]
      exact y2
    · rw [mE3_n] at hl
      rw [(g 14 (by decide)).2.1, (g 14 (by decide)).2.1, mE3_E]
      exact y3 l hl
    · rw [mE3_n] at hq
      rw [mE3_15 (by omega), mE3_15 (by omega), mE3_15 (by omega), mE3_15 (by omega), mE3_15 (by omega), mE3_15 (by omega), mE3_n]
      exact y4 q hq
    · simp only [mE3_n]
      exact y5
  have B3 : mBox (mEnd3 Y m) := hB.cg mE3_n (g 19 (by decide)) (g 39 (by decide))
  have hw3 : ∀ q : Nat, q < sn (fEnd3 X m) 1 → 0 ≤ sT (fEnd3 X m) 1 7 q → sT (fEnd3 X m) 1 8 q = 0 := fun q hq h => by
    rw [fE3_n] at hq
    by_cases eq : q = m
    · rw [eq, fE3_m, if_pos rfl] at h
      exact absurd h (by decide)
    · rw [fE3_1 eq] at h ⊢
      exact ((hI.qw.2.1 q hq).2 h).1
  have ho : fWk X m < sn (fEnd3 X m) 8 := by rw [fE3_n]; exact w2
  have hmd : (sT (fEnd3 X m) 8 1 (fWk X m)).toNat % 2 = 0 := by rw [h81]; exact w4.1.2
  have hst : sT (fEnd3 X m) 8 7 (fWk X m) = (z 3 : Nat) := by rw [h87]; exact w3
  obtain ⟨g1, g2, g3, g4, g5, g6, g7, g8, g9, g10, g11, g12, g13⟩ := pairGoOn hz R3 hI2 hw3 S3 B3 ho ⟨3, by decide, by decide, hst⟩ hmd
  have O := hI.or _ w2
  have ne4 : sT X 8 7 (fWk X m) ≠ (z 4 : Nat) := by rw [w3]; intro w; exact absurd (hz 3 4 (by decide) (by decide) (by omega)) (by decide)
  have ne5 : sT X 8 7 (fWk X m) ≠ (z 5 : Nat) := by rw [w3]; intro w; exact absurd (hz 3 5 (by decide) (by decide) (by omega)) (by decide)
  have h13 : sT X 8 13 (fWk X m) = -1 := O.2.2.2.2.2.2.2.2.2.2.2.2.2.2.2.1 ne4 ne5
  have hsep : ∀ l : Nat, l < sn X 6 → sT X 6 3 l ≠ (fOL X (fWk X m) : Nat) := fun l hl w => by
    have h5 := O.2.2.2.2.2.1
    have e5 : sT X 8 5 (fWk X m) = (fOL X (fWk X m) : Nat) := (Int.toNat_of_nonneg h5.1).symm
    rcases hI.sp.2.2.1 l _ hl w2 (by omega) with q | q
    · exact ne4 q
    · exact ne5 q
  have eOL : fOL (fEnd3 X m) (fWk X m) = fOL X (fWk X m) := congrArg Int.toNat h85
  have p1 : 0 ≤ sT X 8 1 (fWk X m) := w4.1.1
  obtain ⟨C1, C2⟩ := goC (X := fEnd3 X m) (o := fWk X m) (z := z) ⟨3, by decide, by decide, hst⟩ ho hmd (by rw [h813]; exact h13) (fun l hl => by
    rw [fE3_n] at hl
    rw [(fE3_c (by decide)).2.1, eOL]
    exact hsep l hl) (by rw [h85]; exact O.2.2.2.2.2.1.1) (by rw [h81]; exact p1) (fun w => by
    rw [hst] at w
    exact absurd (hz 3 1 (by decide) (by decide) (by omega)) (by decide))
  have s3 : strEq X (fEnd3 X m) := ⟨fun c hc => fE3_c (by omega), fE3_n, fun j i hj => (fE3_c (by decide)).2.1 j i, fE3_n, fun j i hj => (fE3_c (by decide)).2.1 j i, fE3_n, fun j i hj => fE3_8 (by omega), (fE3_c (by decide)).2.1 5 0⟩
  have j3 : jbS z X (fEnd3 X m) := ⟨fE3_n, fun i => fE3_8 (by omega), fun i => fE3_8 (by omega), fun i => Or.inl (fE3_8 (by omega))⟩
  have m3 : mfr X (fEnd3 X m) := ⟨fun c _ => fE3_n, fun c j i hc _ => (fE3_c (by constructor <;> rintro rfl <;> exact absurd hc (by decide))).2.1 j i, fun c i _ => fE3_E, Nat.le_of_eq fE3_n.symm, fun i _ => fE3_E⟩
  have f3 : ffr Y (mEnd3 Y m) := ⟨fun c _ => mE3_n, fun c j i hc => (mE3_c (by constructor <;> rintro rfl <;> exact absurd hc (by decide))).2.1 j i, fun c i _ => mE3_E⟩
  refine ⟨⟨g1, g2, g3, g4, m3.trans g5, f3.trans g6, fun c => ?_, fun c => ?_, ?_, ?_, ?_, (shpC.of s3 ⟨fun i => fE3_8 (by omega), fun i => Or.inl (fE3_8 (by omega))⟩).trans j3 C1, j3.trans hz C2, ?_⟩, ?_, ?_, by omega⟩
  · have := g7 c
    rw [fE3_n] at this
    exact this
  · have := g8 c
    rw [mE3_n] at this
    exact this
  · rw [g9 7 0 (by decide), g9 8 0 (by decide), (fE3_c (by decide)).2.1, (fE3_c (by decide)).2.1]
    omega
  · rw [g10, (mE3_c (by decide)).2.1]
  · rw [(g11 1 (by decide)).1, fE3_n]
  · have e9 : ∀ q : Nat, sT (fGoOn z (fEnd3 X m) (fWk X m)) 8 9 q = sT (fEnd3 X m) 8 9 q := fun q => g12 9 q (by omega)
    rw [isum_cg (fun q _ => e9 q)]
    exact isum_up (j := fWk X m) fE3_89 (fun q hq => fE3_8 (by omega)) w2
  · have hFx := hI2.fix
    have hPt := hI2.Part
    have hMc := hI2.Mach (Y := mEnd3 Y m) R3.Q
    have hOps := hI2.Ops
    have hOr := hI2.hO
    have O2 := (hI2.or (fWk X m) (by show fWk X m < sn (fEnd3 X m) 8; exact ho)).2.2.2.2.2.2.2.2.2.1
    have O2' : 0 ≤ sT (fEnd3 X m) 8 9 (fWk X m) ∧ sT (fEnd3 X m) 8 9 (fWk X m) ≤ 3 := O2
    have h8b := w4.2.2
    refine ⟨hFx, hPt, hMc, hOps, hOr, by rw [h81]; exact p1, hmd, by rw [h85]; exact O.2.2.2.2.2.1.1, by rw [h88]; exact ⟨by omega, by omega⟩, ⟨O2'.1, by omega⟩, fun q hq h => ?_⟩
    rw [fE3_n, hI.mc.1] at hq
    rw [fE3_E] at h
    have h2 := (hI.qw.1 q hq _ h).2.2.1
    rw [Int.toNat_natCast, w3] at h2
    exact absurd (hz 3 2 (by decide) (by decide) (by omega)) (by decide)
  · have o15 : fWk X m < sn Y 15 := by rw [hR.O.1]; exact w2
    have hmp := hR.mPart hI hS
    have hmo := hR.mOps hI hS
    have hmr := hR.mOrd hS
    have hmq := hR.mOq hI _ o15
    have h8b := w4.2.2
    have h9b := w4.2.1
    refine ⟨S3.1, ?_, ?_, ?_, R3.mMach, (S3.2.2.2.1 _ (by rw [mE3_n]; exact o15)).2.1, ?_, ?_, ?_, fun _ _ => ?_⟩
    · unfold mPart at hmp ⊢
      simp only [mE3_n, mE3_E, (g 13 (by decide)).2.1]
      exact hmp
    · unfold mOps mCp at hmo ⊢
      simp only [mE3_n, mE3_E, (g 13 (by decide)).2.1]
      exact hmo
    · intro q hq
      rw [mE3_n] at hq
      rw [mE3_15 (by omega), mE3_15 (by omega)]
      exact hmr q hq
    · rw [mE3_15 (by omega), mE3_n]
      exact hmq.2.2
    · rw [mE3_15 (by omega), (hR.O.2 _ w2).2.1.2.1]
      exact ⟨by omega, by omega⟩
    · rw [← ew, mE3_159, ew, (hR.O.2 _ w2).2.1.2.2.1]
      omega
    · rw [mE3_n, mE3_E, hR.L.1]
      have := (hR.len hI o15).2.2
      exact ⟨hI.room w2 ne4 ne5, by omega⟩
end ZCA4
