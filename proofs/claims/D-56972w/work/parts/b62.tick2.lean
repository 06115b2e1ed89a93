/-! THE SIMULATION: all ticks of a call -/
set_option maxRecDepth 100000
section ZCA6
variable {z : Nat → Nat} {k m o : Nat} {X Y T U : hS}
theorem begJ (hz : zInj z) (hR : rR z X Y) (hI : iAll z k X) (hS : mShape Y) (hB : mBox Y) (hc : sT X 0 7 0 + sT X 0 8 0 + 205000 ≤ k * 1000000000) : ∀ n : Nat, n ≤ sn X 1 → jbS z X (fBeginN z X n) ∧ sT (fBeginN z X n) 0 5 0 = sT X 0 5 0 ∧ sT (fBeginN z X n) 0 6 0 = sT X 0 6 0 ∧ stq z X (fBeginN z X n) := by
  intro n
  induction n with
  | zero => intro _; exact ⟨jbS.refl, rfl, rfl, stq.refl⟩
  | succ n ih =>
    intro hn
    obtain ⟨j1, j2, j3, j4⟩ := ih (by omega)
    obtain ⟨p1, p2, p3, p4, p5, p6, -⟩ := pairBegAll hz hR hI hS hB hc n (by omega)
    rw [fBeginN_succ']
    generalize fBeginN z X n = T at *
    have hn1 : n < sn T 1 := by rw [p6]; omega
    unfold fBAstep
    by_cases hb : (fFree T n && !(sE T 45 n).isEmpty) = true
    · rw [if_pos hb]
      have pk := pickEq p1 p2.mc p2.or p2.fix.2.2.2.2.2.2.2.2.2.2.2.1 hn1
      rw [if_pos hb] at pk
      have hmem : (fHead T n : Int) ∈ sE T 45 n := by
        obtain ⟨b1, b2⟩ := mPick_ok _ _ pk
        exact ((waitB_iff p1 p2.mc hn1 (by rw [← p1.O.1]; exact b1)).mp b2).2
      have h2 := (p2.qw.1 n hn1 _ hmem).2.2.1
      rw [Int.toNat_natCast] at h2
      refine ⟨j1.trans hz ⟨fBegin_sn, fun i => fBegin_sT (by omega) (by omega) (by omega), fun i => fBegin_sT (by omega) (by omega) (by omega), fun i => ?_⟩, (fBegin_sT (by omega) (by omega) (by omega)).trans j2, (fBegin_sT (by omega) (by omega) (by omega)).trans j3, j4.trans ⟨fun i => fBegin_sT (by omega) (by omega) (by omega), fun i => ?_⟩⟩
      · by_cases e : i = fHead T n
        · subst e
          refine Or.inr ⟨⟨2, by decide, by decide, h2⟩, 3, by decide, by decide, ?_⟩
          unfold fBegin
          rw [sT_set, if_neg (by omega), sT_set, if_neg (by omega), sT_set, if_neg (by omega), sT_set, if_neg (by omega), sT_set, if_neg (by omega), sT_set, if_pos ⟨rfl, rfl, rfl⟩]
        · exact Or.inl (fBegin_sT (by omega) (by omega) (by omega))
      · by_cases e : i = fHead T n
        · subst e
          refine Or.inr ⟨⟨2, by decide, by decide, h2⟩, fun w => absurd (hz 2 1 (by decide) (by decide) (by omega)) (by decide), Or.inl ⟨3, by decide, by decide, ?_⟩⟩
          unfold fBegin
          rw [sT_set, if_neg (by omega), sT_set, if_neg (by omega), sT_set, if_neg (by omega), sT_set, if_neg (by omega), sT_set, if_neg (by omega), sT_set, if_pos ⟨rfl, rfl, rfl⟩]
        · exact Or.inl (fBegin_sT (by omega) (by omega) (by omega))
    · rw [if_neg hb]
      exact ⟨j1, j2, j3, j4⟩
theorem pairBegT (hz : zInj z) (hR : rR z X Y) (hI : iAll z k X) (hS : mShape Y) (hB : mBox Y) (hc : sT X 0 7 0 + sT X 0 8 0 + 205000 ≤ k * 1000000000) : tkP z k X Y (fBeginN z X (sn X 1)) (mBegL (sn X 1) Y 0) 205000 0 ∧ sT (fBeginN z X (sn X 1)) 0 6 0 = sT X 0 6 0 := by
  obtain ⟨p1, p2, p3, p4, p5, p6, p7, p8, p9, p10, p11, p12⟩ := pairBegAll hz hR hI hS hB hc (sn X 1) (Nat.le_refl _)
  obtain ⟨j1, j2, j3, j4⟩ := begJ hz hR hI hS hB hc (sn X 1) (Nat.le_refl _)
  have h5 : sn X 1 ≤ 5 := hI.fix.2.2.2.2.2.2.2.2.2.1
  refine ⟨⟨p1, p2, p3, p4, p8, p9, fun c => Nat.le_of_eq (p6 c).symm, fun c => Nat.le_of_eq (p7 c).symm, by omega, p10, p6 1, shpC.of ⟨fun c hc => p11 c (by omega), p6 6, fun j i _ => (p11 6 (by decide)).2.1 j i, p6 7, fun j i _ => (p11 7 (by decide)).2.1 j i, p6 8, fun j i hj => p12 j i (by omega), j2⟩ j4, j1, ?_⟩, j3⟩
  rw [isum_cg (g := fun o => sT X 8 9 o) (fun q _ => p12 9 q (by decide))]
  omega
/-- the time stays within a tick's ends -/
theorem endN_now {p : Nat} : sT (fEndN z X p).1 0 6 0 = sT X 0 6 0 := by
  induction p with
  | zero => rfl
  | succ p ih =>
    rw [fEndN_succ]
    unfold fEndStep
    split
    · rw [← ih]
      generalize (fEndN z X p).1 = T
      show sT (fEnd z T p) 0 6 0 = sT T 0 6 0
      unfold fEnd
      split
      · rfl
      · have e3 : sT (fEnd3 T p) 0 6 0 = sT T 0 6 0 := (fE3_c (by decide)).2.1 6 0
        rw [← e3]
        generalize fEnd3 T p = V
        unfold fGoOn
        split
        · exact fFi_0 (by decide)
        · rfl
    · exact ih
theorem pairTick (hz : zInj z) (hR : rR z X Y) (hI : iAll z k X) (hMS : mShape Y) (hB : mBox Y) (hn : sT X 0 6 0 + 1 ≤ 5000) (hc : sT X 0 7 0 + sT X 0 8 0 + 205000 ≤ k * 1000000000) {c c1 c2 : Nat} :
    tkP z k X Y (fTick z (X, c)).1 (mTick (Y, c1, c2)).1 205000 (((fTick z (X, c)).2 : Int) - c) ∧ c ≤ (fTick z (X, c)).2 ∧ ((mTick (Y, c1, c2)).2.1 + 5 * c ≤ c1 + 6 + 5 * (fTick z (X, c)).2 ∧ (mTick (Y, c1, c2)).2.2 + 1520 * c ≤ c2 + 24 + 1520 * (fTick z (X, c)).2) ∧ sT (fTick z (X, c)).1 0 6 0 = sT X 0 6 0 + 1 ∧ fTickOk z X ∧ mTickOk Y := by
  obtain ⟨n1, n2, n3, n4, n5, n6, n7, n8, n9, n10, n11, n12, n13, n14⟩ := pairNow hR hI hMS hB hn
  have hnow := hI.mc.2.1
  have N := pairEndN hz n1 n2 n3 n4
  have e12 : sn Y 12 = sn X 1 := hR.M.1
  have hfX := hI.fix
  have hfY := hMS.1
  have x1 : sn (sset X 0 6 0 (sT X 0 6 0 + 1)) 1 = sn X 1 := rfl
  have h06 : sT (sset X 0 6 0 (sT X 0 6 0 + 1)) 0 6 0 = sT X 0 6 0 + 1 := by rw [sT_set, if_pos ⟨rfl, rfl, rfl⟩]
  have hEN : ∀ p : Nat, sT (fEndN z (sset X 0 6 0 (sT X 0 6 0 + 1)) p).1 0 6 0 = sT X 0 6 0 + 1 := fun p => endN_now.trans h06
  unfold fTick mTick fTickOk mTickOk
  rw [e12]
  generalize sset X 0 6 0 (sT X 0 6 0 + 1) = X1 at *
  generalize sset Y 11 8 0 (sT Y 11 8 0 + 1) = Y1 at *
  rw [x1] at N
  have T0 := N (sn X 1) (Nat.le_refl _)
  have each : ∀ p : Nat, p < sn X 1 → (fMach (fEndN z X1 p).1 ∧ rg (sT (fEndN z X1 p).1 1 10 p) ∧ rg (sT (fEndN z X1 p).1 0 6 0) ∧ (fDue (fEndN z X1 p).1 p = true → fEndOk (fEndN z X1 p).1 p)) ∧ (mMach (mEndN Y1 p).1 ∧ rg (sT (mEndN Y1 p).1 12 7 p) ∧ rg (sT (mEndN Y1 p).1 11 8 0) ∧ (mDueM (mEndN Y1 p).1 p = true → mEndOk (mEndN Y1 p).1 p)) := by
    intro p hp
    obtain ⟨⟨t1, t2, t3, t4, -, -, -, -, -, -, t11, -⟩, -⟩ := N p (by omega)
    have hp' : p < sn (fEndN z X1 p).1 1 := by rw [t11, x1]; exact hp
    obtain ⟨-, -, -, q1, q2⟩ := pairEnd (c := 0) (c1 := 0) (c2 := 0) hz t1 t2 t3 t4 hp'
    have b := (t2.mc.2.2 p hp').2.2.2.2.2.1
    have e0 := hEN p
    have eG := t1.G.2
    have e7 := (t1.M.2 p hp').2.2.2.2.1
    refine ⟨⟨t2.Mach t1.Q, ⟨by omega, by omega⟩, ⟨by omega, by omega⟩, q1⟩, t1.mMach, ?_, ?_, q2⟩
    · rw [e7]; exact ⟨by omega, by omega⟩
    · rw [eG, e0]; exact ⟨by omega, by omega⟩
  have hE := hEN (sn X 1)
  generalize fEndN z X1 (sn X 1) = F at *
  generalize mEndN Y1 (sn X 1) = G at *
  obtain ⟨A, a⟩ := F
  obtain ⟨B, b1, b2⟩ := G
  obtain ⟨t, c1', c2'⟩ := T0
  have t' := t
  obtain ⟨t1, t2, t3, t4, t5, t6, t7, t8, t9, t10, t11, t12, t13, t14⟩ := t'
  have c1' : b1 ≤ 1 + 5 * a := c1'
  have c2' : b2 ≤ 4 + 1520 * a := c2'
  have t1 : rR z A B := t1
  have t2 : iAll z k A := t2
  have t9 : sT A 0 7 0 + sT A 0 8 0 ≤ sT X1 0 7 0 + sT X1 0 8 0 + 0 := t9
  have t11 : sn A 1 = sn X1 1 := t11
  have hE : sT A 0 6 0 = sT X 0 6 0 + 1 := hE
  have e12' : sn B 12 = sn A 1 := t1.M.1
  have h5 : sn A 1 ≤ 5 := t2.fix.2.2.2.2.2.2.2.2.2.1
  obtain ⟨g, g2⟩ := pairBegT hz t1 t2 t3 t4 (by omega)
  dsimp only
  rw [e12']
  refine ⟨?_, by omega, ⟨by omega, by omega⟩, by rw [g2, hE], ⟨hfX, ⟨by omega, by omega⟩, fun p hp => (each p hp).1, t2.fix, t2.JI t1.Q⟩, ⟨hfY, fun p hp => (each p hp).2, t1.mJI hz t2 t3⟩⟩
  have h := (n1 : _)
  have T := (tkP.trans hz (tkP.trans hz ⟨n1, n2, n3, n4, n5, n6, n7, n8, n9, n10, n11, n12, n13, n14⟩ t) g)
  have e1 : (0 : Int) + 0 + 205000 = 205000 := rfl
  have e2 : (0 : Int) + ((a : Nat) : Int) + 0 = ((c + a : Nat) : Int) - c := by omega
  rw [e1] at T
  rw [← e2]
  exact T
/-- v ticks -/
theorem pairTicks (hz : zInj z) (hR : rR z X Y) (hI : iAll z k X) (hMS : mShape Y) (hB : mBox Y) {v : Nat} (hn : sT X 0 6 0 + v ≤ 5000) (hc : sT X 0 7 0 + sT X 0 8 0 + 205000 * v ≤ k * 1000000000) : ∀ t : Nat, t ≤ v →
    tkP z k X Y (fTicks z X t).1 (mTicks Y t).1 (205000 * t) ((fTicks z X t).2 : Int) ∧ ((mTicks Y t).2.1 ≤ 6 * t + 5 * (fTicks z X t).2 ∧ (mTicks Y t).2.2 ≤ 24 * t + 1520 * (fTicks z X t).2) ∧ sT (fTicks z X t).1 0 6 0 = sT X 0 6 0 + t ∧ (t < v → fTickOk z (fTicks z X t).1 ∧ mTickOk (mTicks Y t).1) := by
  have next : ∀ t : Nat, t < v → ∀ (A : hS) (a : Nat) (B : hS) (b1 b2 : Nat), tkP z k X Y A B (205000 * t) ((a : Nat) : Int) → sT A 0 6 0 = sT X 0 6 0 + t → (tkP z k A B (fTick z (A, a)).1 (mTick (B, b1, b2)).1 205000 (((fTick z (A, a)).2 : Int) - a) ∧ a ≤ (fTick z (A, a)).2 ∧ ((mTick (B, b1, b2)).2.1 + 5 * a ≤ b1 + 6 + 5 * (fTick z (A, a)).2 ∧ (mTick (B, b1, b2)).2.2 + 1520 * a ≤ b2 + 24 + 1520 * (fTick z (A, a)).2) ∧ sT (fTick z (A, a)).1 0 6 0 = sT A 0 6 0 + 1 ∧ fTickOk z A ∧ mTickOk B) := by
    intro t ht A a B b1 b2 h h6
    obtain ⟨t1, t2, t3, t4, -, -, -, -, t9, -⟩ := h
    have : (205000 : Int) * (t : Nat) + 205000 ≤ 205000 * (v : Nat) := by omega
    exact pairTick (c := a) (c1 := b1) (c2 := b2) hz t1 t2 t3 t4 (by omega) (by omega)
  intro t
  induction t with
  | zero =>
    intro _
    have h0 : tkP z k X Y X Y (205000 * ((0 : Nat) : Int)) ((0 : Nat) : Int) := ⟨hR, hI, hMS, hB, mfr.refl, ffr.refl, fun _ => Nat.le_refl _, fun _ => Nat.le_refl _, by omega, rfl, rfl, shpC.refl, jbS.refl, by omega⟩
    exact ⟨h0, ⟨Nat.le_refl _, Nat.le_refl _⟩, by show sT X 0 6 0 = sT X 0 6 0 + ((0 : Nat) : Int); omega, fun hv => (next 0 hv X 0 Y 0 0 h0 (by omega)).2.2.2.2⟩
  | succ t ih =>
    intro ht
    obtain ⟨h1, ⟨h2, h3⟩, h4, -⟩ := ih (by omega)
    have eF : fTicks z X (t + 1) = fTick z (fTicks z X t) := rfl
    have eM : mTicks Y (t + 1) = mTick (mTicks Y t) := rfl
    rw [eF, eM]
    generalize fTicks z X t = F at *
    generalize mTicks Y t = G at *
    obtain ⟨A, a⟩ := F
    obtain ⟨B, b1, b2⟩ := G
    have h1 : tkP z k X Y A B (205000 * t) ((a : Nat) : Int) := h1
    have h2 : b1 ≤ 6 * t + 5 * a := h2
    have h3 : b2 ≤ 24 * t + 1520 * a := h3
    have h4 : sT A 0 6 0 = sT X 0 6 0 + t := h4
    obtain ⟨q1, q2, ⟨q3, q4⟩, q5, -, -⟩ := next t (by omega) A a B b1 b2 h1 h4
    generalize fTick z (A, a) = F2 at *
    generalize mTick (B, b1, b2) = G2 at *
    have H : tkP z k X Y F2.1 G2.1 (205000 * ((t + 1 : Nat) : Int)) ((F2.2 : Nat) : Int) := by
      have h := h1.trans hz q1
      have e1 : (205000 : Int) * (t : Nat) + 205000 = 205000 * ((t + 1 : Nat) : Int) := by omega
      have e2 : ((a : Nat) : Int) + (((F2.2 : Nat) : Int) - a) = (F2.2 : Nat) := by omega
      rw [e1, e2] at h
      exact h
    have h6 : sT F2.1 0 6 0 = sT X 0 6 0 + ((t + 1 : Nat) : Int) := by omega
    exact ⟨H, ⟨by omega, by omega⟩, h6, fun hv => (next (t + 1) hv F2.1 F2.2 G2.1 0 0 H h6).2.2.2.2⟩
end ZCA6
