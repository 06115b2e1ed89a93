/-! THE SIMULATION: all machines begin -/
set_option maxRecDepth 100000
section ZBV6
variable {z : Nat → Nat} {k m : Nat} {X Y : hS}
theorem mBegL_succ : ∀ (q : Nat) (S : hS) (i : Nat), mBegL (q + 1) S i = mBegStep (mBegL q S i) (i + q) := by
  intro q
  induction q with
  | zero => intro S i; rfl
  | succ q ih =>
    intro S i
    have e : mBegL (q + 1 + 1) S i = mBegL (q + 1) (mBegStep S i) (i + 1) := rfl
    have e2 : mBegL (q + 1) S i = mBegL q (mBegStep S i) (i + 1) := rfl
    rw [e, ih, e2, show i + 1 + q = i + (q + 1) by omega]
theorem fBeginN_succ' {n : Nat} : fBeginN z X (n + 1) = fBAstep z (fBeginN z X n) n := by
  unfold fBeginN
  rw [List.range_succ, List.foldl_append]
  rfl
theorem fB_mfr {j : Nat} : mfr X (fBegin z X m j) := by
  unfold fBegin
  exact ((((((((mfr.refl.ssE (by decide)).set (by decide)).set (by decide)).set (by decide)).set (by decide)).set (by decide)).set (by decide)).set (by decide))
theorem mB_ffr {j : Nat} : ffr Y (mBegin Y m j) := by
  unfold mBegin
  exact (((((((ffr.refl.set (by decide)).set (by decide)).set (by decide)).set (by decide)).set (by decide)).set (by decide)).set (by decide))
/-- the pair while the machines begin -/
def begP (z : Nat → Nat) (k : Nat) (X Y X' Y' : hS) (b : Int) : Prop := rR z X' Y' ∧ iAll z k X' ∧ mShape Y' ∧ mBox Y' ∧ (sT X' 0 7 0 + sT X' 0 8 0 ≤ sT X 0 7 0 + sT X 0 8 0 + b) ∧ (∀ c : Nat, sn X' c = sn X c) ∧ (∀ c : Nat, sn Y' c = sn Y c) ∧ mfr X X' ∧ ffr Y Y' ∧ sT Y' 11 0 0 = sT Y 11 0 0 ∧ (∀ c : Nat, c ≠ 0 ∧ c ≠ 1 ∧ c ≠ 8 ∧ c ≠ 45 → ceq X X' c) ∧ ∀ q i : Nat, q ≠ 7 ∧ q ≠ 10 → sT X' 8 q i = sT X 8 q i
theorem pairBegAll (hz : zInj z) (hR : rR z X Y) (hI : iAll z k X) (hS : mShape Y) (hB : mBox Y) (hc : sT X 0 7 0 + sT X 0 8 0 + 205000 ≤ k * 1000000000) : ∀ n : Nat, n ≤ sn X 1 → begP z k X Y (fBeginN z X n) (mBegL n Y 0) (41000 * n) := by
  intro n
  induction n with
  | zero => intro _; exact ⟨hR, hI, hS, hB, by show sT X 0 7 0 + sT X 0 8 0 ≤ sT X 0 7 0 + sT X 0 8 0 + 41000 * ((0 : Nat) : Int); omega, fun _ => rfl, fun _ => rfl, mfr.refl, ffr.refl, rfl, fun _ _ => ceq.refl, fun _ _ _ => rfl⟩
  | succ n ih =>
    intro hn
    obtain ⟨p1, p2, p3, p4, p5, p6, p7, p8, p9, p10, p11, p12⟩ := ih (by omega)
    have h5 : sn X 1 ≤ 5 := hI.fix.2.2.2.2.2.2.2.2.2.1
    rw [fBeginN_succ', mBegL_succ, Nat.zero_add]
    generalize fBeginN z X n = T at *
    generalize mBegL n Y 0 = U at *
    have hn1 : n < sn T 1 := by rw [p6]; omega
    have pk := pickEq p1 p2.mc p2.or p2.fix.2.2.2.2.2.2.2.2.2.2.2.1 hn1
    unfold fBAstep mBegStep
    rw [pk]
    by_cases hb : (fFree T n && !(sE T 45 n).isEmpty) = true
    · rw [if_pos hb, if_pos hb]
      rw [Bool.and_eq_true] at hb
      have hmem : (fHead T n : Int) ∈ sE T 45 n := by
        have hp := pk
        rw [if_pos (by rw [Bool.and_eq_true]; exact hb)] at hp
        obtain ⟨b1, b2⟩ := mPick_ok _ _ hp
        exact ((waitB_iff p1 p2.mc hn1 (by rw [← p1.O.1]; exact b1)).mp b2).2
      obtain ⟨q1, q2, q3, q4, q5⟩ := pairBeg hz p1 p2 p3 p4 hn1 hmem hb.1 (by
        have : (41000 : Int) * (n : Nat) ≤ 41000 * 4 := by omega
        omega)
      refine ⟨q1, q2, q3, q4, ?_, fun c => (fBegin_sn).trans (p6 c), fun c => (mB_n).trans (p7 c), p8.trans fB_mfr, p9.trans mB_ffr, ((mB_ceq (by decide)).2.1 0 0).trans p10, fun c hc => (p11 c hc).trans (fB_ceq hc), fun q i hq => ?_⟩
      · push_cast
        omega
      · rw [fBegin_sT (by omega) (by omega) (by omega)]
        exact p12 q i hq
    · rw [if_neg hb, if_neg hb]
      refine ⟨p1, p2, p3, p4, ?_, p6, p7, p8, p9, p10, p11, p12⟩
      push_cast
      omega
end ZBV6
