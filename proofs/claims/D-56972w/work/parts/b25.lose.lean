/-! THE SIMULATION: promises are lost; hold -/
set_option maxRecDepth 100000
theorem any_imp {α : Type} {p q : α → Bool} : ∀ {L : List α}, (∀ x ∈ L, p x = true → q x = true) → L.any p = true → L.any q = true
  | [], _, h => h
  | a :: t, h, h2 => by
    rw [List.any_cons, Bool.or_eq_true] at h2 ⊢
    rcases h2 with h2 | h2
    · exact Or.inl (h a List.mem_cons_self h2)
    · exact Or.inr (any_imp (fun x hx => h x (List.mem_cons_of_mem _ hx)) h2)
theorem tHeld_mono {h h' : Nat → Bool} {ch : Nat → List Nat} (hh : ∀ i : Nat, h' i = true → h i = true) : ∀ n i : Nat, tHeld h' ch n i = true → tHeld h ch n i = true := by
  intro n
  induction n with
  | zero => intro i e; exact e
  | succ n ih =>
    intro i e
    unfold tHeld at e ⊢
    rw [Bool.or_eq_true] at e ⊢
    rcases e with e | e
    · exact Or.inl (hh i e)
    · exact Or.inr (any_imp (fun x _ w => ih x w) e)
section ZBG
variable {z : Nat → Nat} {k : Nat} {X Y : hS} {o : Nat}
theorem iNo.chlt (hI : iNo z k X) : ∀ i : Nat, i < sn X 6 → ∀ y ∈ fch X i, y < sn X 6 := by
  intro i hi y hy
  obtain ⟨t, ht, rfl⟩ := List.mem_map.mp hy
  have := (hI.2.2.2.1 i hi).2.2.2.2.2 t ht
  omega
theorem rR.lst (hR : rR z X Y) (ho : o < sn X 8) : sE Y 38 o = (sE X 26 (fOL X o)).map (fun t => sT X 7 0 t.toNat) := by
  have h := (hR.O.2 o ho).2.2.1
  have e := congrArg (fun L => L.map Prod.fst) h.1
  have e1 : (mTl Y o).map Prod.fst = sE Y 38 o := by
    unfold mTl mZs
    rw [List.map_map]
    have : (Prod.fst ∘ fun q : Int × Int => (q.1, sT Y 19 0 q.2.toNat)) = Prod.fst := rfl
    rw [this]
    exact List.map_fst_zip (by rw [h.2]; exact Nat.le_refl _)
  have e2 : (fTl X o).map Prod.fst = (sE X 26 (fOL X o)).map (fun t => sT X 7 0 t.toNat) := by
    unfold fTl
    rw [List.map_map]
    rfl
  rw [← e1, ← e2]
  exact e
theorem iNo.lot (hI : iNo z k X) (ho : o < sn X 8) : ∀ t ∈ sE X 26 (fOL X o), 0 ≤ sT X 7 0 t.toNat ∧ sT X 7 0 t.toNat < sn X 6 := by
  intro t ht
  have h5 := (hI.2.2.2.2.2.1 o ho).2.2.2.2.2.1
  have := hI.2.2.2.2.1.1 (fOL X o) (by unfold fOL; omega) t ht
  exact (hI.2.2.2.2.1.2.2 t.toNat (by omega)).1
theorem rR.heldN (hR : rR z X Y) (hI : iNo z k X) (n : Nat) {i : Nat} (hi : i < sn X 6) : tHeld (mh Y) (mch Y) n i = tHeld (fh X) (fch X) n i := tHeld_cg hR.eh hR.ec hI.chlt n i hi
theorem rR.nodesN (hR : rR z X Y) (hI : iNo z k X) (n : Nat) {i : Nat} (hi : i < sn X 6) : tN (mch Y) n i = tN (fch X) n i := tN_cg hR.ec hI.chlt n i hi
theorem rR.pr (hz : zInj z) (hR : rR z X Y) (ho : o < sn X 8) : mPr Y o = fPr z X o := by
  unfold mPr fPr
  exact decide_eq_decide.mpr (hR.stIff hz ho (s := 1) (by decide))
theorem rR.loses (hz : zInj z) (hR : rR z X Y) (hI : iNo z k X) (ho : o < sn X 8) : mLoses Y o = fLoses z X o ∧ mLoseC Y o = fLoseC z X o := by
  constructor
  · unfold mLoses mAnyQ fLoses
    rw [List.take_length, hR.pr hz ho, hR.lst ho, List.any_map]
    unfold fPr
    congr 1
    exact any_cg (fun t ht => hR.heldN hI 100 (i := (sT X 7 0 t.toNat).toNat) (by have := hI.lot ho t ht; omega))
  · unfold mLoseC mSumQ fLoseC
    rw [List.take_length, hR.pr hz ho, hR.lst ho, List.map_map]
    have e : (sE X 26 (fOL X o)).map ((fun t : Int => tN (mch Y) 100 t.toNat) ∘ fun t : Int => sT X 7 0 t.toNat) = (sE X 26 (fOL X o)).map (fun t => tN (fch X) 100 (sT X 7 0 t.toNat).toNat) := List.map_congr_left (fun t ht => hR.nodesN hI 100 (i := (sT X 7 0 t.toNat).toNat) (by have := hI.lot ho t ht; omega))
    rw [e]
    unfold fPr
    by_cases h : sT X 8 7 o = (z 1 : Nat)
    · rw [if_pos (decide_eq_true h), if_pos h]
    · rw [if_neg (by rw [decide_eq_false h]; decide), if_neg h]
/-- a promised order has nothing of a held lot -/
def fOk1 (z : Nat → Nat) (X : hS) (q : Nat) : Prop := fPr z X q = true → ∀ t ∈ sE X 26 (fOL X q), tHeld (fh X) (fch X) 100 (fLotOf X t) = false
theorem fLoses_not (h : fLoses z X o = false) : fOk1 z X o := by
  intro hp t ht
  unfold fLoses at h
  unfold fPr at hp
  rw [hp, Bool.true_and] at h
  exact Bool.eq_false_iff.mpr (fun w => by
    have := List.any_eq_true (p := fun t : Int => tHeld (fh X) (fch X) 100 (sT X 7 0 t.toNat).toNat).mpr ⟨t, ht, w⟩
    rw [h] at this
    cases this)
theorem fLoses_ok (h : fOk1 z X o) : fLoses z X o = false := by
  cases e : fLoses z X o with
  | false => rfl
  | true =>
    unfold fLoses at e
    rw [Bool.and_eq_true] at e
    obtain ⟨t, ht, w⟩ := List.any_eq_true.mp e.2
    have := h e.1 t ht
    unfold fLotOf at this
    rw [this] at w
    cases w
theorem fOk1_fr (hz : zInj z) (hI : iNo z k X) (ho : o < sn X 8) (hst : sT X 8 7 o = (z 1 : Nat)) {q : Nat} (hq : q < sn X 8) (hne : q ≠ o) (h : fOk1 z X q) : fOk1 z (fFr z X o) q := by
  have z14 : z 1 ≠ z 4 := fun e => absurd (hz 1 4 (by decide) (by decide) e) (by decide)
  have z15 : z 1 ≠ z 5 := fun e => absurd (hz 1 5 (by decide) (by decide) e) (by decide)
  obtain ⟨i1, i2, i3, i4, i5, i6, i7, i8, i9, i10, i12, i13, i14⟩ := hI
  have o5 := (i6 o ho).2.2.2.2.2.1
  have hsep : ∀ i : Nat, i < sn X 6 → (sT X 6 3 i).toNat ≠ fOL X o := by
    intro i hi e
    have h3 := (i4 i hi).2.2.2.1
    unfold fOL at e
    rcases i7.2.2.1 i o hi ho (by omega) with q | q <;> omega
  have hse2 : fOL X q ≠ fOL X o := by
    intro e
    have h5 := (i6 q hq).2.2.2.2.2.1
    unfold fOL at e
    exact hne (i7.1 q o hq ho (by omega))
  have eOL : fOL (fFr z X o) q = fOL X q := by unfold fOL; rw [fFr_sT (by omega) (by omega)]
  have e7 : ∀ t : Int, fLotOf (fFr z X o) t = fLotOf X t := fun t => by unfold fLotOf; rw [fFr_sT (by omega) (by omega)]
  have eh : fh (fFr z X o) = fh X := by funext i; unfold fh; rw [fFr_sT (by omega) (by omega)]
  have ec : ∀ i : Nat, i < sn X 6 → fch (fFr z X o) i = fch X i := fun i hi => fch_congr (fFr_sT (by omega) (by omega)) (by rw [fFr_sE, if_neg (fun w => hsep i hi w.2)]) (fun t _ => fFr_sT (by omega) (by omega))
  have hlt : ∀ i : Nat, i < sn X 6 → ∀ y ∈ fch X i, y < sn X 6 := by
    intro i hi y hy
    obtain ⟨t, ht, rfl⟩ := List.mem_map.mp hy
    have := (i4 i hi).2.2.2.2.2 t ht
    omega
  intro hp t ht
  rw [eOL, fFr_sE, if_neg (fun w => hse2 w.2)] at ht
  have hp2 : fPr z X q = true := by
    unfold fPr at hp ⊢
    rw [fFr_sT (by omega) (by omega)] at hp
    exact hp
  rw [e7, eh]
  have h5 := (i6 q hq).2.2.2.2.2.1
  have ht5 := i5.1 (fOL X q) (by unfold fOL; omega) t ht
  have hl := (i5.2.2 t.toNat (by omega)).1
  rw [tHeld_cg (h := fh X) (N := sn X 6) (fun _ _ => rfl) ec hlt 100 _ (by unfold fLotOf; omega)]
  exact h hp2 t ht
theorem mLoseN_succ' {n : Nat} : mLoseN Y (n + 1) = mLoseStep (mLoseN Y n) n := by
  unfold mLoseN
  rw [List.range_succ, List.foldl_append]
  rfl
theorem fLoseN_succ' {n : Nat} : fLoseN z X (n + 1) = fLoseStep z (fLoseN z X n) n := by
  unfold fLoseN
  rw [List.range_succ, List.foldl_append]
  rfl
def loseP (z : Nat → Nat) (k : Nat) (X Y : hS) (n : Nat) : Prop := (rR z (fLoseN z X n).1 (mLoseN Y n).1) ∧ (iNo z k (fLoseN z X n).1) ∧ (mShape (mLoseN Y n).1) ∧ (mBox (mLoseN Y n).1) ∧ ((mLoseN Y n).2.1 = (fLoseN z X n).2.1) ∧ ((fLoseN z X n).2.1 ≤ n) ∧ (∀ c : Nat, sn (fLoseN z X n).1 c = sn X c) ∧ (∀ c : Nat, sn (mLoseN Y n).1 c = sn Y c) ∧ (∀ q : Nat, q < n → fOk1 z (fLoseN z X n).1 q) ∧ ((mLoseN Y n).2.2 ≤ (fLoseN z X n).2.2) ∧ (mfr X (fLoseN z X n).1) ∧ (ffr Y (mLoseN Y n).1) ∧ (sT (mLoseN Y n).1 11 0 0 = sT Y 11 0 0)
theorem loseP.r {n : Nat} (h : loseP z k X Y n) : rR z (fLoseN z X n).1 (mLoseN Y n).1 := h.1
theorem loseP.i {n : Nat} (h : loseP z k X Y n) : iNo z k (fLoseN z X n).1 := h.2.1
theorem loseP.s {n : Nat} (h : loseP z k X Y n) : mShape (mLoseN Y n).1 := h.2.2.1
theorem loseP.b {n : Nat} (h : loseP z k X Y n) : mBox (mLoseN Y n).1 := h.2.2.2.1
theorem loseP.c {n : Nat} (h : loseP z k X Y n) : (mLoseN Y n).2.1 = (fLoseN z X n).2.1 := h.2.2.2.2.1
theorem loseP.le {n : Nat} (h : loseP z k X Y n) : (fLoseN z X n).2.1 ≤ n := h.2.2.2.2.2.1
theorem loseP.n8 {n : Nat} (h : loseP z k X Y n) : ∀ c : Nat, sn (fLoseN z X n).1 c = sn X c := h.2.2.2.2.2.2.1
theorem loseP.m8 {n : Nat} (h : loseP z k X Y n) : ∀ c : Nat, sn (mLoseN Y n).1 c = sn Y c := h.2.2.2.2.2.2.2.1
theorem loseP.ok {n : Nat} (h : loseP z k X Y n) : ∀ q : Nat, q < n → fOk1 z (fLoseN z X n).1 q := h.2.2.2.2.2.2.2.2.1
theorem loseP.cost {n : Nat} (h : loseP z k X Y n) : (mLoseN Y n).2.2 ≤ (fLoseN z X n).2.2 := h.2.2.2.2.2.2.2.2.2.1
theorem loseP.mf {n : Nat} (h : loseP z k X Y n) : mfr X (fLoseN z X n).1 := h.2.2.2.2.2.2.2.2.2.2.1
theorem loseP.ff {n : Nat} (h : loseP z k X Y n) : ffr Y (mLoseN Y n).1 := h.2.2.2.2.2.2.2.2.2.2.2.1
theorem loseP.t0 {n : Nat} (h : loseP z k X Y n) : sT (mLoseN Y n).1 11 0 0 = sT Y 11 0 0 := h.2.2.2.2.2.2.2.2.2.2.2.2
theorem pairLose (hz : zInj z) (hR : rR z X Y) (hI : iNo z k X) (hS : mShape Y) (hB : mBox Y) : ∀ n : Nat, n ≤ sn X 8 → loseP z k X Y n := by
  intro n
  induction n with
  | zero =>
    intro _
    exact ⟨hR, hI, hS, hB, rfl, Nat.le_refl _, fun _ => rfl, fun _ => rfl, fun q hq => by omega, Nat.le_refl _, mfr.refl, ffr.refl, rfl⟩
  | succ n ih =>
    intro hn
    have P := ih (by omega)
    have h8 : n < sn (fLoseN z X n).1 8 := by rw [P.n8]; omega
    obtain ⟨l1, l2⟩ := P.r.loses hz P.i h8
    have sF : fLoseN z X (n + 1) = fLoseStep z (fLoseN z X n) n := fLoseN_succ'
    have sM : mLoseN Y (n + 1) = mLoseStep (mLoseN Y n) n := mLoseN_succ'
    unfold fLoseStep at sF
    unfold mLoseStep at sM
    rw [l1] at sM
    cases e : fLoses z (fLoseN z X n).1 n with
    | false =>
      rw [e, if_neg (by decide)] at sF sM
      refine ⟨?_, ?_, ?_, ?_, ?_, ?_, ?_, ?_, ?_, ?_, ?_, ?_, ?_⟩
      · rw [sF, sM]; exact P.r
      · rw [sF]; exact P.i
      · rw [sM]; exact P.s
      · rw [sM]; exact P.b
      · rw [sF, sM]; exact P.c
      · rw [sF]; exact Nat.le_succ_of_le P.le
      · rw [sF]; exact P.n8
      · rw [sM]; exact P.m8
      · rw [sF]
        intro q hq
        by_cases e2 : q = n
        · rw [e2]; exact fLoses_not e
        · exact P.ok q (by omega)
      · rw [sF, sM]
        show (mLoseN Y n).2.2 + mLoseC (mLoseN Y n).1 n ≤ (fLoseN z X n).2.2 + fLoseC z (fLoseN z X n).1 n
        rw [l2]
        exact Nat.add_le_add_right P.cost _
      · rw [sF]; exact P.mf
      · rw [sM]; exact P.ff
      · rw [sM]; exact P.t0
    | true =>
      rw [e, if_pos rfl] at sF sM
      have hst : sT (fLoseN z X n).1 8 7 n = (z 1 : Nat) := by
        unfold fLoses at e
        rw [Bool.and_eq_true] at e
        exact of_decide_eq_true e.1
      obtain ⟨q1, q2, q3, q4⟩ := pairFr hz P.r P.i P.s P.b h8 hst
      refine ⟨?_, ?_, ?_, ?_, ?_, ?_, ?_, ?_, ?_, ?_, ?_, ?_, ?_⟩
      · rw [sF, sM]; exact q1
      · rw [sF]; exact q2
      · rw [sM]; exact q3
      · rw [sM]; exact q4
      · rw [sF, sM]
        show (mLoseN Y n).2.1 + 1 = (fLoseN z X n).2.1 + 1
        rw [P.c]
      · rw [sF]; exact Nat.succ_le_succ P.le
      · rw [sF]; intro c; exact fFr_sn.trans (P.n8 c)
      · rw [sM]; intro c; exact mF_sn.trans (P.m8 c)
      · rw [sF]
        intro q hq
        by_cases e2 : q = n
        · rw [e2]
          intro hp
          unfold fPr at hp
          have := of_decide_eq_true hp
          rw [fFr_87] at this
          exact absurd (hz 0 1 (by decide) (by decide) (by omega)) (by decide)
        · exact fOk1_fr hz P.i h8 hst (by rw [P.n8]; omega) e2 (P.ok q (by omega))
      · rw [sF, sM]
        show (mLoseN Y n).2.2 + mLoseC (mLoseN Y n).1 n ≤ (fLoseN z X n).2.2 + fLoseC z (fLoseN z X n).1 n + 1
        rw [l2]
        have := P.cost
        omega
      · rw [sF]; exact P.mf.trans fFr_mfr
      · rw [sM]; exact P.ff.trans mFr_ffr
      · rw [sM]
        show sT (mFree (mLoseN Y n).1 n) 11 0 0 = _
        rw [mF_sT (by omega) (by omega)]; exact P.t0
theorem loseP.hd (P : loseP z k X Y (sn X 8)) : iHd z (fLoseN z X (sn X 8)).1 := by
  intro q hq hb
  rw [P.n8] at hq
  exact P.ok q hq hb
/-- nothing to lose -/
theorem fLoseN_quiet (hd : iHd z X) : ∀ n : Nat, n ≤ sn X 8 → (fLoseN z X n).1 = X ∧ (fLoseN z X n).2.1 = 0 := by
  intro n
  induction n with
  | zero => intro _; exact ⟨rfl, rfl⟩
  | succ n ih =>
    intro hn
    obtain ⟨h1, h2⟩ := ih (by omega)
    have e : fLoses z (fLoseN z X n).1 n = false := by
      rw [h1]
      exact fLoses_ok (fun hp t ht => hd n (by omega) hp t ht)
    rw [fLoseN_succ']
    unfold fLoseStep
    rw [e, if_neg (by decide)]
    exact ⟨h1, h2⟩
/-- a lot is held or let go -/
abbrev fHl (X : hS) (i : Nat) (on : Bool) : hS := sset X 6 7 i (bi on)
abbrev mHl (Y : hS) (i : Nat) (on : Bool) : hS := sset Y 14 5 i (bi on)
theorem fHl_T {i : Nat} {on : Bool} {c j q : Nat} (h : ¬ (c = 6 ∧ j = 7)) : sT (fHl X i on) c j q = sT X c j q := by
  rw [sT_set, if_neg (fun w => h ⟨w.1, w.2.1⟩)]
theorem fHl_67 {i : Nat} {on : Bool} {q : Nat} : sT (fHl X i on) 6 7 q = if q = i then bi on else sT X 6 7 q := by
  rw [sT_set]
  by_cases h : q = i
  · rw [if_pos ⟨rfl, rfl, h⟩, if_pos h]
  · rw [if_neg (fun w => h w.2.2), if_neg h]
theorem mHl_T {i : Nat} {on : Bool} {c j q : Nat} (h : ¬ (c = 14 ∧ j = 5)) : sT (mHl Y i on) c j q = sT Y c j q := by
  rw [sT_set, if_neg (fun w => h ⟨w.1, w.2.1⟩)]
theorem mHl_145 {i : Nat} {on : Bool} {q : Nat} : sT (mHl Y i on) 14 5 q = if q = i then bi on else sT Y 14 5 q := by
  rw [sT_set]
  by_cases h : q = i
  · rw [if_pos ⟨rfl, rfl, h⟩, if_pos h]
  · rw [if_neg (fun w => h w.2.2), if_neg h]
theorem fHl_fch {i : Nat} {on : Bool} : fch (fHl X i on) = fch X := by
  funext l
  unfold fch
  rw [fHl_T (by omega)]
  exact List.map_congr_left (fun t _ => by rw [fHl_T (by omega)])
theorem pairHl {i : Nat} {on : Bool} (hR : rR z X Y) (hI : iNo z k X) (hS : mShape Y) (hB : mBox Y) :
    rR z (fHl X i on) (mHl Y i on) ∧ iNo z k (fHl X i on) ∧ mShape (mHl Y i on) ∧ mBox (mHl Y i on) := by
  have u : ∀ d : Nat, d ≠ 6 → ceq X (fHl X i on) d := fun d h => ceq.refl.set h
  have g : ∀ d : Nat, d ≠ 14 → ceq Y (mHl Y i on) d := fun d h => ceq.refl.set h
  have t6 : ∀ j q : Nat, j ≠ 7 → sT (fHl X i on) 6 j q = sT X 6 j q := fun j q h => fHl_T (by omega)
  have m6 : ∀ j q : Nat, j ≠ 5 → sT (mHl Y i on) 14 j q = sT Y 14 j q := fun j q h => mHl_T (by omega)
  refine ⟨⟨?_, ?_, ?_, ?_, ?_, ?_, ?_⟩, ?_, ?_, hB⟩
  · exact hR.G
  · exact hR.M
  · exact rP_congr (fun c k i hc => (u c (by omega)).2.1 k i) (fun c i hc => (u c (by omega)).2.2 i) (fun k i => (g 13 (by decide)).2.1 k i) (fun c i hc => (g c (by omega)).2.2 i) (g 13 (by decide)).1 hR.P
  · refine ⟨hR.L.1, fun l hl => ?_⟩
    obtain ⟨⟨p, g1, g2, g3⟩, g4, g5, g6, g7, g8⟩ := hR.L.2 l hl
    rw [m6 1 l (by decide), m6 2 l (by decide), m6 3 l (by decide), m6 4 l (by decide), mHl_145, t6 1 l (by decide), t6 4 l (by decide), t6 5 l (by decide), t6 6 l (by decide), fHl_67, fHl_fch]
    refine ⟨⟨p, g1, g2, g3⟩, g4, g5, g6, ?_, ?_⟩
    · rw [g7]
    · rw [← g8]
      unfold mch
      rw [m6 6 l (by decide)]; rfl
  · exact hR.O.gr (pgr.same rfl) (u 7 (by decide)) (u 8 (by decide)) (u 26 (by decide)) (u 27 (by decide)) (g 15 (by decide)) (g 19 (by decide)) (g 38 (by decide)) (g 39 (by decide)) (g 40 (by decide))
  · exact hR.Q
  · exact rS_congr (fun x _ => ⟨rfl, (u 9 (by decide)).2.1 0 x⟩) (fun d i hd => rfl) rfl hR.S
  · obtain ⟨i1, i2, i3, i4, i5, i6, i7, i8, i9, i10, i12, i13, i14⟩ := hI
    refine ⟨i1, i2.cg (u 2 (by decide)) (u 3 (by decide)) (u 4 (by decide)) (u 5 (by decide)) (u 21 (by decide)) (u 24 (by decide)) (u 25 (by decide)) (Nat.le_refl _), i3.cg (u 0 (by decide)) (u 1 (by decide)) (u 45 (by decide)).1, ?_, i5.cg rfl (u 7 (by decide)) (u 26 (by decide)) (u 27 (by decide)), ?_, ?_, i8.cg (u 1 (by decide)) (u 2 (by decide)) (u 8 (by decide)) (u 25 (by decide)) (u 45 (by decide)), ?_, ?_, i12.cg (u 8 (by decide)) (u 26 (by decide)) (u 27 (by decide)), i13.cg (u 0 (by decide)) rfl (u 8 (by decide)) (u 28 (by decide)), i14.cg (u 9 (by decide)) (u 28 (by decide)) (u 48 (by decide))⟩
    · intro l hl
      obtain ⟨a1, a2, a3, a4, a5, a6⟩ := i4 l hl
      rw [t6 0 l (by decide), t6 1 l (by decide), t6 2 l (by decide), t6 3 l (by decide), fHl_67]
      refine ⟨a1, a2, a3, a4, ?_, a6⟩
      split
      · exact bi01 _
      · exact a5
    · unfold iOr at i6 ⊢
      simp only [t6 1 _ (by decide)]
      exact i6
    · unfold iSp at i7 ⊢
      simp only [t6 3 _ (by decide)]
      exact i7
    · unfold iRes iRb at i9 ⊢
      simp only [t6 5 _ (by decide), t6 4 _ (by decide), t6 2 _ (by decide)]
      exact i9
    · unfold iCo fSumO fSumL at i10 ⊢
      simp only [t6 6 _ (by decide)]
      exact i10
  · obtain ⟨s1, s2, s3, s4, s5⟩ := hS
    refine ⟨s1, s2, fun l hl => ?_, s4, s5⟩
    rw [m6 0 l (by decide), m6 6 l (by decide)]
    exact s3 l hl
theorem iHd_off {i : Nat} (hI : iAll z k X) : iHd z (fHl X i false) := by
  intro q hq hb t ht
  have h := hI.hd q hq hb t ht
  have h1 : fLotOf (fHl X i false) t = fLotOf X t := by unfold fLotOf; rw [fHl_T (by omega)]
  rw [fHl_fch, h1]
  cases e : tHeld (fh (fHl X i false)) (fch X) 100 (fLotOf X t) with
  | false => rfl
  | true =>
    have := tHeld_mono (h := fh X) (fun j hj => by
      unfold fh at hj ⊢
      rw [fHl_67] at hj
      by_cases e2 : j = i
      · rw [if_pos e2] at hj
        exact absurd hj (by decide)
      · rw [if_neg e2] at hj
        exact hj) 100 _ e
    rw [h] at this
    cases this
end ZBG
