/-! THE SIMULATION: release of a promised order, on both sides -/
set_option maxRecDepth 100000
section ZBZ1
variable {z : Nat → Nat} {k o : Nat} {X Y T U : hS}
theorem rR.s88 {v : Int} (hR : rR z X Y) : rR z (sset X 8 8 o v) (sset Y 15 8 o v) := by
  refine ⟨hR.G, hR.M, ?_, ?_, ?_, ?_, ?_⟩
  · exact rP_congr (X' := sset X 8 8 o v) (X := X) (Y' := sset Y 15 8 o v) (Y := Y) (fun c k i hc => by rw [sT_set, if_neg (by omega)]) (fun c i hc => rfl) (fun k i => rfl) (fun c i hc => rfl) rfl hR.P
  · exact hR.L.gr (pgr.same rfl) (ceq.refl.set (by decide)) (ceq.refl.set (by decide)) (ceq.refl.set (by decide)) (ceq.refl.set (by decide)) (ceq.refl.set (by decide))
  · refine ⟨hR.O.1, fun q hq => ?_⟩
    obtain ⟨g1, g2, g3, g4⟩ := hR.O.2 q hq
    have v8 : ∀ j : Nat, j ≠ 8 → sT (sset X 8 8 o v) 8 j q = sT X 8 j q := fun j hj => by rw [sT_set, if_neg (by omega)]
    have m15 : ∀ j : Nat, j ≠ 8 → sT (sset Y 15 8 o v) 15 j q = sT Y 15 j q := fun j hj => by rw [sT_set, if_neg (by omega)]
    refine ⟨rOa_congr (fun j hj => v8 j (by omega)) rfl (fun j hj => m15 j (by omega)) g1, ⟨?_, ?_, ?_, ?_, ?_⟩, ⟨g3.1, g3.2⟩, ?_⟩
    · obtain ⟨s, hs⟩ := g2.1
      exact ⟨s, rOs_congr (fun j hj => v8 j (by omega)) (fun j hj => m15 j (by omega)) hs⟩
    · rw [sT_set, sT_set]
      by_cases e : q = o
      · rw [if_pos ⟨rfl, rfl, e⟩, if_pos ⟨rfl, rfl, e⟩]
      · rw [if_neg (fun w => e w.2.2), if_neg (fun w => e w.2.2)]; exact g2.2.1
    · rw [m15 9 (by decide), v8 9 (by decide)]; exact g2.2.2.1
    · rw [m15 11 (by decide), v8 10 (by decide)]; exact g2.2.2.2.1
    · rw [m15 12 (by decide), v8 13 (by decide)]; exact g2.2.2.2.2
    · exact rD_congr (congrArg Int.toNat (v8 6 (by decide))) rfl (fun t _ => ⟨rfl, rfl⟩) rfl (m15 15 (by decide)) g4
  · exact rQ_congr (fun m _ => rfl) rfl rfl (fun x _ => ⟨by rw [sT_set, if_neg (by omega)], by rw [sT_set, if_neg (by omega)]⟩) hR.Q
  · exact rS_congr (fun x _ => ⟨rfl, rfl⟩) (fun c i hc => rfl) rfl hR.S
theorem iAll.cost_le (hI : iAll z k X) {l : Nat} (hl : l < sn X 6) : sT X 6 6 l ≤ k * 1000000000 := by
  obtain ⟨a1, a2, a3, a4, a5, a6⟩ := hI.co
  have e4 : fSumO z X (sn X 8) = sT X 0 9 0 + isum (sn X 6) (fun l => sT X 6 6 l) + isum (sn X 8) (fCoO z X) := rfl
  have h1 := isum_ge (n := sn X 6) (j := l) (f := fun l => sT X 6 6 l) (fun q hq => a1 q hq) hl
  have h2 : 0 ≤ isum (sn X 8) (fCoO z X) := by
    have g : ∀ n : Nat, n ≤ sn X 8 → 0 ≤ isum n (fCoO z X) := by
      intro n
      induction n with
      | zero => intro _; exact Int.le_refl _
      | succ n ih =>
        intro hn
        rw [isum_succ]
        have := ih (by omega)
        have h3 : 0 ≤ fCoO z X n := by
          unfold fCoO
          have : 0 ≤ ((sE X 27 (fDelL X n)).map (fun t => sT X 7 2 t.toNat)).sum := by
            have h6 := (hI.or n (by omega)).2.2.2.2.2.2.1
            have hh : ∀ t ∈ sE X 27 (fDelL X n), 0 ≤ sT X 7 2 t.toNat := fun t ht => by
              have := hI.tk.2.1 (fDelL X n) (by unfold fDelL; omega) t ht
              exact a3 t.toNat (by omega)
            generalize sE X 27 (fDelL X n) = L at hh
            induction L with
            | nil => exact Int.le_refl _
            | cons x L ihL =>
              rw [List.map_cons, List.sum_cons]
              have := hh x List.mem_cons_self
              have := ihL (fun t ht => hh t (List.mem_cons_of_mem _ ht))
              omega
          have := a2 n (by omega)
          split <;> omega
        omega
    exact g _ (Nat.le_refl _)
  have h1' : sT X 6 6 l ≤ isum (sn X 6) (fun l => sT X 6 6 l) := h1
  omega
/-- while an order isn't finished there is room for its lot -/
theorem iAll.room (hI : iAll z k X) (ho : o < sn X 8) (h4 : sT X 8 7 o ≠ (z 4 : Nat)) (h5 : sT X 8 7 o ≠ (z 5 : Nat)) : sn X 6 < 100 := by
  have i13 := hI.cn
  have h1 := i13.2.2.2.1
  have h30 := hI.fix.2.2.2.2.2.2.2.2.2.2.2.1
  have e := isum_up (n := sn X 8) (j := o) (d := 1) (f := fun q => if sT X 8 7 q = (z 4 : Nat) ∨ sT X 8 7 q = (z 5 : Nat) then (1 : Int) else 0) (g := fun q => if q = o then 1 else if sT X 8 7 q = (z 4 : Nat) ∨ sT X 8 7 q = (z 5 : Nat) then (1 : Int) else 0) (by
    show (if o = o then (1 : Int) else _) = (if sT X 8 7 o = (z 4 : Nat) ∨ sT X 8 7 o = (z 5 : Nat) then (1 : Int) else 0) + 1
    rw [if_pos rfl, if_neg (by omega)]; rfl) (fun q hq => by
    show (if q = o then (1 : Int) else _) = _
    rw [if_neg hq]) ho
  have h2 := isum_le (n := sn X 8) (f := fun q => if q = o then 1 else if sT X 8 7 q = (z 4 : Nat) ∨ sT X 8 7 q = (z 5 : Nat) then (1 : Int) else 0) (fun i _ => by
    show (if i = o then (1 : Int) else if sT X 8 7 i = (z 4 : Nat) ∨ sT X 8 7 i = (z 5 : Nat) then (1 : Int) else 0) ≤ 1
    split
    · decide
    · split <;> decide)
  have h60 := i13.2.1
  omega
theorem iAll.plfull (hI : iAll z k X) (ho : o < sn X 8) (hst : sT X 8 7 o = (z 1 : Nat)) {l : Nat} (hl : l < sn X 6) : pl (fTl X o) l ≤ sT X 6 4 l := by
  have b1 : fPr z X o = true := decide_eq_true hst
  obtain ⟨a1, a2, -⟩ := hI.res l hl
  have := isum_ge (n := sn X 8) (j := o) (f := fun q => if fPr z X q = true then pl (fTl X q) l else 0) (fun q hq => by
    show 0 ≤ (if fPr z X q = true then pl (fTl X q) l else 0)
    split
    · exact pl_nn (fun x hx => by
        obtain ⟨t, ht, rfl⟩ := List.mem_map.mp hx
        have h5 := (hI.or q hq).2.2.2.2.2.1
        have h := hI.tk.1 (fOL X q) (by unfold fOL; omega) t ht
        have := (hI.tk.2.2 t.toNat (by omega)).2
        show 0 ≤ sT X 7 1 t.toNat
        omega)
    · exact Int.le_refl _) ho
  have e : (if fPr z X o = true then pl (fTl X o) l else 0) = pl (fTl X o) l := if_pos b1
  have this' : (if fPr z X o = true then pl (fTl X o) l else 0) ≤ isum (sn X 8) (fun q => if fPr z X q = true then pl (fTl X q) l else 0) := this
  rw [e] at this'
  omega
theorem relGok (hR : rR z T U) (hI : iAll z k T) (hD : iDj T) (ho : o < sn T 8) (hst : sT T 8 7 o = (z 1 : Nat)) (hk : k ≤ 1000) :
    (∀ (p : Nat) (t : Int), (sE T 26 (fOL T o))[p]? = some t → fGok (fUnres (fRelN T o p) t) t.toNat) ∧ ∀ (p : Nat) (t : Int × Int), (mZs U o)[p]? = some t → mGok (mUnres (mRelN U o p) t) t.1.toNat (sT U 19 0 t.2.toNat) := by
  have o5 := (hI.or o ho).2.2.2.2.2.1
  have tk : ∀ t ∈ sE T 26 (fOL T o), t.toNat < sn T 7 ∧ (0 ≤ sT T 7 0 t.toNat ∧ sT T 7 0 t.toNat < sn T 6) ∧ (1 ≤ sT T 7 1 t.toNat ∧ sT T 7 1 t.toNat ≤ 500) := fun t ht => by
    have h := hI.tk.1 (fOL T o) (by unfold fOL; omega) t ht
    exact ⟨by omega, hI.tk.2.2 t.toNat (by omega)⟩
  have tn : ∀ q ∈ fTl T o, 0 ≤ q.2 := fun q hq => by
    obtain ⟨t, ht, rfl⟩ := List.mem_map.mp hq
    have := (tk t ht).2.2
    show 0 ≤ sT T 7 1 t.toNat
    omega
  have F : ∀ (p : Nat) (t : Int), (sE T 26 (fOL T o))[p]? = some t → (1 ≤ sT T 7 1 t.toNat ∧ sT T 7 1 t.toNat ≤ sT (fRelN T o p) 6 4 (fLotOf T t)) ∧ sT (fRelN T o p) 6 4 (fLotOf T t) ≤ 500 ∧ (0 ≤ sT (fRelN T o p) 6 6 (fLotOf T t) ∧ sT (fRelN T o p) 6 6 (fLotOf T t) ≤ 1000000000000000) := by
    intro p t ht
    have hp : p < (sE T 26 (fOL T o)).length := (List.getElem?_eq_some_iff.mp ht).1
    obtain ⟨-, f5, f4, f6, -⟩ := relN hR hI hD ho hst p (Nat.le_of_lt hp)
    obtain ⟨k1, k2, k3⟩ := tk t (List.mem_of_getElem? ht)
    have hl : fLotOf T t < sn T 6 := by unfold fLotOf; omega
    have e1 := plT_succ (X := T) (o := o) (p := p) (l := fLotOf T t) ht k2.1
    rw [if_pos rfl] at e1
    have e2 := plT_le (X := T) (o := o) (p := p + 1) (l := fLotOf T t) tn
    have e3 := hI.plfull ho hst hl
    have e4 := f4 (fLotOf T t)
    have e6 := f6 (fLotOf T t) hl
    have av := (hI.Av (fLotOf T t) hl).2.2.1
    have nn : 0 ≤ plT T o p (fLotOf T t) := by
      unfold plT
      exact pl_nn (fun q hq => tn q (List.mem_of_mem_take hq))
    have cl := hI.cost_le hl
    have hk' : (k : Int) * 1000000000 ≤ 1000 * 1000000000 := by omega
    refine ⟨⟨k3.1, by omega⟩, by omega, e6.1, by omega⟩
  refine ⟨fun p t ht => ?_, fun p t ht => ?_⟩
  · obtain ⟨g1, g2, g3⟩ := F p t ht
    have el : fLotOf (fUnres (fRelN T o p) t) ((t.toNat : Nat) : Int) = fLotOf T t := by
      rw [rl_lot]
      unfold fLotOf
      rw [fRel_sT (by omega) (by omega) (by omega)]
    have e71 : sT (fUnres (fRelN T o p) t) 7 1 t.toNat = sT T 7 1 t.toNat := by
      unfold fUnres
      rw [sT_set, if_neg (by omega), fRel_sT (by omega) (by omega) (by omega)]
    have e6 : ∀ j l : Nat, j ≠ 5 → sT (fUnres (fRelN T o p) t) 6 j l = sT (fRelN T o p) 6 j l := fun j l hj => by
      unfold fUnres
      rw [sT_set, if_neg (by omega)]
    unfold fGok
    rw [el, e71, e6 4 _ (by decide), e6 6 _ (by decide)]
    exact ⟨g1, g2, g3⟩
  · have hT := (hR.O.2 o ho).2.2.1.1
    have hm : (mTl U o)[p]? = some (t.1, sT U 19 0 t.2.toNat) := by
      unfold mTl
      rw [List.getElem?_map, ht]; rfl
    rw [hT] at hm
    unfold fTl at hm
    rw [List.getElem?_map] at hm
    cases hu : (sE T 26 (fOL T o))[p]? with
    | none => rw [hu] at hm; cases hm
    | some u =>
      rw [hu] at hm
      have hm := Option.some.inj hm
      have m1 : sT T 7 0 u.toNat = t.1 := congrArg Prod.fst hm
      have m2 : sT T 7 1 u.toNat = sT U 19 0 t.2.toNat := congrArg Prod.snd hm
      obtain ⟨g1, g2, g3⟩ := F p u hu
      have hp : p < (sE T 26 (fOL T o)).length := (List.getElem?_eq_some_iff.mp hu).1
      obtain ⟨rr, -⟩ := relN hR hI hD ho hst p (Nat.le_of_lt hp)
      obtain ⟨k1, k2, k3⟩ := tk u (List.mem_of_getElem? hu)
      have el : t.1.toNat = fLotOf T u := by unfold fLotOf; rw [m1]
      have hl : fLotOf T u < sn (fRelN T o p) 6 := by rw [fRel_sn]; unfold fLotOf; omega
      obtain ⟨-, q2, -, q4, -⟩ := rr.L.2 _ hl
      have e14 : ∀ j l : Nat, j ≠ 3 → sT (mUnres (mRelN U o p) t) 14 j l = sT (mRelN U o p) 14 j l := fun j l hj => by
        unfold mUnres
        rw [sT_set, if_neg (by omega)]
      unfold mGok
      rw [e14 2 _ (by decide), e14 4 _ (by decide), el, q2, q4, ← m2]
      exact ⟨g1, g2, g3⟩
/-- the pair when an order is released, up to the machines' begin -/
theorem pairRelP (hz : zInj z) (hR : rR z T U) (hI : iAll z k T) (hD : iDj T) (hS : mShape U) (hB : mBox U) (ho : o < sn T 8) (hst : sT T 8 7 o = (z 1 : Nat)) (hmd : (sT T 8 1 o).toNat % 2 = 0) (hk : k ≤ 1000) :
    goP z k o (fRelQ (fRelU T o) o) (mRelQ (mRelU U o) o) (fGoOn z (fRelQ (fRelU T o) o) o) (mGoOn (mRelQ (mRelU U o) o) o) ∧ fRelOk z T o ∧ mRelOk U o := by
  have hlen : (sE U 38 o).length = (sE T 26 (fOL T o)).length := (hR.len hI (by rw [hR.O.1]; exact ho)).1
  obtain ⟨r1, r2⟩ := relN hR hI hD ho hst _ (Nat.le_refl _)
  have r1' : rR z (fRelU T o) (mRelU U o) := by
    unfold fRelU mRelU
    rw [hlen]; exact r1
  have e88 : sT (fRelU T o) 8 2 o = sT T 8 2 o := fRel_sT (by omega) (by omega) (by omega)
  have e15 : sT (mRelU U o) 15 2 o = sT U 15 2 o := mRel_sT (by omega) (by omega)
  have e2 : sT U 15 2 o = sT T 8 2 o := (hR.O.2 o ho).1.2.1
  have RQ : rR z (fRelQ (fRelU T o) o) (mRelQ (mRelU U o) o) := by
    unfold fRelQ mRelQ
    rw [e88, e15, e2]
    exact r1'.s88
  have hI2 : iAll z k (fRv z T o 2) := relInv hz hI hD ho hst hmd r2
  have mc : ∀ c : Nat, c ≠ 14 ∧ c ≠ 15 → ceq U (mRelQ (mRelU U o) o) c := fun c hc => ⟨mRel_sn, fun j i => by
    unfold mRelQ
    rw [sT_set, if_neg (by omega)]
    exact mRel_sT (by omega) (by omega), fun i => mRel_sE⟩
  have fc : ∀ c : Nat, c ≠ 6 ∧ c ≠ 7 ∧ c ≠ 8 → ceq T (fRelQ (fRelU T o) o) c := fun c hc => ⟨fRel_sn, fun j i => by
    unfold fRelQ
    rw [sT_set, if_neg (by omega)]
    exact fRel_sT (by omega) (by omega) (by omega), fun i => fRel_sE⟩
  have f8 : ∀ j i : Nat, j ≠ 8 ∧ j ≠ 10 → sT (fRelQ (fRelU T o) o) 8 j i = sT T 8 j i := fun j i hj => by
    unfold fRelQ
    rw [sT_set, if_neg (by omega)]
    exact fRel_sT (by omega) (by omega) (by omega)
  have m15 : ∀ j i : Nat, j ≠ 8 ∧ j ≠ 11 → sT (mRelQ (mRelU U o) o) 15 j i = sT U 15 j i := fun j i hj => by
    unfold mRelQ
    rw [sT_set, if_neg (by omega)]
    exact mRel_sT (by omega) (by omega)
  have m14 : ∀ j i : Nat, j ≠ 2 ∧ j ≠ 3 ∧ j ≠ 4 → sT (mRelQ (mRelU U o) o) 14 j i = sT U 14 j i := fun j i hj => by
    unfold mRelQ
    rw [sT_set, if_neg (by omega)]
    exact mRel_sT (by omega) (by omega)
  have n14 : sn (mRelQ (mRelU U o) o) 14 = sn U 14 := mRel_sn
  have n15 : sn (mRelQ (mRelU U o) o) 15 = sn U 15 := mRel_sn
  have n8 : sn (fRelQ (fRelU T o) o) 8 = sn T 8 := fRel_sn
  have SQ : mShape (mRelQ (mRelU U o) o) := by
    obtain ⟨y1, y2, y3, y4, y5⟩ := hS
    refine ⟨?_, ?_, fun l hl => ?_, fun q hq => ?_, ?_⟩
    · unfold mFix at y1 ⊢
      have g11 := mc 11 (by decide)
      rw [g11.1, g11.2.1, g11.2.1, g11.2.1, g11.2.1, g11.2.1, g11.2.1, (mc 30 (by decide)).2.2, (mc 31 (by decide)).2.2, (mc 32 (by decide)).2.2, (mc 33 (by decide)).2.2, (mc 12 (by decide)).1, (mc 13 (by decide)).1, n14, n15]
      exact y1
    · simp only [(mc 13 (by decide)).1, (mc 13 (by decide)).2.1, (mc 36 (by decide)).2.2, (mc 37 (by decide)).2.2, (mc 46 (by decide)).1]
      exact y2
    · rw [n14] at hl
      rw [m14 0 l (by decide), m14 6 l (by decide), (mc 41 (by decide)).2.2]
      exact y3 l hl
    · rw [n15] at hq
      rw [m15 0 q (by decide), m15 6 q (by decide), m15 7 q (by decide), m15 16 q (by decide), m15 10 q (by decide), m15 5 q (by decide), (mc 12 (by decide)).1]
      exact y4 q hq
    · rw [(mc 36 (by decide)).1, (mc 37 (by decide)).1, (mc 38 (by decide)).1, (mc 39 (by decide)).1, (mc 40 (by decide)).1, (mc 41 (by decide)).1, (mc 13 (by decide)).1, n14, n15]
      exact y5
  have BQ : mBox (mRelQ (mRelU U o) o) := hB.cg n15 (mc 19 (by decide)) (mc 39 (by decide))
  have hmd2 : (sT (fRelQ (fRelU T o) o) 8 1 o).toNat % 2 = 0 := by rw [f8 1 o (by decide)]; exact hmd
  have hw : ∀ m : Nat, m < sn (fRelQ (fRelU T o) o) 1 → 0 ≤ sT (fRelQ (fRelU T o) o) 1 7 m → sT (fRelQ (fRelU T o) o) 1 8 m = 0 := fun m hm => by
    rw [(fc 1 (by decide)).1] at hm
    rw [(fc 1 (by decide)).2.1, (fc 1 (by decide)).2.1]
    intro h
    exact ((hI.qw.2.1 m hm).2 h).1
  have G := pairGoOn hz RQ hI2 hw SQ BQ (by rw [n8]; exact ho) ⟨1, by decide, by decide, by rw [f8 7 o (by decide)]; exact hst⟩ hmd2
  obtain ⟨gk1, gk2⟩ := relGok hR hI hD ho hst hk
  have O := hI.or o ho
  have nq : ∀ q : Nat, q < sn T 45 → (o : Int) ∉ sE T 45 q := fun q hq h => by
    rw [hI.mc.1] at hq
    have h2 := ((hR.Q q hq).2 (o : Int)).mp h
    rw [Int.toNat_natCast] at h2
    have h3 := (hR.stIff hz ho (s := 2) (by decide)).mp h2.2.2.1
    exact absurd (hz 1 2 (by decide) (by decide) (by omega)) (by decide)
  have en : ∀ c : Nat, sn (mRelU U o) c = sn U c := fun c => mRel_sn
  have eE : ∀ c i : Nat, sE (mRelU U o) c i = sE U c i := fun c i => mRel_sE
  have e11 : ∀ j i : Nat, sT (mRelU U o) 11 j i = sT U 11 j i := fun j i => mRel_sT (by omega) (by omega)
  have e12 : ∀ j i : Nat, sT (mRelU U o) 12 j i = sT U 12 j i := fun j i => mRel_sT (by omega) (by omega)
  have e13 : ∀ j i : Nat, sT (mRelU U o) 13 j i = sT U 13 j i := fun j i => mRel_sT (by omega) (by omega)
  refine ⟨G, ⟨hI.Tk, O.2.2.2.2.2.1.1, gk1, ?_, G.2.1.fix, G.2.1.JI G.1.Q⟩, ⟨hR.mOrd2 hI hS, gk2, ?_, ?_, ?_, ?_, ?_, ?_, ?_, ?_, ?_, ?_, G.1.mJI hz G.2.1 G.2.2.1⟩⟩
  · have hM := hI.Mach hR.Q
    have hPt := hI.Part
    have hOps := hI.Ops
    have hOr := hI.hO
    have hFx := hI2.fix
    have p1 : 0 ≤ sT T 8 1 o := by
      obtain ⟨p, -, e1⟩ := O.2.1
      rw [e1]; exact Int.natCast_nonneg _
    refine ⟨hFx, ?_, ?_, ?_, ?_, by rw [f8 1 o (by decide)]; exact p1, hmd2, by rw [f8 5 o (by decide)]; exact O.2.2.2.2.2.1.1, ?_, ?_, ?_⟩
    · unfold fPart at hPt ⊢
      simp only [(fc 2 (by decide)).1, (fc 2 (by decide)).2.1, (fc 24 (by decide)).2.2, (fc 25 (by decide)).2.2]
      exact hPt
    · unfold fMach at hM ⊢
      simp only [(fc 1 (by decide)).1, (fc 1 (by decide)).2.1, (fc 45 (by decide)).2.2]
      exact hM
    · unfold fOps at hOps ⊢
      simp only [(fc 1 (by decide)).1, (fc 5 (by decide)).1, (fc 5 (by decide)).2.1]
      exact hOps
    · intro j hj
      rw [n8] at hj
      rw [f8 0 j (by decide), f8 4 j (by decide)]
      exact hOr j hj
    · unfold fRelQ
      rw [sT_set, if_pos ⟨rfl, rfl, rfl⟩, e88]
      have := O.2.2.1
      exact ⟨by omega, by omega⟩
    · rw [f8 9 o (by decide)]
      have := O.2.2.2.2.2.2.2.2.2.1
      omega
    · intro q hq
      rw [(fc 45 (by decide)).1] at hq
      rw [(fc 45 (by decide)).2.2]
      exact nq q hq
  · have y1 := hS.1
    unfold mFix at y1 ⊢
    simp only [en, eE, e11]
    exact y1
  · have h := hR.mPart hI hS
    unfold mPart at h ⊢
    simp only [en, eE, e13]
    exact h
  · have h := hR.mOps hI hS
    unfold mOps mCp at h ⊢
    simp only [en, eE, e13]
    exact h
  · have h := hR.mOrd hS
    intro q hq
    rw [en] at hq
    have e5 : sT (mRelU U o) 15 5 q = sT U 15 5 q := mRel_sT (by omega) (by omega)
    have e10 : sT (mRelU U o) 15 10 q = sT U 15 10 q := mRel_sT (by omega) (by omega)
    rw [e5, e10]
    exact h q hq
  · have h := hR.mMach
    unfold mMach at h ⊢
    simp only [en, e12]
    exact h
  · have e : sT (mRelU U o) 15 6 o = sT U 15 6 o := mRel_sT (by omega) (by omega)
    rw [e]
    exact (hS.2.2.2.1 o (by rw [hR.O.1]; exact ho)).2.1
  · have e : sT (mRelU U o) 15 1 o = sT U 15 1 o := mRel_sT (by omega) (by omega)
    have e2 : sn (mRelU U o) 13 = sn U 13 := mRel_sn
    rw [e, e2]
    exact (hR.mOq hI o (by rw [hR.O.1]; exact ho)).2.2
  · rw [e15]
    have := (hR.mOq hI o (by rw [hR.O.1]; exact ho)).1
    exact ⟨by omega, by omega⟩
  · have e : sT (mRelU U o) 15 9 o = sT U 15 9 o := mRel_sT (by omega) (by omega)
    rw [e, (hR.O.2 o ho).2.1.2.2.1]
    have := O.2.2.2.2.2.2.2.2.2.1
    omega
  · intro _ _
    have e : sn (mRelU U o) 14 = sn U 14 := mRel_sn
    have e38 : sE (mRelU U o) 38 o = sE U 38 o := mRel_sE
    rw [e, e38, hR.L.1]
    have h400 := (hR.len hI (by rw [hR.O.1]; exact ho)).2.2
    exact ⟨hI.room ho (by rw [hst]; intro e; exact absurd (hz 1 4 (by decide) (by decide) (by omega)) (by decide)) (by rw [hst]; intro e; exact absurd (hz 1 5 (by decide) (by decide) (by omega)) (by decide)), by omega⟩
end ZBZ1
