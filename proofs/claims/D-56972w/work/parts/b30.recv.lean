/-! THE SIMULATION: a supplier's row and rule -/
set_option maxRecDepth 100000
theorem count_all {L : List Bool} : L.count false = L.length ↔ L.all (fun b => !b) = true := by
  induction L with
  | nil => exact ⟨fun _ => rfl, fun _ => rfl⟩
  | cons b t ih =>
    have hle := List.count_le_length (a := false) (l := t)
    cases b
    · rw [List.count_cons_self, List.length_cons, List.all_cons]
      show _ ↔ t.all _ = true
      rw [← ih]
      omega
    · rw [List.count_cons_of_ne (by decide), List.length_cons, List.all_cons]
      constructor
      · intro h; omega
      · intro h; exact absurd h (by rw [show (!true) = false from rfl, Bool.false_and]; decide)
theorem gGood_iff {n : Nat} {l : List Bool} : gGood n l = true ↔ n ≤ l.length ∧ mAmong n false l = n := by
  unfold gGood mAmong
  rw [Bool.and_eq_true, decide_eq_true_iff, ← count_all, List.length_drop]
  constructor
  · rintro ⟨h1, h2⟩; exact ⟨h1, by omega⟩
  · rintro ⟨h1, h2⟩; exact ⟨h1, by omega⟩
theorem nextL {r : Nat} (h6 : 6 ≤ r) (h9 : r < 9) (l : List Bool) (is : Bool) : mNextL (rlL r) (l ++ [is]) is = rlL (gNext r (l ++ [is])) := by
  have gg : ∀ n : Nat, (n ≤ (l ++ [is]).length ∧ mAmong n false (l ++ [is]) = n) ↔ gGood n (l ++ [is]) = true := fun n => gGood_iff.symm
  rcases (show r = 6 ∨ r = 7 ∨ r = 8 by omega) with rfl | rfl | rfl
  · show mNextL 110 _ _ = _
    unfold mNextL gNext
    rw [if_pos rfl, if_pos rfl]
    show (if 2 ≤ mAmong 5 true (l ++ [is]) then (116 : Int) else _) = _
    have ec : gCnt (l ++ [is]) = mAmong 5 true (l ++ [is]) := rfl
    rw [ec]
    by_cases h : 2 ≤ mAmong 5 true (l ++ [is])
    · rw [if_pos h, if_pos h]; rfl
    · rw [if_neg h, if_neg h]
      by_cases h2 : gGood 4 (l ++ [is]) = true
      · rw [if_pos ((gg 4).mpr h2), if_pos h2]; rfl
      · rw [if_neg (fun w => h2 ((gg 4).mp w)), if_neg h2]; rfl
  · show mNextL 116 _ _ = _
    unfold mNextL gNext
    rw [if_neg (show ¬ (116 : Int) = 110 by decide), if_pos (show (116 : Int) = 116 from rfl), if_neg (show ¬ (7 : Nat) = 6 by decide), if_pos (show (7 : Nat) = 7 from rfl)]
    by_cases h2 : gGood 3 (l ++ [is]) = true
    · rw [if_pos ((gg 3).mpr h2), if_pos h2]; rfl
    · rw [if_neg (fun w => h2 ((gg 3).mp w)), if_neg h2]; rfl
  · show mNextL 114 _ _ = _
    unfold mNextL gNext
    rw [if_neg (show ¬ (114 : Int) = 110 by decide), if_neg (show ¬ (114 : Int) = 116 by decide), if_neg (show ¬ (8 : Nat) = 6 by decide), if_neg (show ¬ (8 : Nat) = 7 by decide)]
    have e : gGood 1 (l ++ [is]) = !is := by
      unfold gGood
      rw [List.length_append, List.length_singleton, Nat.add_sub_cancel, List.drop_left, List.all_cons, List.all_nil, Bool.and_true, decide_eq_true (by omega), Bool.true_and]
    rw [e]
    cases is <;> rfl
theorem lim_eq {r : Nat} (h6 : 6 ≤ r) (h9 : r < 9) : mLim (rlL r) = rlM r := by
  rcases (show r = 6 ∨ r = 7 ∨ r = 8 by omega) with rfl | rfl | rfl <;> rfl
theorem rlL_inj {r s : Nat} (h6 : 6 ≤ r) (h9 : r < 9) (k6 : 6 ≤ s) (k9 : s < 9) (h : rlL r = rlL s) : r = s := by
  rcases (show r = 6 ∨ r = 7 ∨ r = 8 by omega) with rfl | rfl | rfl <;> rcases (show s = 6 ∨ s = 7 ∨ s = 8 by omega) with rfl | rfl | rfl
  all_goals first | rfl | exact absurd h (by decide)
theorem rNo_zI {z : Nat → Nat} (hz : zInj z) {r : Nat} (h6 : 6 ≤ r) (h9 : r < 9) : rNo z (z r : Nat) = r := by
  unfold rNo
  rcases (show r = 6 ∨ r = 7 ∨ r = 8 by omega) with rfl | rfl | rfl
  · rw [if_pos rfl]
  · rw [if_neg (fun e => by have := hz 7 6 (by decide) (by decide) (by exact_mod_cast e); omega), if_pos rfl]
  · rw [if_neg (fun e => by have := hz 8 6 (by decide) (by decide) (by exact_mod_cast e); omega), if_neg (fun e => by have := hz 8 7 (by decide) (by decide) (by exact_mod_cast e); omega)]
section ZBR1
variable {z : Nat → Nat} {k : Nat} {X Y : hS} {s : Nat} {v : Int}
def mSupS (z : Nat → Nat) (Y : hS) (s : Nat) (is : Bool) : hS :=
  if mNextL (mRl Y s) (bls z (sE Y 35 s) ++ [is]) is = mRl Y s then ssE Y 35 s (sE Y 35 s ++ [(z (if is then 10 else 9) : Int)])
  else ssE (ssA (ssE Y 35 s (sE Y 35 s ++ [(z (if is then 10 else 9) : Int)])) 47 0 ((sE Y 47 0).set s (mNextL (mRl Y s) (bls z (sE Y 35 s) ++ [is]) is))) 35 s []
theorem fRefuse_ceq {x m r : Nat} {c : Nat} (h : c ≠ 9 ∧ c ≠ 28) : ceq X (fRefuse z X x m r v) c := ⟨fRefuse_sn, fun _ _ => fRefuse_sT h.1, fun _ => fRefuse_sE h.2⟩
theorem mSupS_ceq {is : Bool} {c : Nat} (h : c ≠ 35 ∧ c ≠ 47) : ceq Y (mSupS z Y s is) c := by
  unfold mSupS
  split
  · exact ceq.refl.ssE h.1
  · exact ((ceq.refl.ssE h.1).ssA h.2).ssE h.1
theorem mSupS_n {is : Bool} {c : Nat} : sn (mSupS z Y s is) c = sn Y c := by
  unfold mSupS
  split <;> rfl
theorem mSupS_T {is : Bool} {c j i : Nat} : sT (mSupS z Y s is) c j i = sT Y c j i := by
  unfold mSupS
  split <;> rfl
theorem pairSup (hz : zInj z) (hR : rR z X Y) (hI : iAll z k X) (hS : mShape Y) (hB : mBox Y) (hs : s < 4) (hl : ((sE X 28 s).length : Int) + 1 ≤ sT X 0 5 0) :
    rR z (fRefuse z X s s (fRl z X s) v) (mSupS z Y s (fIsR (fRl z X s) v)) ∧ iAll z k (fRefuse z X s s (fRl z X s) v) ∧ mShape (mSupS z Y s (fIsR (fRl z X s) v)) ∧ mBox (mSupS z Y s (fIsR (fRl z X s) v)) := by
  obtain ⟨⟨r, r6, r9, hr⟩, s91, sB⟩ := hI.su.2.2 s hs
  have eRl : fRl z X s = r := by unfold fRl; rw [hr, rNo_zI hz r6 r9]
  rw [eRl]
  have u := fun (c : Nat) (h : c ≠ 9 ∧ c ≠ 28) => fRefuse_ceq (z := z) (X := X) (x := s) (m := s) (r := r) (v := v) h
  have g := fun (c : Nat) (h : c ≠ 35 ∧ c ≠ 47) => mSupS_ceq (z := z) (Y := Y) (s := s) (is := fIsR r v) h
  obtain ⟨q1, q2, q3, q4⟩ := hR.S
  have hm47 : (sE Y 47 0)[s]? = some (rlL r) := by rw [(q4 s hs).2, eRl]
  have hmRl : mRl Y s = rlL r := by
    unfold mRl
    rw [List.getD_eq_getElem?_getD, hm47]; rfl
  have hrow : sE Y 35 s = sE X 28 s := (q4 s hs).1
  have hnx := nextL r6 r9 (bls z (sE X 28 s)) (fIsR r v)
  have gn := gNext_lt r (bls z (sE X 28 s) ++ [fIsR r v])
  -- both sides, in one
  have cases2 : (gNext r (bls z (sE X 28 s) ++ [fIsR r v]) = r ∧ fRefuse z X s s r v = ssE X 28 s (sE X 28 s ++ [(z (if fIsR r v then 10 else 9) : Int)]) ∧ mSupS z Y s (fIsR r v) = ssE Y 35 s (sE X 28 s ++ [(z (if fIsR r v then 10 else 9) : Int)])) ∨
      (fRefuse z X s s r v = ssE (sset (ssE X 28 s (sE X 28 s ++ [(z (if fIsR r v then 10 else 9) : Int)])) 9 0 s (z (gNext r (bls z (sE X 28 s) ++ [fIsR r v])) : Int)) 28 s [] ∧ mSupS z Y s (fIsR r v) = ssE (ssA (ssE Y 35 s (sE X 28 s ++ [(z (if fIsR r v then 10 else 9) : Int)])) 47 0 ((sE Y 47 0).set s (rlL (gNext r (bls z (sE X 28 s) ++ [fIsR r v]))))) 35 s []) := by
    by_cases e : gNext r (bls z (sE X 28 s) ++ [fIsR r v]) = r
    · refine Or.inl ⟨e, ?_, ?_⟩
      · unfold fRefuse
        rw [if_pos e]
      · unfold mSupS
        rw [hrow, hmRl, hnx, e, if_pos rfl]
    · refine Or.inr ⟨?_, ?_⟩
      · unfold fRefuse
        rw [if_neg e]
      · unfold mSupS
        rw [hrow, hmRl, hnx, if_neg (fun w => e (rlL_inj gn.1 gn.2 r6 r9 w))]
  have hX9 : ∀ x : Nat, x ≠ s → sT (fRefuse z X s s r v) 9 0 x = sT X 9 0 x := fun x hx => by
    rcases cases2 with ⟨-, e, -⟩ | ⟨e, -⟩
    · rw [e]; rfl
    · rw [e, sT_ssE, sT_set, if_neg (by omega)]; rfl
  have hX91 : ∀ x : Nat, sT (fRefuse z X s s r v) 9 1 x = sT X 9 1 x := fun x => by
    rcases cases2 with ⟨-, e, -⟩ | ⟨e, -⟩
    · rw [e]; rfl
    · rw [e, sT_ssE, sT_set, if_neg (by omega)]; rfl
  have hX28 : ∀ x : Nat, x ≠ s → sE (fRefuse z X s s r v) 28 x = sE X 28 x := fun x hx => by
    rcases cases2 with ⟨-, e, -⟩ | ⟨e, -⟩
    · rw [e, sE_ssE, if_neg (fun w => hx w.2)]
    · rw [e, sE_ssE, if_neg (fun w => hx w.2), sE_set, sE_ssE, if_neg (fun w => hx w.2)]
  have hY35 : ∀ x : Nat, x ≠ s → sE (mSupS z Y s (fIsR r v)) 35 x = sE Y 35 x := fun x hx => by
    rcases cases2 with ⟨-, -, e⟩ | ⟨-, e⟩
    · rw [e, sE_ssE, if_neg (fun w => hx w.2)]
    · rw [e, sE_ssE, if_neg (fun w => hx w.2), sE_ssA, if_neg (by omega), sE_ssE, if_neg (fun w => hx w.2)]
  have key : ∃ r2 : Nat, 6 ≤ r2 ∧ r2 < 9 ∧ sT (fRefuse z X s s r v) 9 0 s = (z r2 : Nat) ∧ sE (mSupS z Y s (fIsR r v)) 35 s = sE (fRefuse z X s s r v) 28 s ∧ (sE (mSupS z Y s (fIsR r v)) 47 0)[s]? = some (rlL r2) ∧ (∀ x : Nat, x ≠ s → (sE (mSupS z Y s (fIsR r v)) 47 0)[x]? = (sE Y 47 0)[x]?) ∧ (sE (mSupS z Y s (fIsR r v)) 47 0).length = 4 ∧
      (∀ y ∈ sE (fRefuse z X s s r v) 28 s, isB z y) ∧ (sE (fRefuse z X s s r v) 28 s).length ≤ (sE X 28 s).length + 1 := by
    have nb : ∀ y ∈ sE X 28 s ++ [(z (if fIsR r v then 10 else 9) : Int)], isB z y := fun y hy => by
      rw [List.mem_append, List.mem_singleton] at hy
      rcases hy with hy | hy
      · exact sB y hy
      · exact ⟨fIsR r v, hy⟩
    rcases cases2 with ⟨-, e, e2⟩ | ⟨e, e2⟩
    · refine ⟨r, r6, r9, by rw [e]; exact hr, ?_, ?_, fun x _ => ?_, ?_, ?_, ?_⟩
      · rw [e, e2]
        exact (sE_ssE.trans (if_pos ⟨rfl, rfl⟩)).trans (sE_ssE.trans (if_pos ⟨rfl, rfl⟩)).symm
      · rw [e2, sE_ssE, if_neg (by omega)]; exact hm47
      · rw [e2, sE_ssE, if_neg (by omega)]
      · rw [e2, sE_ssE, if_neg (by omega)]; exact q3
      · rw [e, sE_ssE, if_pos ⟨rfl, rfl⟩]; exact nb
      · rw [e, sE_ssE, if_pos ⟨rfl, rfl⟩, List.length_append]; exact Nat.le_refl _
    · refine ⟨gNext r (bls z (sE X 28 s) ++ [fIsR r v]), gn.1, gn.2, ?_, ?_, ?_, fun x hx => ?_, ?_, ?_, ?_⟩
      · rw [e, sT_ssE, sT_set, if_pos ⟨rfl, rfl, rfl⟩]
      · rw [e, e2]
        exact (sE_ssE.trans (if_pos ⟨rfl, rfl⟩)).trans (sE_ssE.trans (if_pos ⟨rfl, rfl⟩)).symm
      · rw [e2, sE_ssE, if_neg (by omega), sE_ssA, if_pos ⟨rfl, rfl⟩, List.getElem?_set_self (by omega)]
      · rw [e2, sE_ssE, if_neg (by omega), sE_ssA, if_pos ⟨rfl, rfl⟩, List.getElem?_set_ne (fun w => hx w.symm)]
      · rw [e2, sE_ssE, if_neg (by omega), sE_ssA, if_pos ⟨rfl, rfl⟩, List.length_set]; exact q3
      · rw [e, sE_ssE, if_pos ⟨rfl, rfl⟩]; exact fun y hy => absurd hy List.not_mem_nil
      · rw [e, sE_ssE, if_pos ⟨rfl, rfl⟩]; exact Nat.zero_le _
  obtain ⟨r2, k6, k9, k1, k2, k3, k4, k5, k7, k8⟩ := key
  refine ⟨⟨?_, ?_, ?_, ?_, ?_, ?_, ?_⟩, ?_, ?_, hB.cg mSupS_n (g 19 (by decide)) (g 39 (by decide))⟩
  · have hg := hR.G
    unfold rG at hg ⊢
    rw [(g 11 (by decide)).2.1, (g 11 (by decide)).2.1, (u 0 (by decide)).2.1, (u 0 (by decide)).2.1]
    exact hg
  · exact rM_congr (fun k i => (u 1 (by decide)).2.1 k i) (u 1 (by decide)).1 (fun k i => (g 12 (by decide)).2.1 k i) (g 12 (by decide)).1 hR.M
  · exact rP_congr (fun c k i hc => (u c (by omega)).2.1 k i) (fun c i hc => (u c (by omega)).2.2 i) (fun k i => (g 13 (by decide)).2.1 k i) (fun c i hc => (g c (by omega)).2.2 i) (g 13 (by decide)).1 hR.P
  · exact hR.L.gr (pgr.same ((u 21 (by decide)).2.2 0)) (u 6 (by decide)) (u 7 (by decide)) (u 26 (by decide)) (g 14 (by decide)) (g 41 (by decide))
  · exact hR.O.gr (pgr.same ((u 21 (by decide)).2.2 0)) (u 7 (by decide)) (u 8 (by decide)) (u 26 (by decide)) (u 27 (by decide)) (g 15 (by decide)) (g 19 (by decide)) (g 38 (by decide)) (g 39 (by decide)) (g 40 (by decide))
  · exact rQ_congr (fun m _ => (u 45 (by decide)).2.2 m) (u 1 (by decide)).1 (u 8 (by decide)).1 (fun o _ => ⟨(g 15 (by decide)).2.1 5 o, (g 15 (by decide)).2.1 10 o⟩) hR.Q
  · refine ⟨by rw [(g 34 (by decide)).2.2]; exact q1, by rw [mSupS_n]; exact q2, k5, fun x hx => ?_⟩
    by_cases e : x = s
    · subst e
      refine ⟨k2, ?_⟩
      rw [k3]
      unfold fRl
      rw [k1, rNo_zI hz k6 k9]
    · obtain ⟨a1, a2⟩ := q4 x hx
      rw [hY35 x e, hX28 x e, k4 x e]
      unfold fRl at a2 ⊢
      rw [hX9 x e]
      exact ⟨a1, a2⟩
  · obtain ⟨i1, i2, i3, i4, i5, i6, i7, i8, i9, i10, i11, i12, i13, i14⟩ := hI
    refine ⟨?_, i2.cg (u 2 (by decide)) (u 3 (by decide)) (u 4 (by decide)) (u 5 (by decide)) (u 21 (by decide)) (u 24 (by decide)) (u 25 (by decide)) (by rw [fRefuse_sn]; exact Nat.le_refl _), i3.cg (u 0 (by decide)) (u 1 (by decide)) (u 45 (by decide)).1, i4.cg (u 6 (by decide)) (u 7 (by decide)) (u 21 (by decide)) (u 26 (by decide)), i5.cg (u 6 (by decide)).1 (u 7 (by decide)) (u 26 (by decide)) (u 27 (by decide)), i6.cg (u 6 (by decide)) (u 8 (by decide)) (u 21 (by decide)) (u 26 (by decide)).1 (u 27 (by decide)).1, i7.cg (u 6 (by decide)) (u 8 (by decide)), i8.cg (u 1 (by decide)) (u 2 (by decide)) (u 8 (by decide)) (u 25 (by decide)) (u 45 (by decide)), i9.cg (u 6 (by decide)) (u 7 (by decide)) (u 8 (by decide)) (u 26 (by decide)) (u 27 (by decide)), i10.cg (u 0 (by decide)) (u 6 (by decide)) (u 7 (by decide)) (u 8 (by decide)) (u 27 (by decide)), i11.cg (u 6 (by decide)) (u 7 (by decide)) (u 8 (by decide)) (u 26 (by decide)), i12.cg (u 8 (by decide)) (u 26 (by decide)) (u 27 (by decide)), ?_, ?_⟩
    · unfold fFix at i1 ⊢
      have f0 := u 0 (by decide)
      rw [f0.1, f0.2.1, f0.2.1, f0.2.1, f0.2.1, f0.2.1, (u 20 (by decide)).2.2, (u 21 (by decide)).2.2, (u 22 (by decide)).2.2, (u 23 (by decide)).2.2, fRefuse_sn, fRefuse_sn, fRefuse_sn]
      exact i1
    · obtain ⟨a1, a2, a3, a4, a5⟩ := i13
      simp only [iCn, fRefuse_sn, (u 0 (by decide)).2.1, (u 8 (by decide)).2.1]
      refine ⟨a1, a2, a3, a4, fun x hx => ?_⟩
      by_cases e : x = s
      · subst e; omega
      · rw [hX28 x e]; exact a5 x hx
    · obtain ⟨a1, a2, a3⟩ := i14
      refine ⟨by rw [fRefuse_sn]; exact a1, by rw [(u 48 (by decide)).2.2]; exact a2, fun x hx => ?_⟩
      obtain ⟨b1, b2, b3⟩ := a3 x hx
      rw [hX91]
      by_cases e : x = s
      · subst e
        exact ⟨⟨r2, k6, k9, k1⟩, b2, k7⟩
      · rw [hX9 x e, hX28 x e]
        exact ⟨b1, b2, b3⟩
  · obtain ⟨s1, s2, s3, s4, s5⟩ := hS
    refine ⟨?_, ?_, ?_, ?_, ?_⟩
    · unfold mFix at s1 ⊢
      simp only [mSupS_n, mSupS_T, (g 30 (by decide)).2.2, (g 31 (by decide)).2.2, (g 32 (by decide)).2.2, (g 33 (by decide)).2.2]
      exact s1
    · simp only [mSupS_n, mSupS_T, (g 36 (by decide)).2.2, (g 37 (by decide)).2.2]
      exact s2
    · simp only [mSupS_n, mSupS_T, (g 41 (by decide)).2.2]
      exact s3
    · simp only [mSupS_n, mSupS_T]
      exact s4
    · simp only [mSupS_n]
      exact s5
end ZBR1
