/-! THE SIMULATION: reserving all or nothing -/
set_option maxRecDepth 100000
theorem snw_sset {S : hS} {c k i c' : Nat} {v : Int} {xs : List Int} (h : c ≠ c') : snw (sset S c k i v) c' xs = sset (snw S c' xs) c k i v := by
  unfold snw sset
  simp only [Prod.mk.injEq, true_and, and_true]
  funext a b d
  by_cases h1 : a = c' ∧ d = S.1 c'
  · rw [if_pos h1, if_neg (fun w => h (w.1.symm.trans h1.1)), if_pos h1]
  · rw [if_neg h1]
    by_cases h2 : a = c ∧ b = k ∧ d = i
    · rw [if_pos h2, if_pos h2]
    · rw [if_neg h2, if_neg h2, if_neg h1]
theorem sset_sset {S : hS} {c k i : Nat} {v w : Int} : sset (sset S c k i v) c k i w = sset S c k i w := by
  unfold sset
  simp only [Prod.mk.injEq, true_and, and_true]
  funext a b d
  by_cases h1 : a = c ∧ b = k ∧ d = i
  · rw [if_pos h1, if_pos h1]
  · rw [if_neg h1, if_neg h1, if_neg h1]
section ZBRB
variable {z : Nat → Nat} {k o l m : Nat} {S T U X Y : hS} {t pt n left v : Int}
theorem fTakeS_sv : fTakeS (sset S 8 7 o v) m l t = sset (fTakeS S m l t) 8 7 o v := by
  have e : fTakeS (sset S 8 7 o v) m l t = ssE (sset (sset (snw (sset (sset S 8 7 o v) 6 5 l (sT S 6 5 l + t)) 7 []) 7 0 (sn S 7) l) 7 1 (sn S 7) t) 26 m (sE S 26 m ++ [(sn S 7 : Int)]) := rfl
  rw [e, sset_comm (show (8 : Nat) ≠ 6 by decide), snw_sset (show (8 : Nat) ≠ 7 by decide), sset_comm (show (8 : Nat) ≠ 7 by decide), sset_comm (show (8 : Nat) ≠ 7 by decide)]
  rfl
theorem fThere_sv : fThere (sset S 8 7 o v) pt left l = fThere S pt left l := by
  have e : fPnum (sset S 8 7 o v) l = fPnum S l := by
    unfold fPnum
    rw [sT_set, if_neg (by omega)]
    rfl
  unfold fThere
  rw [e]
  rfl
theorem fWalk_sv : fWalk (sset S 8 7 o v) pt l = fWalk S pt l := by
  have e : fPnum (sset S 8 7 o v) l = fPnum S l := by
    unfold fPnum
    rw [sT_set, if_neg (by omega)]
    rfl
  unfold fWalk
  rw [e]
  rfl
theorem fResN_sv : ∀ j : Nat, fResN (sset S 8 7 o v) m pt n j = (sset (fResN S m pt n j).1 8 7 o v, (fResN S m pt n j).2) := by
  intro j
  induction j with
  | zero => rfl
  | succ j ih =>
    rw [fResN_succ, ih, fResN_succ]
    generalize fResN S m pt n j = F
    obtain ⟨T, lf, a, b⟩ := F
    unfold fResStep
    simp only [fThere_sv, fWalk_sv]
    by_cases h : 0 < fThere T pt lf j
    · rw [if_pos h, if_pos h, fTakeS_sv]
      rfl
    · rw [if_neg h, if_neg h]
theorem fRAN_sv : ∀ p : Nat, fRAN (sset S 8 7 o v) o p = (sset (fRAN S o p).1 8 7 o v, (fRAN S o p).2) := by
  have hc : fComps (sset S 8 7 o v) o = fComps S o := rfl
  have hol : fOL (sset S 8 7 o v) o = fOL S o := rfl
  have key : ∀ (L : List Int) (F : fAst), L.foldl (fRAstep o (fOL S o)) (sset F.1 8 7 o v, F.2) = (sset (L.foldl (fRAstep o (fOL S o)) F).1 8 7 o v, (L.foldl (fRAstep o (fOL S o)) F).2) := by
    intro L
    induction L with
    | nil => intro F; rfl
    | cons x L ih =>
      intro F
      have e : fRAstep o (fOL S o) (sset F.1 8 7 o v, F.2) x = (sset (fRAstep o (fOL S o) F x).1 8 7 o v, (fRAstep o (fOL S o) F x).2) := by
        obtain ⟨T, tf, a, b⟩ := F
        have ef : ∀ w : Int, fFor (sset T 8 7 o v) x.toNat w = fFor T x.toNat w := fun _ => rfl
        have e3 : sT (sset T 8 7 o v) 8 3 o = sT T 8 3 o := rfl
        have e2 : sT (sset T 8 7 o v) 8 2 o = sT T 8 2 o := rfl
        have e40 : sT (sset T 8 7 o v) 4 0 x.toNat = sT T 4 0 x.toNat := rfl
        have e41 : sT (sset T 8 7 o v) 4 1 x.toNat = sT T 4 1 x.toNat := rfl
        have en : sn (sset T 8 7 o v) 6 = sn T 6 := rfl
        unfold fRAstep
        simp only [ef, e3, e2, e40, e41, en, fResN_sv]
        by_cases h1 : tf = false
        · rw [if_pos h1, if_pos h1]
        · rw [if_neg h1, if_neg h1]
          by_cases h2 : fFor T x.toNat (sT T 8 3 o) = true
          · rw [if_pos h2, if_pos h2]
          · rw [if_neg h2, if_neg h2]
      rw [List.foldl_cons, e, ih, List.foldl_cons]
  intro p
  unfold fRAN
  rw [hc, hol]
  exact key _ (S, true, 1, 4)
theorem fRAN_87 {p : Nat} : sT (fRAN S o p).1 8 7 o = sT S 8 7 o := by
  have r : ∀ (T : hS) (pt n : Int) (j : Nat), sT (fResN T (fOL S o) pt n j).1 8 7 o = sT T 8 7 o := fun T pt n j => by
    unfold fResN
    exact fold_keep (f := fResStep (fOL S o) pt) (fun s => sT s.1 8 7 o) (fun s x => by
      unfold fResStep
      split
      · exact fTakeS_T (by decide) (by omega)
      · rfl) _ (T, n, 1, 4)
  unfold fRAN
  exact fold_keep (f := fRAstep o (fOL S o)) (fun s => sT s.1 8 7 o) (fun s x => by
    unfold fRAstep
    split
    · rfl
    · split
      · exact r _ _ _ _
      · rfl) _ (S, true, 1, 4)
theorem fTB_sv : fTakeBack (sset T 8 7 o v) o = sset (fTakeBack T o) 8 7 o v := by
  have key : ∀ (ts : List Int) (T : hS), ts.foldl fUnres (sset T 8 7 o v) = sset (ts.foldl fUnres T) 8 7 o v := by
    intro ts
    induction ts with
    | nil => intro T; rfl
    | cons t ts ih =>
      intro T
      have e : fUnres (sset T 8 7 o v) t = sset (fUnres T t) 8 7 o v := by
        have e1 : fUnres (sset T 8 7 o v) t = sset (sset T 8 7 o v) 6 5 (sT T 7 0 t.toNat).toNat (sT T 6 5 (sT T 7 0 t.toNat).toNat - sT T 7 1 t.toNat) := rfl
        rw [e1, sset_comm (show (8 : Nat) ≠ 6 by decide)]
        rfl
      rw [List.foldl_cons, e, ih, List.foldl_cons]
  unfold fTakeBack
  have hol : fOL (sset T 8 7 o v) o = fOL T o := rfl
  have hE : sE (sset T 8 7 o v) 26 (fOL T o) = sE T 26 (fOL T o) := rfl
  rw [hol, hE, key]
  rfl
theorem fRA_eq (hst : sT S 8 7 o = (z 0 : Nat)) : (fRA z S o).1 = (if (fRAN (sset S 8 7 o (z 1 : Nat)) o (fComps S o).length).2.1 = true then (fRAN (sset S 8 7 o (z 1 : Nat)) o (fComps S o).length).1 else fFr z (fRAN (sset S 8 7 o (z 1 : Nat)) o (fComps S o).length).1 o) ∧ (fRA z S o).2.1 = (fRAN (sset S 8 7 o (z 1 : Nat)) o (fComps S o).length).2.1 ∧
    (fRAN (sset S 8 7 o (z 1 : Nat)) o (fComps S o).length).2.2.1 ≤ (fRA z S o).2.2.1 ∧ (fRAN (sset S 8 7 o (z 1 : Nat)) o (fComps S o).length).2.2.2 ≤ (fRA z S o).2.2.2 := by
  have h8 := fRAN_87 (S := S) (o := o) (p := (fComps S o).length)
  rw [fRAN_sv]
  unfold fRA
  generalize fRAN S o (fComps S o).length = F at *
  obtain ⟨T, tf, a, b⟩ := F
  simp only at h8 ⊢
  cases tf with
  | true =>
    rw [if_pos rfl, if_pos rfl]
    exact ⟨rfl, rfl, Nat.le_refl _, Nat.le_refl _⟩
  | false =>
    rw [if_neg (by decide), if_neg (by decide)]
    refine ⟨?_, rfl, Nat.le_succ _, Nat.le_add_right _ _⟩
    show fTakeBack T o = sset (fTakeBack (sset T 8 7 o _) o) 8 7 o (z 0 : Nat)
    rw [fTB_sv, sset_sset, sset_same]
    rw [fTB_sT (by omega), h8, hst]
theorem intS_sv : intS (sset U 15 5 o v) t = sset (intS U t) 15 5 o v := by
  unfold intS
  by_cases h : t ≤ 127
  · rw [if_pos h, if_pos h]
  · rw [if_neg h, if_neg h, snw_sset (show (15 : Nat) ≠ 19 by decide), sset_comm (show (15 : Nat) ≠ 19 by decide)]
    rfl
theorem mTakeS_sv : mTakeS (sset U 15 5 o v) o l t = sset (mTakeS U o l t) 15 5 o v := by
  have e : mTakeA (sset U 15 5 o v) o l t = sset (mTakeA U o l t) 15 5 o v := by
    have e1 : mTakeA (sset U 15 5 o v) o l t = ssE (sset (sset U 15 5 o v) 14 3 l (sT U 14 3 l + t)) 38 o (sE U 38 o ++ [(l : Int)]) := rfl
    rw [e1, sset_comm (show (15 : Nat) ≠ 14 by decide)]
    rfl
  unfold mTakeS
  rw [e, intS_sv]
  rfl
theorem mResN_sv : ∀ j : Nat, mResN (sset U 15 5 o v) o pt n j = (sset (mResN U o pt n j).1 15 5 o v, (mResN U o pt n j).2) := by
  have ms : ∀ (Y : hS) (j : Nat), mResN Y o pt n (j + 1) = mResStep o pt (mResN Y o pt n j) j := fun Y j => by
    unfold mResN
    rw [List.range_succ, List.foldl_append]
    rfl
  intro j
  induction j with
  | zero => rfl
  | succ j ih =>
    rw [ms, ih, ms]
    generalize mResN U o pt n j = F
    obtain ⟨T, lf, a, b⟩ := F
    have e1 : mThere (sset T 15 5 o v) pt lf j = mThere T pt lf j := rfl
    have e2 : mWalk (sset T 15 5 o v) pt j = mWalk T pt j := rfl
    unfold mResStep
    simp only [e1, e2]
    by_cases h0 : lf ≤ 0
    · rw [if_pos h0, if_pos h0]
    · rw [if_neg h0, if_neg h0]
      by_cases h : 0 < mThere T pt lf j
      · rw [if_pos h, if_pos h, mTakeS_sv]
        rfl
      · rw [if_neg h, if_neg h]
theorem mRAN_sv : ∀ p : Nat, mRAN (sset U 15 5 o v) o p = (sset (mRAN U o p).1 15 5 o v, (mRAN U o p).2) := by
  have hc : mComps (sset U 15 5 o v) o = mComps U o := rfl
  have key : ∀ (L : List Int) (F : fAst), L.foldl (mRAstep o) (sset F.1 15 5 o v, F.2) = (sset (L.foldl (mRAstep o) F).1 15 5 o v, (L.foldl (mRAstep o) F).2) := by
    intro L
    induction L with
    | nil => intro F; rfl
    | cons x L ih =>
      intro F
      have e : mRAstep o (sset F.1 15 5 o v, F.2) x = (sset (mRAstep o F x).1 15 5 o v, (mRAstep o F x).2) := by
        obtain ⟨T, tf, a, b⟩ := F
        have e1 : mCp (sset T 15 5 o v) x.toNat 0 = mCp T x.toNat 0 := rfl
        have e2 : mDue (sset T 15 5 o v) o x.toNat = mDue T o x.toNat := rfl
        have en : sn (sset T 15 5 o v) 14 = sn T 14 := rfl
        unfold mRAstep
        simp only [e1, e2, en, mResN_sv]
        by_cases h1 : tf = false
        · rw [if_pos h1, if_pos h1]
        · rw [if_neg h1, if_neg h1]
      rw [List.foldl_cons, e, ih, List.foldl_cons]
  intro p
  unfold mRAN
  rw [hc]
  exact key _ (U, true, 1, 4)
theorem mFree_sv : mFree (sset U 15 5 o v) o = mFree U o := by
  have key : ∀ (qs : List (Int × Int)) (T : hS), qs.foldl mUnres (sset T 15 5 o v) = sset (qs.foldl mUnres T) 15 5 o v := by
    intro qs
    induction qs with
    | nil => intro T; rfl
    | cons q qs ih =>
      intro T
      have e : mUnres (sset T 15 5 o v) q = sset (mUnres T q) 15 5 o v := by
        have e1 : mUnres (sset T 15 5 o v) q = sset (sset T 15 5 o v) 14 3 q.1.toNat (sT T 14 3 q.1.toNat - sT T 19 0 q.2.toNat) := rfl
        rw [e1, sset_comm (show (15 : Nat) ≠ 14 by decide)]
        rfl
      rw [List.foldl_cons, e, ih, List.foldl_cons]
  unfold mFree
  have hE : mZs (sset U 15 5 o v) o = mZs U o := rfl
  rw [hE, key]
  exact sset_sset (S := ssE (ssE ((mZs U o).foldl mUnres U) 38 o []) 39 o [])
theorem mRA_eq : (mRA U o).1 = (if (mRAN (sset U 15 5 o 112) o (mComps U o).length).2.1 = true then (mRAN (sset U 15 5 o 112) o (mComps U o).length).1 else mFree (mRAN (sset U 15 5 o 112) o (mComps U o).length).1 o) ∧ (mRA U o).2.1 = (mRAN (sset U 15 5 o 112) o (mComps U o).length).2.1 ∧ (mRA U o).2.2 = (mRAN (sset U 15 5 o 112) o (mComps U o).length).2.2 := by
  rw [mRAN_sv]
  unfold mRA
  generalize mRAN U o (mComps U o).length = F
  obtain ⟨T, tf, a, b⟩ := F
  simp only
  cases tf with
  | true =>
    rw [if_pos rfl, if_pos rfl]
    exact ⟨rfl, rfl, rfl⟩
  | false =>
    rw [if_neg (by decide), if_neg (by decide), mFree_sv]
    exact ⟨rfl, rfl, rfl⟩
theorem iHd_fr (hz : zInj z) (hI : iAll z k X) (ho : o < sn X 8) (hst : sT X 8 7 o = (z 1 : Nat)) : iHd z (fFr z X o) := by
  intro q hq hb
  rw [fFr_sn] at hq
  by_cases e : q = o
  · subst e
    have := of_decide_eq_true hb
    rw [fFr_87] at this
    exact absurd (hz 0 1 (by decide) (by decide) (by omega)) (by decide)
  · exact fOk1_fr hz hI.no ho hst hq e (fun hp => hI.hd q hq hp) hb
theorem pairRA (hz : zInj z) (hR : rR z X Y) (hI : iAll z k X) (hS : mShape Y) (hB : mBox Y) (ho : o < sn X 8) (hst : sT X 8 7 o = (z 0 : Nat)) (hmd : (sT X 8 1 o).toNat % 2 = 0) :
    rR z (fRA z X o).1 (mRA Y o).1 ∧ iAll z k (fRA z X o).1 ∧ mShape (mRA Y o).1 ∧ mBox (mRA Y o).1 ∧ (mRA Y o).2.1 = (fRA z X o).2.1 ∧ ((mRA Y o).2.2.1 ≤ 2 * (fRA z X o).2.2.1 ∧ (mRA Y o).2.2.2 ≤ 2 * (fRA z X o).2.2.2) ∧ (mfr X (fRA z X o).1 ∧ ffr Y (mRA Y o).1) ∧ (∀ c : Nat, sn X c ≤ sn (fRA z X o).1 c) ∧ (∀ c : Nat, sn Y c ≤ sn (mRA Y o).1 c) ∧ sT (mRA Y o).1 11 0 0 = sT Y 11 0 0 := by
  have P := pairPr0 hz hR hI hS hB ho hst hmd
  have hem : sE X 26 (fOL X o) = [] := (hI.em o ho).1 hst
  have hmd' : (sT (sset X 8 7 o (z 1 : Nat)) 8 1 o).toNat % 2 = 0 := hmd
  have hcl : (mComps Y o).length = (fComps X o).length := by
    have e := congrArg List.length (P.comps hmd').1
    rw [List.length_map, List.length_map] at e
    exact e
  obtain ⟨r1, r2, r3, r4, r5⟩ := pairRAN hz P hmd' hem (fComps X o).length (Nat.le_refl _)
  obtain ⟨f1, f2, f3, f4⟩ := fRA_eq (z := z) (S := X) (o := o) hst
  obtain ⟨m1, m2, m3⟩ := mRA_eq (U := Y) (o := o)
  rw [hcl] at m1 m2 m3
  generalize hF : fRAN (sset X 8 7 o (z 1 : Nat)) o (fComps X o).length = F at *
  generalize hM : mRAN (sset Y 15 5 o 112) o (fComps X o).length = M at *
  have k0 : rsK X (sset X 8 7 o (z 1 : Nat)) Y (sset Y 15 5 o 112) ∨ True := Or.inr trivial
  have fm0 : mfr X (sset X 8 7 o (z 1 : Nat)) := mfr.refl.set (by decide)
  have ff0 : ffr Y (sset Y 15 5 o 112) := ffr.refl.set (by decide)
  have t0 : sT M.1 11 0 0 = sT Y 11 0 0 := (r3.2.2.1 11 (by decide)).2.1 0 0
  have n1 : ∀ c : Nat, sn X c ≤ sn F.1 c := r3.2.2.2.2.2.1
  have n2 : ∀ c : Nat, sn Y c ≤ sn M.1 c := r3.2.2.2.2.2.2
  have em3 := congrArg Prod.fst m3
  have em4 := congrArg Prod.snd m3
  rw [f1, m1, f2, m2, r2]
  cases hb : M.2.1 with
  | true =>
    rw [hb] at r2
    rw [if_pos rfl, if_pos rfl]
    refine ⟨r1.1, r1.2.1, r1.2.2.1, r1.2.2.2.1, rfl, ⟨?_, ?_⟩, ⟨fm0.trans r3.2.2.2.2.1.1, ff0.trans r3.2.2.2.2.1.2⟩, n1, n2, t0⟩
    · rw [em3]; omega
    · rw [em4]; omega
  | false =>
    rw [if_neg (by decide), if_neg (by decide)]
    obtain ⟨q1, q2, q3, q4⟩ := pairFr hz r1.1 r1.2.1.no r1.2.2.1 r1.2.2.2.1 r1.2.2.2.2.1 r1.2.2.2.2.2
    refine ⟨q1, q2.all (iHd_fr hz r1.2.1 r1.2.2.2.2.1 r1.2.2.2.2.2), q3, q4, rfl, ⟨?_, ?_⟩, ⟨(fm0.trans r3.2.2.2.2.1.1).trans fFr_mfr, (ff0.trans r3.2.2.2.2.1.2).trans mFr_ffr⟩, fun c => ?_, fun c => ?_, ?_⟩
    · rw [em3]; omega
    · rw [em4]; omega
    · rw [fFr_sn]; exact n1 c
    · rw [mF_sn]; exact n2 c
    · rw [mF_sT (by omega) (by omega)]; exact t0
end ZBRB
