/-! WHAT THE CONTRACTS ASK OF THE MODEL, out of the relation, Foundrymark's invariants and the model's shape -/
set_option maxRecDepth 100000
theorem mapD {α β : Type} {f : Int → α} {g : Int → β} {L : List Int} {M : List α} (h : L.map f = M) {k : Int} (hk : k ∈ L) : f k ∈ M := by
  rw [← h]
  exact List.mem_map_of_mem hk
section ZBM
variable {z : Nat → Nat} {k : Nat} {X Y : hS}
theorem mSh.fix (h : mShape Y) : mFix Y := h.1
theorem rR.G (h : rR z X Y) : rG X Y := h.1
theorem rR.M (h : rR z X Y) : rM X Y := h.2.1
theorem rR.P (h : rR z X Y) : rP X Y := h.2.2.1
theorem rR.L (h : rR z X Y) : rL X Y := h.2.2.2.1
theorem rR.O (h : rR z X Y) : rO z X Y := h.2.2.2.2.1
theorem rR.Q (h : rR z X Y) : rQ X Y := h.2.2.2.2.2.1
theorem rR.S (h : rR z X Y) : rS z X Y := h.2.2.2.2.2.2
theorem rR.mW (h : rR z X Y) (hI : iAll z k X) (hS : mShape Y) : mW Y := by
  intro i hi
  have hi' : i < sn X 6 := by rw [← h.L.1]; exact hi
  obtain ⟨-, g2, g3, g4, g5, g6⟩ := h.L.2 i hi'
  obtain ⟨s1, s2, s3⟩ := hS.2.2.1 i hi
  obtain ⟨w1, w2, w3⟩ := hI.W i hi'
  refine ⟨by rw [g5]; exact w1, by omega, fun t ht => ?_⟩
  rw [s2, Int.toNat_natCast] at ht
  have h0 := s3 t ht
  have hm : t.toNat ∈ mch Y i := by
    unfold mch
    rw [s2, Int.toNat_natCast]
    exact List.mem_map_of_mem ht
  rw [g6] at hm
  unfold fch at hm
  obtain ⟨u, hu, e⟩ := List.mem_map.mp hm
  have := w3 u hu
  exact ⟨h0, by omega⟩
theorem rR.mAv (h : rR z X Y) (hI : iAll z k X) : mAv Y := by
  intro l hl
  have hl' : l < sn X 6 := by rw [← h.L.1]; exact hl
  obtain ⟨⟨p, p1, p2, p3⟩, g2, g3, g4, g5, g6⟩ := h.L.2 l hl'
  have a := hI.Av l hl'
  have hnp := np_le hI
  exact ⟨by omega, by omega, by omega, ⟨by omega, by omega⟩⟩
theorem rR.mk (h : rR z X Y) {p : Nat} (hp : p < sn Y 13) : p < np X ∧ ((fPc X p % 2 = 0 ∧ sT Y 13 0 p = 1) ∨ (fPc X p % 2 = 1 ∧ sT Y 13 0 p = 0)) := by
  have hp' : p < np X := by rw [← h.P.1]; exact hp
  have g := (h.P.2 p hp').1
  refine ⟨hp', ?_⟩
  have hm : fPc X p % 2 = 0 ∨ fPc X p % 2 = 1 := by omega
  rcases hm with e | e
  · rw [if_pos e] at g
    exact Or.inl ⟨e, g⟩
  · rw [if_neg (by omega)] at g
    exact Or.inr ⟨e, g⟩
/-- its components, its operations -/
theorem rR.mC (h : rR z X Y) (hI : iAll z k X) (hS : mShape Y) {p : Nat} (hp : p < sn Y 13) : (sE Y 36 p).length ≤ 4 ∧ (sE Y 37 p).length ≤ 3 ∧ (∀ j ∈ sE Y 36 p, ∃ i : Nat, i < sn X 4 ∧ sE Y 46 j.toNat = [sT X 4 0 i, sT X 4 1 i, sT X 4 2 i]) ∧ (∀ j ∈ sE Y 37 p, ∃ i : Nat, i < sn X 5 ∧ sE Y 46 j.toNat = [sT X 5 0 i, sT X 5 1 i, sT X 5 2 i]) := by
  obtain ⟨hp', hm⟩ := h.mk hp
  rcases hm with ⟨e1, e2⟩ | ⟨e1, e2⟩
  · obtain ⟨g1, g2⟩ := (h.P.2 p hp').2.2.2.2.2.2.2 e1
    rcases hI.pt.pc hp' with ⟨q1, q2, q3⟩ | ⟨q1, q2, q3⟩
    · obtain ⟨-, -, l4, l5⟩ := hI.pt.2.2.2.1 (pix X p) q2
      refine ⟨?_, ?_, fun j hj => ?_, fun j hj => ?_⟩
      · have := congrArg List.length g1
        rw [List.length_map, List.length_map] at this
        omega
      · have := congrArg List.length g2
        rw [List.length_map, List.length_map] at this
        omega
      · have hmem := List.mem_map_of_mem (f := fun j : Int => sE Y 46 j.toNat) hj
        unfold rCs at g1
        rw [g1] at hmem
        obtain ⟨i, hi, e⟩ := List.mem_map.mp hmem
        have := hI.pt.2.2.2.2.2.1 (pix X p) q2 i hi
        exact ⟨i.toNat, by omega, e.symm⟩
      · have hmem := List.mem_map_of_mem (f := fun j : Int => sE Y 46 j.toNat) hj
        unfold rOs at g2
        rw [g2] at hmem
        obtain ⟨i, hi, e⟩ := List.mem_map.mp hmem
        have := hI.pt.2.2.2.2.2.2.2.1 (pix X p) q2 i hi
        exact ⟨i.toNat, by omega, e.symm⟩
    · omega
  · obtain ⟨-, -, g, -⟩ := hS.2.1 p hp
    obtain ⟨g1, g2⟩ := g e2
    rw [g1, g2]
    exact ⟨Nat.zero_le _, Nat.zero_le _, fun j hj => absurd hj List.not_mem_nil, fun j hj => absurd hj List.not_mem_nil⟩
theorem rR.mPart (h : rR z X Y) (hI : iAll z k X) (hS : mShape Y) : mPart Y := by
  intro p hp
  obtain ⟨c1, c2, -⟩ := h.mC hI hS hp
  obtain ⟨s1, s2, -⟩ := hS.2.1 p hp
  refine ⟨?_, by omega, by omega, ?_, ?_⟩
  · rcases (h.mk hp).2 with q | q
    · exact Or.inr q.2
    · exact Or.inl q.2
  · rw [s1, Int.toNat_natCast]; exact c1
  · rw [s2, Int.toNat_natCast]; exact c2
theorem rR.mCmp (h : rR z X Y) (hI : iAll z k X) (hS : mShape Y) : mCmp Y := by
  intro p hp j hj
  obtain ⟨s1, s2, -⟩ := hS.2.1 p hp
  rw [s1, Int.toNat_natCast] at hj
  obtain ⟨i, hi, e⟩ := (h.mC hI hS hp).2.2.1 j hj
  have hc := hI.Cmp i hi
  unfold mCp
  rw [e]
  exact ⟨rfl, hc.1, hc.2.1, hc.2.2⟩
theorem rR.mOps (h : rR z X Y) (hI : iAll z k X) (hS : mShape Y) : mOps Y := by
  intro p hp j hj
  obtain ⟨s1, s2, -⟩ := hS.2.1 p hp
  rw [s2, Int.toNat_natCast] at hj
  obtain ⟨i, hi, e⟩ := (h.mC hI hS hp).2.2.2 j hj
  have hc := hI.Ops i hi
  unfold mCp
  rw [e, h.M.1]
  exact ⟨rfl, hc.1, hc.2.1, hc.2.2⟩
theorem rR.st (h : rR z X Y) {o : Nat} (ho : o < sn Y 15) : ∃ s : Nat, s < 6 ∧ sT X 8 7 o = (z s : Nat) ∧ sT Y 15 5 o = stL s := by
  have ho' : o < sn X 8 := by rw [← h.O.1]; exact ho
  obtain ⟨s, s1, s2, s3, -⟩ := (h.O.2 o ho').2.1.1
  exact ⟨s, s1, s2, s3⟩
theorem stL_cases {s : Nat} (hs : s < 6) : (s = 0 ∧ stL s = 45) ∨ (s = 1 ∧ stL s = 112) ∨ (s = 2 ∧ stL s = 119) ∨ (s = 3 ∧ stL s = 111) ∨ (s = 4 ∧ stL s = 102) ∨ (s = 5 ∧ stL s = 100) := by
  match s, hs with
  | 0, _ => exact Or.inl ⟨rfl, rfl⟩
  | 1, _ => exact Or.inr (Or.inl ⟨rfl, rfl⟩)
  | 2, _ => exact Or.inr (Or.inr (Or.inl ⟨rfl, rfl⟩))
  | 3, _ => exact Or.inr (Or.inr (Or.inr (Or.inl ⟨rfl, rfl⟩)))
  | 4, _ => exact Or.inr (Or.inr (Or.inr (Or.inr (Or.inl ⟨rfl, rfl⟩))))
  | 5, _ => exact Or.inr (Or.inr (Or.inr (Or.inr (Or.inr ⟨rfl, rfl⟩))))
theorem stL_inj {s t : Nat} (hs : s < 6) (ht : t < 6) (h : stL s = stL t) : s = t := by
  have h1 := stL_cases hs
  have h2 := stL_cases ht
  omega
/-- the state, told by the letter -/
theorem rR.stIff (h : rR z X Y) (hz : zInj z) {o : Nat} (ho : o < sn X 8) {s : Nat} (hs : s < 6) : sT Y 15 5 o = stL s ↔ sT X 8 7 o = (z s : Nat) := by
  obtain ⟨t, t1, t2, t3⟩ := h.st (o := o) (by rw [h.O.1]; exact ho)
  constructor
  · intro e
    have := stL_inj t1 hs (t3.symm.trans e)
    rw [t2, this]
  · intro e
    have : t = s := hz t s (by omega) (by omega) (by omega)
    rw [t3, this]
theorem rR.mOrd (h : rR z X Y) (hS : mShape Y) : mOrd Y := by
  intro o ho
  obtain ⟨s, s1, s2, s3⟩ := h.st ho
  refine ⟨?_, (hS.2.2.2.1 o ho).2.2.2.2.1⟩
  have := stL_cases s1
  omega
theorem rR.len (h : rR z X Y) (hI : iAll z k X) {o : Nat} (ho : o < sn Y 15) : (sE Y 38 o).length = (sE X 26 (fOL X o)).length ∧ (sE Y 39 o).length = (sE X 26 (fOL X o)).length ∧ (sE Y 38 o).length ≤ 400 := by
  have ho' : o < sn X 8 := by rw [← h.O.1]; exact ho
  obtain ⟨g1, g2⟩ := (h.O.2 o ho').2.2.1
  have g3 := (hI.em o ho').2.2
  have := congrArg List.length g1
  unfold mTl mZs fTl at this
  rw [List.length_map, List.length_map, List.length_zip] at this
  omega
theorem rR.mOrd2 (h : rR z X Y) (hI : iAll z k X) (hS : mShape Y) : mOrd2 Y := by
  intro o ho
  obtain ⟨s0, s6, s7, s16, -⟩ := hS.2.2.2.1 o ho
  obtain ⟨e1, e2, e3⟩ := h.len hI ho
  have t := hS.2.2.2.2
  exact ⟨s6, s7, s16, by omega, by omega, by omega, by omega, by omega⟩
theorem rR.mOq (h : rR z X Y) (hI : iAll z k X) : ∀ o : Nat, o < sn Y 15 → mOq Y o := by
  intro o ho
  have ho' : o < sn X 8 := by rw [← h.O.1]; exact ho
  obtain ⟨⟨p, p1, p2, p3⟩, g2, g3, g4⟩ := (h.O.2 o ho').1
  have q := hI.Oq ho'
  have hp : sn Y 13 = np X := h.P.1
  exact ⟨by rw [g2]; exact q.1, by rw [g3]; exact q.2.1, by omega⟩
theorem rR.mNew (h : rR z X Y) (hz : zInj z) (hI : iAll z k X) : ∀ o : Nat, o < sn Y 15 → sT Y 15 5 o = 45 → sE Y 38 o = [] ∧ sE Y 39 o = [] := by
  intro o ho hs
  have ho' : o < sn X 8 := by rw [← h.O.1]; exact ho
  have e := (hI.em o ho').1 ((h.stIff hz ho' (s := 0) (by decide)).mp hs)
  obtain ⟨e1, e2, e3⟩ := h.len hI ho
  rw [e] at e1 e2
  exact ⟨List.eq_nil_of_length_eq_zero e1, List.eq_nil_of_length_eq_zero e2⟩
theorem rR.mMach (h : rR z X Y) : mMach Y := by
  intro m hm
  have hm' : m < sn X 1 := by rw [← h.M.1]; exact hm
  have g := (h.M.2 m hm').2.2.2.1
  rw [g]
  unfold fState
  by_cases e : sT X 1 8 m = 1
  · rw [if_pos e]; exact Or.inr (Or.inl rfl)
  · rw [if_neg e]
    by_cases e2 : sT X 1 7 m < 0
    · rw [if_pos e2]; exact Or.inl rfl
    · rw [if_neg e2]; exact Or.inr (Or.inr rfl)
theorem rR.mMn (h : rR z X Y) (hI : iAll z k X) : mMn Y := by
  intro m hm
  have hm' : m < sn X 1 := by rw [← h.M.1]; exact hm
  obtain ⟨⟨g0, g1, -⟩, g4, -⟩ := h.M.2 m hm'
  have q := hI.Mn m hm'
  rw [g0, g1, g4]
  exact q
theorem rR.opl (h : rR z X Y) (hS : mShape Y) {o : Nat} (ho : o < sn X 8) (hm : (sT X 8 1 o).toNat % 2 = 0) (hI : iAll z k X) : (mOpL Y o).length = (sE X 25 (fOpL X o)).length := by
  obtain ⟨⟨p, p1, p2, p3⟩, -⟩ := (h.O.2 o ho).1
  have hp : p < sn Y 13 := by rw [h.P.1]; exact p1
  obtain ⟨s1, s2, -⟩ := hS.2.1 p hp
  rw [p3, Int.toNat_natCast] at hm
  obtain ⟨g1, g2⟩ := (h.P.2 p p1).2.2.2.2.2.2.2 hm
  rcases hI.pt.pc p1 with ⟨q1, q2, q3⟩ | ⟨q1, q2, q3⟩
  · obtain ⟨l1, l2, -⟩ := hI.pt.2.2.2.1 (fPc X p / 2) q2
    have e1 : mOpL Y o = sE Y 37 p := by
      unfold mOpL
      rw [p2, Int.toNat_natCast, s2, Int.toNat_natCast]
    have e2 : fOpL X o = pix X p := by
      unfold fOpL pix
      rw [p3, Int.toNat_natCast, l2, Int.toNat_natCast]
    rw [e1, e2]
    have := congrArg List.length g2
    rw [List.length_map, List.length_map] at this
    exact this
  · omega
theorem rR.mQok (h : rR z X Y) (hI : iAll z k X) (hS : mShape Y) {o : Nat} (ho : o < sn X 8) (hq : fQok X o) : mQok Y o := by
  obtain ⟨⟨p, p1, p2, p3⟩, -⟩ := (h.O.2 o ho).1
  obtain ⟨-, g8, g9, -⟩ := (h.O.2 o ho).2.1
  have hp : sn Y 13 = np X := h.P.1
  have e := h.opl hS ho hq.1.2 hI
  refine ⟨by omega, ?_, by rw [g8]; exact hq.2.2⟩
  rw [e, g9]
  exact hq.2.1
theorem rR.mJI (h : rR z X Y) (hz : zInj z) (hI : iAll z k X) (hS : mShape Y) : mJI Y := by
  refine ⟨hS.1, h.mPart hI hS, h.mOps hI hS, h.mMn hI, fun p hp => ?_, h.mMach, h.mOrd hS, fun o ho => ?_, fun o ho hs => ?_⟩
  · have hp' := (h.mk hp).1
    have g := (h.P.2 p hp').2.1
    rw [g]
    have hc : pcl X p = 2 ∨ pcl X p = 3 := by unfold pcl; omega
    have := (hI.pt.2.2.2.2.1 (pcl X p) (pix X p) hc (hI.pt.1 p hp').2.1).1
    exact ⟨by omega, by omega⟩
  · have ho' : o < sn X 8 := by rw [← h.O.1]; exact ho
    have g := (h.O.2 o ho').1.2.2.2
    have q := (hI.or o ho').2.2.2.2.1
    rw [g]
    exact ⟨by omega, by omega⟩
  · have ho' : o < sn X 8 := by rw [← h.O.1]; exact ho
    obtain ⟨q1, q2⟩ := (hS.2.2.2.1 o ho).2.2.2.2.2 hs
    have hM := h.M.1
    have hmem : (o : Int) ∈ sE X 45 (sT Y 15 10 o).toNat := ((h.Q (sT Y 15 10 o).toNat (by omega)).2 (o : Int)).mpr ⟨by omega, by omega, by rw [Int.toNat_natCast]; exact hs, by rw [Int.toNat_natCast]; omega⟩
    have hw := hI.qw.1 (sT Y 15 10 o).toNat (by omega) (o : Int) hmem
    rw [Int.toNat_natCast] at hw
    exact h.mQok hI hS ho' hw.2.2.2
theorem rR.mSup (h : rR z X Y) (hI : iAll z k X) : mSup z Y := by
  obtain ⟨s1, s2, s3, s4⟩ := h.S
  refine ⟨s2, s1, s3, fun x hx => ?_⟩
  obtain ⟨⟨r, r1, r2, r3⟩, r4, r5⟩ := hI.su.2.2 x hx
  obtain ⟨e1, e2⟩ := s4 x hx
  have hc := hI.cn.2.2.2.2 x hx
  have h5 := hI.cn.2.1
  refine ⟨?_, by rw [e1]; exact r5, by rw [e1]; omega⟩
  rw [e2]
  have hr : fRl z X x = 6 ∨ fRl z X x = 7 ∨ fRl z X x = 8 := by
    unfold fRl rNo
    split
    · exact Or.inl rfl
    · split
      · exact Or.inr (Or.inl rfl)
      · exact Or.inr (Or.inr rfl)
  rcases hr with e | e | e
  · rw [e]; exact Or.inl rfl
  · rw [e]; exact Or.inr (Or.inl rfl)
  · rw [e]; exact Or.inr (Or.inr rfl)
end ZBM
