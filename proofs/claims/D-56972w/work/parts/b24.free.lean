/-! THE SIMULATION: a promise is taken back -/
set_option maxRecDepth 100000
/-- the invariants but the one on held lots -/
def iNo (z : Nat → Nat) (k : Nat) (X : hS) : Prop := fFix X ∧ iPt k X ∧ iMc X ∧ iLo X ∧ iTk X ∧ iOr z X ∧ iSp z X ∧ iQw z X ∧ iRes z X ∧ iCo z k X ∧ iEm z X ∧ iCn z k X ∧ iSu z X
theorem iAll.no {z : Nat → Nat} {k : Nat} {X : hS} (h : iAll z k X) : iNo z k X := ⟨h.1, h.pt, h.mc, h.lo, h.tk, h.or, h.sp, h.qw, h.res, h.co, h.em, h.cn, h.su⟩
theorem iNo.all {z : Nat → Nat} {k : Nat} {X : hS} (h : iNo z k X) (hd : iHd z X) : iAll z k X := by
  obtain ⟨i1, i2, i3, i4, i5, i6, i7, i8, i9, i10, i12, i13, i14⟩ := h
  exact ⟨i1, i2, i3, i4, i5, i6, i7, i8, i9, i10, hd, i12, i13, i14⟩
abbrev fFr (z : Nat → Nat) (X : hS) (o : Nat) : hS := sset (fTakeBack X o) 8 7 o (z 0 : Nat)
theorem unresF {l : Nat} : ∀ (ts : List Int) (X : hS), (∀ t ∈ ts, 0 ≤ sT X 7 0 t.toNat) → sT (ts.foldl fUnres X) 6 5 l = sT X 6 5 l - pl (ts.map (fun t => (sT X 7 0 t.toNat, sT X 7 1 t.toNat))) l
  | [], X, _ => by rw [List.foldl_nil, List.map_nil, pl_nil]; omega
  | t :: ts, X, h => by
    have e7 : ∀ k i : Nat, sT (fUnres X t) 7 k i = sT X 7 k i := fun k i => by unfold fUnres; rw [sT_set, if_neg (by omega)]
    have ih := unresF (l := l) ts (fUnres X t) (fun q hq => by rw [e7]; exact h q (List.mem_cons_of_mem _ hq))
    rw [List.foldl_cons, ih, List.map_cons, pl_cons]
    simp only [e7]
    have h0 := h t List.mem_cons_self
    unfold fUnres
    rw [sT_set]
    by_cases e : l = (sT X 7 0 t.toNat).toNat
    · rw [if_pos ⟨rfl, rfl, e⟩, if_pos (show sT X 7 0 t.toNat = (l : Int) by omega), ← e]
      omega
    · rw [if_neg (fun w => e w.2.2), if_neg (show ¬ sT X 7 0 t.toNat = (l : Int) by omega)]
      omega
theorem unresM {l : Nat} : ∀ (qs : List (Int × Int)) (Y : hS), (∀ q ∈ qs, 0 ≤ q.1) → sT (qs.foldl mUnres Y) 14 3 l = sT Y 14 3 l - pl (qs.map (fun q => (q.1, sT Y 19 0 q.2.toNat))) l
  | [], Y, _ => by rw [List.foldl_nil, List.map_nil, pl_nil]; omega
  | q :: qs, Y, h => by
    have e7 : ∀ k i : Nat, sT (mUnres Y q) 19 k i = sT Y 19 k i := fun k i => by unfold mUnres; rw [sT_set, if_neg (by omega)]
    have ih := unresM (l := l) qs (mUnres Y q) (fun x hx => h x (List.mem_cons_of_mem _ hx))
    rw [List.foldl_cons, ih, List.map_cons, pl_cons]
    simp only [e7]
    have h0 := h q List.mem_cons_self
    unfold mUnres
    rw [sT_set]
    by_cases e : l = q.1.toNat
    · rw [if_pos ⟨rfl, rfl, e⟩, if_pos (show q.1 = (l : Int) by omega), ← e]
      omega
    · rw [if_neg (fun w => e w.2.2), if_neg (show ¬ q.1 = (l : Int) by omega)]
      omega
section ZBF
variable {z : Nat → Nat} {k : Nat} {X Y : hS} {o : Nat}
theorem fFr_sn {c : Nat} : sn (fFr z X o) c = sn X c := by
  show sn (fTakeBack X o) c = _
  exact fTB_sn
theorem fFr_sT {c k i : Nat} (h : ¬ (c = 6 ∧ k = 5)) (h2 : ¬ (c = 8 ∧ k = 7 ∧ i = o)) : sT (fFr z X o) c k i = sT X c k i := by
  rw [sT_set, if_neg h2, fTB_sT h]
theorem fFr_87 : sT (fFr z X o) 8 7 o = (z 0 : Nat) := by
  rw [sT_set, if_pos ⟨rfl, rfl, rfl⟩]
theorem fFr_sE {c i : Nat} : sE (fFr z X o) c i = if c = 26 ∧ i = fOL X o then [] else sE X c i := fTB_sE
theorem fFr_ceq {c : Nat} (h : c ≠ 6 ∧ c ≠ 8 ∧ c ≠ 26) : ceq X (fFr z X o) c := ⟨fFr_sn, fun k i => fFr_sT (by omega) (by omega), fun i => by rw [fFr_sE, if_neg (by omega)]⟩
theorem mFr_ceq {c : Nat} (h : c ≠ 14 ∧ c ≠ 15 ∧ c ≠ 38 ∧ c ≠ 39) : ceq Y (mFree Y o) c := ⟨mF_sn, fun k i => mF_sT (by omega) (by omega), fun i => by rw [mF_sE, if_neg (by omega)]⟩
theorem fFr_mfr : mfr X (fFr z X o) := by
  refine ⟨fun c hc => fFr_sn, fun c k i hc _ => fFr_sT (fun w => ?_) (fun w => ?_), fun c i hc => ?_, by rw [fFr_sn]; exact Nat.le_refl _, fun i _ => by rw [fFr_sE, if_neg (by omega)]⟩
  · rw [w.1] at hc; exact absurd hc (by decide)
  · rw [w.1] at hc; exact absurd hc (by decide)
  · rw [fFr_sE, if_neg (fun w => by rw [w.1] at hc; exact absurd hc (by decide))]
theorem mFr_ffr : ffr Y (mFree Y o) := by
  refine ⟨fun c hc => mF_sn, fun c k i hc => mF_sT (fun w => ?_) (fun w => ?_), fun c i hc => ?_⟩
  · rw [w.1] at hc; exact absurd hc (by decide)
  · rw [w.1] at hc; exact absurd hc (by decide)
  · rw [mF_sE, if_neg (fun w => by rcases w.1 with e | e <;> (rw [e] at hc; exact absurd hc (by decide)))]
theorem pairFr (hz : zInj z) (hR : rR z X Y) (hI : iNo z k X) (hS : mShape Y) (hB : mBox Y) (ho : o < sn X 8) (hst : sT X 8 7 o = (z 1 : Nat)) :
    rR z (fFr z X o) (mFree Y o) ∧ iNo z k (fFr z X o) ∧ mShape (mFree Y o) ∧ mBox (mFree Y o) := by
  obtain ⟨i1, i2, i3, i4, i5, i6, i7, i8, i9, i10, i12, i13, i14⟩ := hI
  have u := fun (c : Nat) (h : c ≠ 6 ∧ c ≠ 8 ∧ c ≠ 26) => fFr_ceq (z := z) (X := X) (o := o) h
  have g := fun (c : Nat) (h : c ≠ 14 ∧ c ≠ 15 ∧ c ≠ 38 ∧ c ≠ 39) => mFr_ceq (Y := Y) (o := o) h
  have z04 : z 0 ≠ z 4 := fun e => absurd (hz 0 4 (by decide) (by decide) e) (by decide)
  have z05 : z 0 ≠ z 5 := fun e => absurd (hz 0 5 (by decide) (by decide) e) (by decide)
  have z14 : z 1 ≠ z 4 := fun e => absurd (hz 1 4 (by decide) (by decide) e) (by decide)
  have z15 : z 1 ≠ z 5 := fun e => absurd (hz 1 5 (by decide) (by decide) e) (by decide)
  have z12 : z 1 ≠ z 2 := fun e => absurd (hz 1 2 (by decide) (by decide) e) (by decide)
  have z13 : z 1 ≠ z 3 := fun e => absurd (hz 1 3 (by decide) (by decide) e) (by decide)
  have z01 : z 0 ≠ z 1 := fun e => absurd (hz 0 1 (by decide) (by decide) e) (by decide)
  have z02 : z 0 ≠ z 2 := fun e => absurd (hz 0 2 (by decide) (by decide) e) (by decide)
  have z03 : z 0 ≠ z 3 := fun e => absurd (hz 0 3 (by decide) (by decide) e) (by decide)
  -- states
  have st : ∀ q : Nat, q ≠ o → sT (fFr z X o) 8 7 q = sT X 8 7 q := fun q hq => fFr_sT (by omega) (by omega)
  have st2 : ∀ (q s : Nat), s ≠ 0 → s ≠ 1 → s < 6 → (sT (fFr z X o) 8 7 q = (z s : Nat) ↔ sT X 8 7 q = (z s : Nat)) := fun q s h0 h1 h6 => by
    by_cases e : q = o
    · rw [e, fFr_87, hst]
      constructor
      · intro w
        exact absurd (hz 0 s (by decide) (by omega) (by omega)) (fun e => h0 e.symm)
      · intro w
        exact absurd (hz 1 s (by decide) (by omega) (by omega)) (fun e => h1 e.symm)
    · rw [st q e]
  have o5 := (i6 o ho).2.2.2.2.2.1
  have hsep : ∀ i : Nat, i < sn X 6 → (sT X 6 3 i).toNat ≠ fOL X o := by
    intro i hi e
    have h3 := (i4 i hi).2.2.2.1
    unfold fOL at e
    rcases i7.2.2.1 i o hi ho (by omega) with q | q <;> omega
  have hse2 : ∀ q : Nat, q < sn X 8 → q ≠ o → fOL X q ≠ fOL X o := by
    intro q hq hne e
    have h5 := (i6 q hq).2.2.2.2.2.1
    unfold fOL at e
    exact hne (i7.1 q o hq ho (by omega))
  have eOL : ∀ q : Nat, fOL (fFr z X o) q = fOL X q := fun q => by unfold fOL; rw [fFr_sT (by omega) (by omega)]
  have eDL : ∀ q : Nat, fDelL (fFr z X o) q = fDelL X q := fun q => by unfold fDelL; rw [fFr_sT (by omega) (by omega)]
  have tlo : fTl (fFr z X o) o = [] := by
    unfold fTl
    rw [eOL, fFr_sE, if_pos ⟨rfl, rfl⟩]; rfl
  have tln : ∀ q : Nat, q < sn X 8 → q ≠ o → fTl (fFr z X o) q = fTl X q := fun q hq hne => by
    unfold fTl
    rw [eOL, fFr_sE, if_neg (fun w => hse2 q hq hne w.2)]
    exact List.map_congr_left (fun t _ => by rw [(u 7 (by decide)).2.1, (u 7 (by decide)).2.1])
  have edv : ∀ q : Nat, fDv (fFr z X o) q = fDv X q := fun q => by
    unfold fDv
    rw [eDL, (u 27 (by decide)).2.2]
    exact List.map_congr_left (fun t _ => by rw [(u 7 (by decide)).2.1, (u 7 (by decide)).2.1])
  have t0 : ∀ t ∈ sE X 26 (fOL X o), 0 ≤ sT X 7 0 t.toNat := fun t ht => by
    have := i5.1 (fOL X o) (by unfold fOL; omega) t ht
    exact (i5.2.2 t.toNat (by omega)).1.1
  have r65 : ∀ l : Nat, sT (fFr z X o) 6 5 l = sT X 6 5 l - pl (fTl X o) l := fun l => by
    rw [sT_set, if_neg (by omega)]
    unfold fTakeBack
    rw [sT_ssE]
    exact unresF _ X t0
  have hO := hR.O.2 o ho
  have r143 : ∀ l : Nat, sT (mFree Y o) 14 3 l = sT Y 14 3 l - pl (fTl X o) l := fun l => by
    unfold mFree
    rw [sT_set, if_neg (by omega), sT_ssE, sT_ssE, unresM _ Y (fun q hq => ?_), ← hO.2.2.1.1]
    · rfl
    · have hm : (q.1, sT Y 19 0 q.2.toNat) ∈ fTl X o := by
        rw [← hO.2.2.1.1]
        exact List.mem_map.mpr ⟨q, hq, rfl⟩
      obtain ⟨t, ht, e⟩ := List.mem_map.mp hm
      have e1 : sT X 7 0 t.toNat = q.1 := congrArg Prod.fst e
      rw [← e1]
      exact t0 t ht
  have enp : np (fFr z X o) = np X := by
    show (sE _ 21 0).length = (sE X 21 0).length
    rw [(u 21 (by decide)).2.2]
  have epc : ∀ q : Int, fPc (fFr z X o) q = fPc X q := fPc_congr ((u 21 (by decide)).2.2 0)
  have m15 : ∀ k q : Nat, k ≠ 5 → sT (mFree Y o) 15 k q = sT Y 15 k q := fun k q h => mF_sT (by omega) (by omega)
  have m155 : ∀ q : Nat, q ≠ o → sT (mFree Y o) 15 5 q = sT Y 15 5 q := fun q h => mF_sT (by omega) (by omega)
  have m155o : sT (mFree Y o) 15 5 o = 45 := by
    unfold mFree
    rw [sT_set, if_pos ⟨rfl, rfl, rfl⟩]
  have tn : ∀ q ∈ fTl X o, 0 ≤ q.2 := fun q hq => by
    obtain ⟨t, ht, rfl⟩ := List.mem_map.mp hq
    have := i5.1 (fOL X o) (by unfold fOL; omega) t ht
    have := (i5.2.2 t.toNat (by omega)).2.1
    show 0 ≤ sT X 7 1 t.toNat
    omega
  have mem26 : ∀ i : Nat, ∀ t ∈ sE (fFr z X o) 26 i, t ∈ sE X 26 i := fun i t ht => by
    rw [fFr_sE] at ht
    split at ht
    · cases ht
    · exact ht
  obtain ⟨s1, hs1, hs2, hs3, hs4, hs5⟩ := hO.2.1.1
  have e1 : s1 = 1 := hz s1 1 (by omega) (by decide) (by omega)
  subst e1
  refine ⟨⟨?_, ?_, ?_, ?_, ?_, ?_, ?_⟩, ⟨?_, i2.cg (u 2 (by decide)) (u 3 (by decide)) (u 4 (by decide)) (u 5 (by decide)) (u 21 (by decide)) (u 24 (by decide)) (u 25 (by decide)) (by rw [fFr_sn]; exact Nat.le_refl _), i3.cg (u 0 (by decide)) (u 1 (by decide)) (u 45 (by decide)).1, ?_, ?_, ?_, ?_, ?_, ?_, ?_, ?_, ?_, i14.cg (u 9 (by decide)) (u 28 (by decide)) (u 48 (by decide))⟩, ?_, ?_⟩
  · have hg := hR.G
    unfold rG at hg ⊢
    rw [(g 11 (by decide)).2.1, (g 11 (by decide)).2.1, (u 0 (by decide)).2.1, (u 0 (by decide)).2.1]
    exact hg
  · exact rM_congr (fun k i => (u 1 (by decide)).2.1 k i) (u 1 (by decide)).1 (fun k i => (g 12 (by decide)).2.1 k i) (g 12 (by decide)).1 hR.M
  · exact rP_congr (fun c k i hc => (u c (by omega)).2.1 k i) (fun c i hc => (u c (by omega)).2.2 i) (fun k i => (g 13 (by decide)).2.1 k i) (fun c i hc => (g c (by omega)).2.2 i) (g 13 (by decide)).1 hR.P
  · refine ⟨by rw [mF_sn, fFr_sn]; exact hR.L.1, fun i hi => ?_⟩
    rw [fFr_sn] at hi
    obtain ⟨⟨p, g1, g2, g3⟩, g4, g5, g6, g7, g8⟩ := hR.L.2 i hi
    refine ⟨⟨p, by rw [enp]; exact g1, by rw [mF_sT (by omega) (by omega)]; exact g2, by rw [fFr_sT (by omega) (by omega), epc]; exact g3⟩, ?_, ?_, ?_, ?_, ?_⟩
    · rw [mF_sT (by omega) (by omega), fFr_sT (by omega) (by omega)]; exact g4
    · rw [r143, r65, g5]
    · rw [mF_sT (by omega) (by omega), fFr_sT (by omega) (by omega)]; exact g6
    · rw [mF_sT (by omega) (by omega), fFr_sT (by omega) (by omega)]; exact g7
    · have e1 : fch (fFr z X o) i = fch X i := fch_congr (fFr_sT (by omega) (by omega)) (by rw [fFr_sE, if_neg (fun w => hsep i hi w.2)]) (fun t _ => (u 7 (by decide)).2.1 0 _)
      rw [e1, ← g8]
      unfold mch
      rw [mF_sT (by omega) (by omega), (g 41 (by decide)).2.2]
  · refine ⟨by rw [mF_sn, fFr_sn]; exact hR.O.1, fun q hq => ?_⟩
    rw [fFr_sn] at hq
    obtain ⟨g1, g2, g3, g4⟩ := hR.O.2 q hq
    refine ⟨rOa_congr (fun k hk => fFr_sT (by omega) (by omega)) ((u 21 (by decide)).2.2 0) (fun k hk => m15 k q (by omega)) g1, ?_, ?_, ?_⟩
    · by_cases e : q = o
      · subst e
        refine ⟨⟨0, by decide, fFr_87, m155o, ?_, ?_⟩, ?_, ?_, ?_, ?_⟩
        · rw [m15 13 q (by decide), hs4, if_neg (by omega), if_neg (by omega)]
        · rw [m15 14 q (by decide), hs5, if_neg (by decide), if_neg (by decide)]
        · rw [m15 8 q (by decide), fFr_sT (by omega) (by omega)]; exact g2.2.1
        · rw [m15 9 q (by decide), fFr_sT (by omega) (by omega)]; exact g2.2.2.1
        · rw [m15 11 q (by decide), fFr_sT (by omega) (by omega)]; exact g2.2.2.2.1
        · rw [m15 12 q (by decide), fFr_sT (by omega) (by omega)]; exact g2.2.2.2.2
      · exact rOb_congr (fun k hk => fFr_sT (by omega) (by omega)) (fun k hk => mF_sT (by omega) (by omega)) g2
    · by_cases e : q = o
      · subst e
        refine ⟨?_, ?_⟩
        · rw [tlo]
          unfold mTl mZs
          rw [mF_sE, if_pos ⟨Or.inl rfl, rfl⟩]
          rfl
        · rw [mF_sE, mF_sE, if_pos ⟨Or.inl rfl, rfl⟩, if_pos ⟨Or.inr rfl, rfl⟩]
      · refine ⟨?_, ?_⟩
        · rw [tln q hq e, mTl_congr (Y := Y) (by rw [mF_sE, if_neg (fun w => e w.2)]) (by rw [mF_sE, if_neg (fun w => e w.2)]) (fun x _ => (g 19 (by decide)).2.1 0 _)]
          exact g3.1
        · rw [mF_sE, mF_sE, if_neg (fun w => e w.2), if_neg (fun w => e w.2)]
          exact g3.2
    · exact rD_congr (eDL q) ((u 27 (by decide)).2.2 _) (fun t _ => ⟨(u 7 (by decide)).2.1 0 _, (u 7 (by decide)).2.1 2 _⟩) ((g 40 (by decide)).2.2 q) (m15 15 q (by decide)) g4
  · intro m hm
    rw [fFr_sn] at hm
    obtain ⟨a1, a2⟩ := hR.Q m hm
    rw [(u 45 (by decide)).2.2, fFr_sn]
    refine ⟨a1, fun x => (a2 x).trans ?_⟩
    rw [m15 10 _ (by decide)]
    by_cases e : x.toNat = o
    · rw [e, m155o, hs3]
      constructor
      · rintro ⟨b1, b2, b3, b4⟩; exact absurd (show (112 : Int) = 119 from b3) (by decide)
      · rintro ⟨b1, b2, b3, b4⟩; exact absurd b3 (by decide)
    · rw [m155 _ e]
  · exact rS_congr (fun x _ => ⟨(u 28 (by decide)).2.2 x, (u 9 (by decide)).2.1 0 x⟩) (fun d i hd => (g d (by omega)).2.2 i) (g 35 (by decide)).1 hR.S
  · unfold fFix at i1 ⊢
    have f0 := u 0 (by decide)
    rw [f0.1, f0.2.1, f0.2.1, f0.2.1, f0.2.1, f0.2.1, (u 20 (by decide)).2.2, (u 21 (by decide)).2.2, (u 22 (by decide)).2.2, (u 23 (by decide)).2.2, fFr_sn, fFr_sn, fFr_sn]
    exact i1
  · intro l hl
    rw [fFr_sn] at hl
    obtain ⟨a1, ⟨p, a2, a3⟩, a4, a5, a6, a7⟩ := i4 l hl
    rw [fFr_sT (by omega) (by omega), fFr_sT (by omega) (by omega), fFr_sT (by omega) (by omega), fFr_sT (by omega) (by omega), fFr_sT (by omega) (by omega), fFr_sn]
    refine ⟨a1, ⟨p, by rw [enp]; exact a2, by rw [epc]; exact a3⟩, a4, a5, a6, fun t ht => ?_⟩
    rw [(u 7 (by decide)).2.1]
    exact a7 t (mem26 _ t ht)
  · obtain ⟨a1, a2, a3⟩ := i5
    simp only [iTk, fFr_sn, (u 27 (by decide)).2.2, (u 7 (by decide)).2.1]
    exact ⟨fun i hi t ht => a1 i hi t (mem26 i t ht), a2, a3⟩
  · intro q hq
    rw [fFr_sn] at hq
    obtain ⟨a0, a1, a2, a3, a4, a5, a6, a7, a8, a9, a10, a11, a12, a13, a14, a15, a16⟩ := i6 q hq
    simp only [fFr_sn, enp, epc]
    have v : ∀ k : Nat, k ≠ 7 → sT (fFr z X o) 8 k q = sT X 8 k q := fun k hk => fFr_sT (by omega) (by omega)
    rw [v 0 (by decide), v 1 (by decide), v 2 (by decide), v 3 (by decide), v 4 (by decide), v 5 (by decide), v 6 (by decide), v 8 (by decide), v 9 (by decide), v 10 (by decide), v 11 (by decide), v 12 (by decide), v 13 (by decide), fFr_sT (c := 6) (k := 1) (by omega) (by omega)]
    by_cases e : q = o
    · subst e
      rw [fFr_87]
      refine ⟨a0, a1, a2, a3, a4, a5, a6, ⟨0, by decide, rfl⟩, a8, a9, a10, a11, a12, fun _ => Or.inl rfl, fun _ => a14 (Or.inr hst), fun _ _ => a15 (by omega) (by omega), a16⟩
    · rw [st q e]
      exact ⟨a0, a1, a2, a3, a4, a5, a6, a7, a8, a9, a10, a11, a12, a13, a14, a15, a16⟩
  · obtain ⟨a1, a2, a3, a4⟩ := i7
    have e85 : ∀ q : Nat, sT (fFr z X o) 8 5 q = sT X 8 5 q := fun q => fFr_sT (by omega) (by omega)
    have e86 : ∀ q : Nat, sT (fFr z X o) 8 6 q = sT X 8 6 q := fun q => fFr_sT (by omega) (by omega)
    have e63 : ∀ q : Nat, sT (fFr z X o) 6 3 q = sT X 6 3 q := fun q => fFr_sT (by omega) (by omega)
    simp only [iSp, fFr_sn, e85, e86, e63]
    refine ⟨a1, a2, fun l q hl hq h => ?_, a4⟩
    rw [st2 q 4 (by decide) (by decide) (by decide), st2 q 5 (by decide) (by decide) (by decide)]
    exact a3 l q hl hq h
  · have hq : ∀ j : Nat, fQok (fFr z X o) j ↔ fQok X j := fun j => by
      have v : ∀ k : Nat, k ≠ 7 → sT (fFr z X o) 8 k j = sT X 8 k j := fun k hk => fFr_sT (by omega) (by omega)
      unfold fQok fOpL
      rw [v 1 (by decide), v 9 (by decide), v 8 (by decide), (u 2 (by decide)).2.1, (u 25 (by decide)).2.2]
    obtain ⟨a1, a2, a3⟩ := i8
    simp only [iQw, hq, (u 1 (by decide)).1, (u 1 (by decide)).2.1, fFr_sn, (u 45 (by decide)).2.2]
    refine ⟨fun m hm x hx => ?_, fun m hm => ?_, a3⟩
    · rw [st2 _ 2 (by decide) (by decide) (by decide)]
      exact a1 m hm x hx
    · rw [st2 _ 3 (by decide) (by decide) (by decide)]
      exact a2 m hm
  · intro l hl
    rw [fFr_sn] at hl
    obtain ⟨a1, a2, a3⟩ := i9 l hl
    have b1 : fPr z X o = true := decide_eq_true hst
    have b2 : fPr z (fFr z X o) o = false := decide_eq_false (by rw [fFr_87]; omega)
    have b3 : ∀ q : Nat, q ≠ o → fPr z (fFr z X o) q = fPr z X q := fun q hq => by unfold fPr; rw [st q hq]
    have hp := pl_nn (l := l) tn
    have c1 : isum (sn X 8) (fun q => if fPr z (fFr z X o) q = true then pl (fTl (fFr z X o) q) l else 0) = isum (sn X 8) (fun q => if fPr z X q = true then pl (fTl X q) l else 0) + - pl (fTl X o) l := by
      have h1 : isum (sn X 8) (fun q => if fPr z (fFr z X o) q = true then pl (fTl (fFr z X o) q) l else 0) = isum (sn X 8) (fun q => if q = o then 0 else if fPr z X q = true then pl (fTl X q) l else 0) := isum_cg (fun q hq => by
        show (if fPr z (fFr z X o) q = true then pl (fTl (fFr z X o) q) l else 0) = if q = o then 0 else if fPr z X q = true then pl (fTl X q) l else 0
        by_cases e : q = o
        · rw [e, b2, if_pos rfl, if_neg (by decide)]
        · rw [b3 q e, if_neg e, tln q hq e])
      rw [h1]
      refine isum_up (j := o) ?_ (fun q hq => ?_) ho
      · show (if o = o then (0 : Int) else _) = (if fPr z X o = true then pl (fTl X o) l else 0) + - pl (fTl X o) l
        rw [if_pos rfl, if_pos b1]; omega
      · show (if q = o then (0 : Int) else _) = _
        rw [if_neg hq]
    have c2 : isum (sn X 8) (fun q => (if fPr z (fFr z X o) q = true then 0 else pl (fTl (fFr z X o) q) l) + pl (fDv (fFr z X o) q) l) = isum (sn X 8) (fun q => (if fPr z X q = true then 0 else pl (fTl X q) l) + pl (fDv X q) l) := isum_cg (fun q hq => by
        show (if fPr z (fFr z X o) q = true then 0 else pl (fTl (fFr z X o) q) l) + pl (fDv (fFr z X o) q) l = (if fPr z X q = true then 0 else pl (fTl X q) l) + pl (fDv X q) l
        rw [edv]
        by_cases e : q = o
        · rw [e, b2, b1, tlo, if_neg (by decide), if_pos rfl, pl_nil]
        · rw [b3 q e, tln q hq e])
    rw [r65, fFr_sn, fFr_sT (by omega) (by omega), fFr_sT (by omega) (by omega), c1, c2]
    exact ⟨by omega, by omega, a3⟩
  · have hu : ∀ q : Nat, fUw z (fFr z X o) q = fUw z X q := fun q => by
      unfold fUw fStg
      rw [decide_eq_decide.mpr (st2 q 2 (by decide) (by decide) (by decide)), decide_eq_decide.mpr (st2 q 3 (by decide) (by decide) (by decide))]
    have e66 : ∀ l : Nat, sT (fFr z X o) 6 6 l = sT X 6 6 l := fun l => fFr_sT (by omega) (by omega)
    have e810 : ∀ q : Nat, sT (fFr z X o) 8 10 q = sT X 8 10 q := fun q => fFr_sT (by omega) (by omega)
    unfold iCo fSumO fSumL fCoO at i10 ⊢
    simp only [hu, e66, e810, eDL, fFr_sn, (u 0 (by decide)).2.1, (u 7 (by decide)).2.1, (u 27 (by decide)).2.2]
    exact i10
  · intro q hq
    rw [fFr_sn] at hq
    obtain ⟨a1, a2, a3⟩ := i12 q hq
    rw [eOL, eDL, (u 27 (by decide)).2.2]
    have a2' : sT (fFr z X o) 8 7 q ≠ (z 5 : Nat) → sE X 27 (fDelL X q) = [] := fun h => a2 (fun w => h ((st2 q 5 (by decide) (by decide) (by decide)).mpr w))
    by_cases e : q = o
    · subst e
      rw [fFr_sE, if_pos ⟨rfl, rfl⟩]
      exact ⟨fun _ => rfl, a2', Nat.zero_le _⟩
    · rw [fFr_sE, if_neg (fun w => hse2 q hq e w.2)]
      refine ⟨?_, a2', a3⟩
      rw [st q e]
      exact a1
  · obtain ⟨a1, a2, a3, a4, a5⟩ := i13
    simp only [iCn, fFr_sn, (u 0 (by decide)).2.1, (u 28 (by decide)).2.2, st2 _ 4 (by decide) (by decide) (by decide), st2 _ 5 (by decide) (by decide) (by decide)]
    exact ⟨a1, a2, a3, a4, a5⟩
  · obtain ⟨s1, s2, s3, s4, s5⟩ := hS
    refine ⟨?_, ?_, ?_, fun q hq => ?_, ?_⟩
    · unfold mFix at s1 ⊢
      have f := g 11 (by decide)
      rw [f.1, f.2.1, f.2.1, f.2.1, f.2.1, f.2.1, f.2.1, (g 30 (by decide)).2.2, (g 31 (by decide)).2.2, (g 32 (by decide)).2.2, (g 33 (by decide)).2.2, mF_sn, mF_sn, mF_sn, mF_sn]
      exact s1
    · simp only [(g 13 (by decide)).1, (g 13 (by decide)).2.1, (g 36 (by decide)).2.2, (g 37 (by decide)).2.2, (g 46 (by decide)).1]
      exact s2
    · intro l hl
      rw [mF_sn] at hl
      rw [mF_sT (by omega) (by omega), mF_sT (by omega) (by omega), (g 41 (by decide)).2.2]
      exact s3 l hl
    · rw [mF_sn] at hq
      obtain ⟨w1, w2, w3, w4, w5, w6⟩ := s4 q hq
      rw [m15 0 q (by decide), m15 6 q (by decide), m15 7 q (by decide), m15 16 q (by decide), m15 10 q (by decide), mF_sn]
      refine ⟨w1, w2, w3, w4, w5, fun h => ?_⟩
      by_cases e : q = o
      · rw [e, m155o] at h
        exact absurd h (by decide)
      · rw [m155 q e] at h
        exact w6 h
    · simp only [mF_sn]
      exact s5
  · obtain ⟨b1, b2, b3⟩ := hB
    refine ⟨by rw [mF_sn]; exact b1, fun j hj => by rw [(g 19 (by decide)).2.1]; exact b2 j hj, fun q hq x hx => ?_⟩
    rw [mF_sn] at hq ⊢
    rw [mF_sE] at hx
    split at hx
    · cases hx
    · exact b3 q hq x hx
end ZBF
