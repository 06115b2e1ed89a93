/-! THE SIMULATION: behind a delivery both sides answer to each other -/
set_option maxRecDepth 100000
section ZCB7
variable {z : Nat → Nat} {k o m : Nat} {X T Y U : hS} {n left : Int} {es : List (Int × Int)}
theorem mZ_n {c : Nat} : sn (mDvZ U o m) c = sn U c := by
  show sn (mDvE U o m).1 c = _
  exact (mDv_keep _).1 c
theorem mZ_E {c i : Nat} (h : ¬ (c = 40 ∧ i = o)) : sE (mDvZ U o m) c i = sE U c i := by
  show sE (mDvE U o m).1 c i = _
  exact ((mDv_keep _).2.1 c i h).1
theorem mZ_40 : sE (mDvZ U o m) 40 o = sE (mDvE U o m).1 40 o := rfl
theorem mZ_U {c j i : Nat} (h : ¬ (c = 15 ∧ (j = 5 ∨ j = 14) ∧ i = o)) : sT (mDvZ U o m) c j i = sT (mDvE U o m).1 c j i := by
  unfold mDvZ
  rw [sT_set, if_neg (by omega), sT_set, if_neg (by omega)]
theorem mZ_T {c j i : Nat} (h : ¬ (c = 15 ∧ (j = 5 ∨ j = 14 ∨ j = 15) ∧ i = o)) (h14 : ¬ (c = 14 ∧ (j = 2 ∨ j = 4))) : sT (mDvZ U o m) c j i = sT U c j i := by
  rw [mZ_U (by omega)]
  exact (mDv_keep _).2.2 c j i h14 (by omega)
theorem mZ_155 : sT (mDvZ U o m) 15 5 o = 100 := by
  unfold mDvZ
  rw [sT_set, if_neg (by omega), sT_set, if_pos ⟨rfl, rfl, rfl⟩]
theorem mZ_1514 : sT (mDvZ U o m) 15 14 o = sT U 11 8 0 := by
  unfold mDvZ
  rw [sT_set, if_pos ⟨rfl, rfl, rfl⟩]
theorem pairDel (hz : zInj z) (hX : iAll z k X) (hk : k ≤ 1000) (hG : plG X T) (hR : rR z T Y) (ho : o < sn X 8) (hst : fDelOk z X o = true) (hO : esOk X o n es left) (he : tlD T (sn X 27) = es) (hS : mShape Y) (hB : mBox Y) (hU : mSrcI Y U) (hP : mdP X U o (mDvE U o m) (es, left)) :
    rR z (fDlZ z T o (sn X 27)) (mDvZ U o m) ∧ mShape (mDvZ U o m) ∧ mBox (mDvZ U o m) := by
  have hI := hG.inv hX
  obtain ⟨d4, d6, d7, d7o, d7n, d7a⟩ := dvF_of hX hk hG hO he
  have E6 := fun j i => (hG.ceq (c := 6) (by decide)).2.1 j i
  have n6 : sn T 6 = sn X 6 := (hG.ceq (c := 6) (by decide)).1
  have n8 : sn T 8 = sn X 8 := (hG.ceq (c := 8) (by decide)).1
  have e8 := fun j i => (hG.ceq (c := 8) (by decide)).2.1 j i
  have ho' : o < sn T 8 := by omega
  obtain ⟨oL1, oL2, oL3, oL4⟩ := hG.oL hX ho
  have z5 : ∀ s : Nat, s < 5 → (z 5 : Int) ≠ (z s : Nat) := fun s hs w => absurd (hz 5 s (by decide) (by omega) (by omega)) (by omega)
  have hemp : sE T 27 (fDelL T o) = [] := by
    rw [oL3, hG.e27 oL4]
    refine (hX.em o ho).2.1 (fun w => ?_)
    unfold fDelOk fStg at hst
    rw [w, decide_eq_false (z5 0 (by decide)), decide_eq_false (z5 4 (by decide)), Bool.and_false] at hst
    cases hst
  have stc : ((sT T 8 1 o).toNat % 2 = 1 ∧ sT T 8 7 o = (z 0 : Nat)) ∨ sT T 8 7 o = (z 4 : Nat) := by
    rw [e8, e8]
    unfold fDelOk fStg at hst
    rcases (Bool.or_eq_true _ _).mp hst with h | h
    · obtain ⟨h1, h2⟩ := (Bool.and_eq_true _ _).mp h
      exact Or.inl ⟨of_decide_eq_true h1, of_decide_eq_true h2⟩
    · exact Or.inr (of_decide_eq_true h)
  obtain ⟨p1, p2, p3, p4, p5⟩ := hP
  have p2 : ∀ l : Nat, sT (mDvE U o m).1 14 2 l = sT U 14 2 l - pl es l := p2
  have p3 : ∀ l : Nat, sT (mDvE U o m).1 14 4 l = sT U 14 4 l - pl (csL X es) l := p3
  have p4 : sE (mDvE U o m).1 40 o = sE U 40 o ++ es.map Prod.fst := p4
  have p5 : sT (mDvE U o m).1 15 15 o = sT U 15 15 o + ((csL X es).map Prod.snd).sum := p5
  obtain ⟨s1, s2, s3, s4, s5⟩ := hU
  have u := fun (c : Nat) (h : c ≠ 6 ∧ c ≠ 7 ∧ c ≠ 8 ∧ c ≠ 27) => dZ_c (z := z) (T := T) (o := o) (m := sn X 27) h
  have i7 := hI.sp
  have i6 := hI.or
  have dne : ∀ q : Nat, q < sn T 8 → q ≠ o → fDelL T q ≠ fDelL T o := fun q hq hne w => by
    have h1 := (i6 q hq).2.2.2.2.2.2.1
    have h2 := (i6 o ho').2.2.2.2.2.2.1
    unfold fDelL at w
    exact hne (i7.2.1 q o hq ho' (by omega))
  -- the model's side
  have Wn : ∀ c : Nat, c ≠ 42 → sn (mDvZ U o m) c = sn Y c := fun c h => by rw [mZ_n, s1 c h]
  have WE : ∀ c i : Nat, c ≠ 42 → ¬ (c = 40 ∧ i = o) → sE (mDvZ U o m) c i = sE Y c i := fun c i h h2 => by rw [mZ_E h2, s4 c i h]
  have WT : ∀ c j i : Nat, c ≠ 42 → ¬ (c = 15 ∧ (j = 5 ∨ j = 14 ∨ j = 15) ∧ i = o) → ¬ (c = 14 ∧ (j = 2 ∨ j = 4)) → sT (mDvZ U o m) c j i = sT Y c j i := fun c j i h h2 h3 => by rw [mZ_T h2 h3, s3 c j i h]
  have W142 : ∀ l : Nat, sT (mDvZ U o m) 14 2 l = sT Y 14 2 l - pl es l := fun l => by rw [mZ_U (by omega), p2, s3 14 2 l (by decide)]
  have W144 : ∀ l : Nat, sT (mDvZ U o m) 14 4 l = sT Y 14 4 l - pl (csL X es) l := fun l => by rw [mZ_U (by omega), p3, s3 14 4 l (by decide)]
  have W40 : sE (mDvZ U o m) 40 o = sE Y 40 o ++ es.map Prod.fst := by rw [mZ_40, p4, s4 40 o (by decide)]
  have W1515 : sT (mDvZ U o m) 15 15 o = sT Y 15 15 o + ((csL X es).map Prod.snd).sum := by rw [mZ_U (by omega), p5, s3 15 15 o (by decide)]
  have W155 : sT (mDvZ U o m) 15 5 o = 100 := mZ_155
  have W1514 : sT (mDvZ U o m) 15 14 o = sT Y 11 8 0 := by rw [mZ_1514, s3 11 8 0 (by decide)]
  generalize mDvZ U o m = W at *
  generalize hD : fDlZ z T o (sn X 27) = D at *
  have Dn : ∀ c : Nat, sn D c = sn T c := fun c => by rw [← hD]; exact dZ_n
  have v6 : ∀ q i : Nat, q ≠ 4 ∧ q ≠ 6 → sT D 6 q i = sT T 6 q i := fun q i h => by rw [← hD]; exact dZ_T (by omega) (by omega) (by omega)
  have v7 : ∀ q i : Nat, q ≠ 2 → sT D 7 q i = sT T 7 q i := fun q i h => by rw [← hD]; exact dZ_T (by omega) (by omega) (by omega)
  have v8 : ∀ q i : Nat, ¬ ((q = 7 ∨ q = 12) ∧ i = o) → sT D 8 q i = sT T 8 q i := fun q i h => by rw [← hD]; exact dZ_T (by omega) (by omega) (by omega)
  have D87 : sT D 8 7 o = (z 5 : Nat) := by rw [← hD]; exact dZ_87
  have D812 : sT D 8 12 o = sT T 0 6 0 := by rw [← hD]; exact dZ_812
  have D4 : ∀ l : Nat, sT D 6 4 l = sT X 6 4 l - pl es l := fun l => by rw [← hD, dZ_U (by omega)]; exact d4 l
  have D6 : ∀ l : Nat, sT D 6 6 l = sT X 6 6 l - pl (csL X es) l := fun l => by rw [← hD, dZ_U (by omega)]; exact d6 l
  have D72 : ∀ i : Nat, sT D 7 2 i = sT (fDlU T (sn X 27)) 7 2 i := fun i => by rw [← hD, dZ_U (by omega)]
  have DE : ∀ c i : Nat, ¬ (c = 27 ∧ i = fDelL T o) → sE D c i = sE T c i := fun c i h => by rw [← hD, dZ_E, if_neg h]
  have DEo : sE D 27 (fDelL T o) = sE T 27 (sn X 27) := by rw [← hD, dZ_E, if_pos ⟨rfl, rfl⟩]
  have E26 : ∀ i : Nat, sE D 26 i = sE T 26 i := fun i => DE 26 i (by omega)
  have epc : ∀ x : Int, fPc D x = fPc T x := fPc_congr ((u 21 (by decide)).2.2 0)
  have enp : np D = np T := by
    show (sE D 21 0).length = (sE T 21 0).length
    rw [DE 21 0 (by omega)]
  have eOL : ∀ q : Nat, fOL D q = fOL T q := fun q => congrArg Int.toNat (v8 5 q (by omega))
  have eDL : ∀ q : Nat, fDelL D q = fDelL T q := fun q => congrArg Int.toNat (v8 6 q (by omega))
  obtain ⟨⟨s, s6, hs7, hs5, hs13, hs14⟩, ob⟩ := (hR.O.2 o ho').2.1
  refine ⟨⟨?_, ?_, ?_, ?_, ?_, ?_, ?_⟩, ?_, ?_⟩
  · have hg := hR.G
    unfold rG at hg ⊢
    rw [WT 11 5 0 (by decide) (by omega) (by omega), WT 11 8 0 (by decide) (by omega) (by omega), (u 0 (by decide)).2.1, (u 0 (by decide)).2.1]
    exact hg
  · exact rM_congr (fun j i => (u 1 (by decide)).2.1 j i) (u 1 (by decide)).1 (fun j i => WT 12 j i (by decide) (by omega) (by omega)) (Wn 12 (by decide)) hR.M
  · exact rP_congr (fun c j i hc => (u c (by omega)).2.1 j i) (fun c i hc => (u c (by omega)).2.2 i) (fun j i => WT 13 j i (by decide) (by omega) (by omega)) (fun c i hc => WE c i (by omega) (by omega)) (Wn 13 (by decide)) hR.P
  · refine ⟨by rw [Dn, Wn 14 (by decide)]; exact hR.L.1, fun l hl => ?_⟩
    rw [Dn] at hl
    obtain ⟨⟨p, g1, g2, g3⟩, g4, g5, g6, g7, g8⟩ := hR.L.2 l hl
    have ech : fch D l = fch T l := fch_congr (v6 3 l (by decide)) (E26 _) (fun t _ => v7 0 _ (by decide))
    have emch : mch W l = mch Y l := by unfold mch; rw [WT 14 6 l (by decide) (by omega) (by omega), WE 41 _ (by decide) (by omega)]
    rw [ech, emch, D4, D6, v6 5 l (by decide), v6 7 l (by decide), v6 1 l (by decide), enp, W142, W144, WT 14 1 l (by decide) (by omega) (by omega), WT 14 3 l (by decide) (by omega) (by omega), WT 14 5 l (by decide) (by omega) (by omega)]
    rw [E6] at g4 g6
    simp only [epc]
    exact ⟨⟨p, g1, g2, g3⟩, by omega, g5, by omega, g7, g8⟩
  · refine ⟨by rw [Dn, Wn 15 (by decide)]; exact hR.O.1, fun q hq => ?_⟩
    rw [Dn] at hq
    obtain ⟨g1, g2, g3, g4⟩ := hR.O.2 q hq
    refine ⟨rOa_congr (fun i _ => v8 i q (by omega)) (DE 21 0 (by omega)) (fun i _ => WT 15 i q (by decide) (by omega) (by omega)) g1, ?_, ⟨?_, ?_⟩, ?_⟩
    · by_cases e : q = o
      · subst e
        refine ⟨⟨5, by decide, D87, W155, ?_, ?_⟩, ?_, ?_, ?_, ?_⟩
        · rw [WT 15 13 q (by decide) (by omega) (by omega), v8 1 q (by omega), v8 11 q (by omega), hs13]
          rcases stc with ⟨h1, h2⟩ | h2
          · rw [if_neg (by omega), if_neg (by omega)]
          · have hs4 : s = 4 := hz s 4 (by omega) (by decide) (by omega)
            subst hs4
            by_cases hm2 : (sT T 8 1 q).toNat % 2 = 0
            · rw [if_pos ⟨hm2, by decide⟩, if_pos ⟨hm2, by decide⟩]
            · rw [if_neg (by omega), if_neg (by omega)]
        · rw [W1514, D812, if_pos rfl]; exact hR.G.2
        · rw [WT 15 8 q (by decide) (by omega) (by omega), v8 8 q (by omega)]; exact ob.1
        · rw [WT 15 9 q (by decide) (by omega) (by omega), v8 9 q (by omega)]; exact ob.2.1
        · rw [WT 15 11 q (by decide) (by omega) (by omega), v8 10 q (by omega)]; exact ob.2.2.1
        · rw [WT 15 12 q (by decide) (by omega) (by omega), v8 13 q (by omega)]; exact ob.2.2.2
      · exact rOb_congr (fun i _ => v8 i q (by omega)) (fun i _ => WT 15 i q (by decide) (by omega) (by omega)) g2
    · rw [fTl_congr (eOL q) (E26 _) (fun t _ => ⟨v7 0 _ (by decide), v7 1 _ (by decide)⟩), mTl_congr (WE 38 q (by decide) (by omega)) (WE 39 q (by decide) (by omega)) (fun x _ => WT 19 0 _ (by decide) (by omega) (by omega))]
      exact g3.1
    · rw [WE 38 q (by decide) (by omega), WE 39 q (by decide) (by omega)]; exact g3.2
    · by_cases e : q = o
      · subst e
        obtain ⟨g5, g6⟩ := g4
        rw [hemp] at g5 g6
        have g5 : sE Y 40 q = [] := g5
        have g6 : sT Y 15 15 q = 0 := by
          rw [g6]
          unfold fDelSum
          rw [hemp]; rfl
        refine ⟨?_, ?_⟩
        · rw [W40, g5, List.nil_append, eDL, DEo, ← he]
          unfold tlD
          rw [List.map_map]
          exact List.map_congr_left (fun t _ => (v7 0 _ (by decide)).symm)
        · rw [W1515, g6]
          unfold fDelSum
          rw [eDL, DEo, List.take_length, ← d7, Int.zero_add]
          exact congrArg List.sum (List.map_congr_left (fun t _ => (D72 t.toNat).symm))
      · have hq8 : q < sn X 8 := by omega
        obtain ⟨-, -, q3, q4⟩ := hG.oL hX hq8
        refine rD_congr (eDL q) (DE 27 _ (fun w => dne q hq e w.2)) (fun t ht => ⟨v7 0 _ (by decide), ?_⟩) (WE 40 q (by decide) (by omega)) (WT 15 15 q (by decide) (by omega) (by omega)) g4
        rw [q3, hG.e27 q4] at ht
        have := hX.tk.2.1 _ q4 t ht
        rw [D72, d7o _ (by omega), hG.2.2.2.2.2.1 2 _ (by omega)]
  · intro j hj
    rw [Dn] at hj
    obtain ⟨a1, a2⟩ := hR.Q j hj
    rw [DE 45 j (by omega), Dn]
    refine ⟨a1, fun x => (a2 x).trans ?_⟩
    have no : sT Y 15 5 o ≠ 119 := by
      rw [hs5]
      rcases stc with ⟨-, h2⟩ | h2
      · have hs4 : s = 0 := hz s 0 (by omega) (by decide) (by omega)
        rw [hs4]; decide
      · have hs4 : s = 4 := hz s 4 (by omega) (by decide) (by omega)
        rw [hs4]; decide
    by_cases ex : x.toNat = o
    · constructor
      · rintro ⟨c1, c2, c3, c4⟩
        rw [ex] at c3
        exact absurd c3 no
      · rintro ⟨c1, c2, c3, c4⟩
        rw [ex, W155] at c3
        omega
    · rw [WT 15 5 _ (by decide) (by omega) (by omega), WT 15 10 _ (by decide) (by omega) (by omega)]
  · exact rS_congr (fun x _ => ⟨DE 28 x (by omega), (u 9 (by decide)).2.1 0 x⟩) (fun c i hc => WE c i (by omega) (by omega)) (Wn 35 (by decide)) hR.S
  · obtain ⟨y1, y2, y3, y4, y5, y6, y7, y8, y9, y10⟩ := hS
    refine ⟨?_, fun p hp => ?_, fun l hl => ?_, fun j hj => ?_, by rw [Wn 36 (by decide), Wn 13 (by decide)]; exact y5, by rw [Wn 37 (by decide), Wn 13 (by decide)]; exact y6, by rw [Wn 41 (by decide), Wn 14 (by decide)]; exact y7, by rw [Wn 38 (by decide), Wn 15 (by decide)]; exact y8, by rw [Wn 39 (by decide), Wn 15 (by decide)]; exact y9, by rw [Wn 40 (by decide), Wn 15 (by decide)]; exact y10⟩
    · unfold mFix at y1 ⊢
      rw [Wn 11 (by decide), WT 11 1 0 (by decide) (by omega) (by omega), WT 11 2 0 (by decide) (by omega) (by omega), WT 11 3 0 (by decide) (by omega) (by omega), WT 11 4 0 (by decide) (by omega) (by omega), WT 11 6 0 (by decide) (by omega) (by omega), WT 11 7 0 (by decide) (by omega) (by omega), WE 30 0 (by decide) (by omega), WE 31 0 (by decide) (by omega), WE 32 0 (by decide) (by omega), WE 33 0 (by decide) (by omega), Wn 12 (by decide), Wn 13 (by decide), Wn 14 (by decide), Wn 15 (by decide)]
      exact y1
    · rw [Wn 13 (by decide)] at hp
      rw [WT 13 2 p (by decide) (by omega) (by omega), WT 13 3 p (by decide) (by omega) (by omega), WT 13 0 p (by decide) (by omega) (by omega), WE 36 p (by decide) (by omega), WE 37 p (by decide) (by omega), Wn 46 (by decide)]
      exact y2 p hp
    · rw [Wn 14 (by decide)] at hl
      rw [WT 14 0 l (by decide) (by omega) (by omega), WT 14 6 l (by decide) (by omega) (by omega), WE 41 l (by decide) (by omega)]
      exact y3 l hl
    · rw [Wn 15 (by decide)] at hj
      obtain ⟨w1, w2, w3, w4, w5, w6⟩ := y4 j hj
      rw [WT 15 0 j (by decide) (by omega) (by omega), WT 15 6 j (by decide) (by omega) (by omega), WT 15 7 j (by decide) (by omega) (by omega), WT 15 16 j (by decide) (by omega) (by omega), WT 15 10 j (by decide) (by omega) (by omega), Wn 12 (by decide)]
      refine ⟨w1, w2, w3, w4, w5, fun w => ?_⟩
      by_cases e : j = o
      · rw [e, W155] at w
        omega
      · rw [WT 15 5 j (by decide) (by omega) (by omega)] at w
        exact w6 w
  · obtain ⟨b1, b2, b3⟩ := hB
    refine ⟨by rw [Wn 19 (by decide)]; exact b1, fun j hj => by rw [WT 19 0 j (by decide) (by omega) (by omega)]; exact b2 j hj, fun j hj x hx => ?_⟩
    rw [Wn 15 (by decide)] at hj
    rw [WE 39 j (by decide) (by omega)] at hx
    rw [Wn 19 (by decide)]
    exact b3 j hj x hx
end ZCB7
