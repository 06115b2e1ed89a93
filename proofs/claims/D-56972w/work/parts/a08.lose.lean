/-! Foundrymark: losePromises, hold -/
set_option maxRecDepth 100000
section ZLP
variable {g : zG} {w0 : hG} {z : Nat → Nat} {σ : zS} {gh : Nat → Nat → Nat} {S : hS} {J : zw_W} {a b o : Nat}
def fPr (z : Nat → Nat) (S : hS) (o : Nat) : Bool := decide (sT S 8 7 o = (z 1 : Nat))
def fLotOf (S : hS) (t : Int) : Nat := (sT S 7 0 t.toNat).toNat
def fAnyQ (z : Nat → Nat) (S : hS) (o q : Nat) : Bool := fPr z S o && ((sE S 26 (fOL S o)).take q).any (fun t => tHeld (fh S) (fch S) 100 (fLotOf S t))
def fSumQ (z : Nat → Nat) (S : hS) (o q : Nat) : Nat := if fPr z S o = true then (((sE S 26 (fOL S o)).take q).map (fun t => tN (fch S) 100 (fLotOf S t))).sum else 0
theorem fAnyQ_succ {q y : Nat} (h : (sE S 26 (fOL S o))[q]? = some (y : Int)) : fAnyQ z S o (q + 1) = (fAnyQ z S o q || (fPr z S o && tHeld (fh S) (fch S) 100 (fLotOf S y))) := by
  unfold fAnyQ
  rw [take_snoc h, List.any_append, List.any_cons, List.any_nil, Bool.or_false, Bool.and_or_distrib_left]
theorem fSumQ_succ {q y : Nat} (h : (sE S 26 (fOL S o))[q]? = some (y : Int)) : fSumQ z S o (q + 1) = fSumQ z S o q + (if fPr z S o = true then tN (fch S) 100 (fLotOf S y) else 0) := by
  unfold fSumQ
  rw [take_snoc h]
  split
  · simp
  · rfl
theorem F_losePromises (H : hRep g w0 σ gh S J) (C : hCon g w0 z) (hF : fFix S) (hW : fW S) (hT : fTk S) (hO : fOrd z S) (ha : hat gh S 0 0 a) :
    ∃ σ' : zS, zEnd g 104 89 [.ref a] σ (.inl (some (iv (fLoseN z S (sn S 8)).2.1))) σ' ∧ hRep g w0 σ' gh (fLoseN z S (sn S 8)).1 J ∧ kc σ σ' (fLoseN z S (sn S 8)).2.2 (4 * (fLoseN z S (sn S 8)).2.2) := by
  obtain ⟨f0, f1, f2, f3, f4, f5, f6, f7, f8, f9, fa, fb, fc, fd⟩ := hF
  have main : zW g 104 89 0 (lv_args 0 [.ref a]) [] σ (fun r σ' => r = .inl (some (iv (fLoseN z S (sn S 8)).2.1)) ∧ hRep g w0 σ' gh (fLoseN z S (sn S 8)).1 J ∧ kc σ σ' (fLoseN z S (sn S 8)).2.2 (4 * (fLoseN z S (sn S 8)).2.2)) := by
    refine zW_p 3 rfl ?_
    refine hW_getr H rfl ha rfl rfl rfl f4 (fun b0 hb0 => ?_)
    refine hW_iter H rfl rfl rfl hb0 rfl rfl rfl (by omega) (fun σ1 it hJ H1 k1 => ?_)
    refine zW_p 1 rfl ?_
    refine zW_lv ((2, .ref it) :: [(0, .ref a), (1, iv (fLoseN z S 0).2.1)]) rfl ⟨rfl, rfl, rfl, trivial⟩ ?_
    refine hW_loop (c := 23) (i := 0) (b := b0) (n := 8) (xs := sE S 23 0) (mc := Int32.ofInt (sM S 23 0)) (fun p lv κ gh' S' => lv = [(0, .ref a), (1, iv (fLoseN z S p).2.1)] ∧ gh' = gh ∧ S' = (fLoseN z S p).1 ∧ kd σ.2 κ (fLoseN z S p).2.2 (4 * (fLoseN z S p).2.2)) hJ rfl rfl rfl (fun _ => rfl) rfl rfl rfl (fun _ => rfl) (fun _ => rfl) rfl rfl rfl (by omega) ?_ ?_ ?_ _ _ _ _ H1 ⟨rfl, rfl, rfl, k1⟩
    · rintro p lv κ gh' S' ⟨rfl, rfl, rfl, hk⟩
      obtain ⟨i1, i2, i3, i4, i5, i6, i7⟩ := fLoseN_I hW hT hO p
      exact ⟨⟨by rw [i4]; exact hb0.1, hb0.2⟩, i5 _ _ (by decide), by rw [i6 _ _ (by decide)]⟩
    · rintro p y lv σ2 gh' S' J2 e hp hy ⟨rfl, rfl, rfl, hk⟩ H2 hd he hback
      rw [f8, idl_len] at hp
      rw [f8, idl_at hp] at hy
      obtain rfl : p = y := by have := Option.some.inj hy; omega
      obtain ⟨i1, i2, i3, i4, i5, i6, i7⟩ := fLoseN_I hW hT hO p
      have hs : fLoseN z S (p + 1) = fLoseStep z (fLoseN z S p) p := fLoseN_succ
      generalize hL : fLoseN z S p = L at i1 i2 i3 i4 i5 i6 i7 H2 he hk hs
      obtain ⟨T, mn, ct⟩ := L
      simp only at i1 i2 i3 i4 i5 i6 i7 H2 he hk hs
      have ha' : hat gh' T 0 0 a := ⟨by rw [i4]; exact ha.1, ha.2⟩
      obtain ⟨o1, o2, o3, s, s6, hs7⟩ := i3 p he.1
      have hm : sT T 8 5 p = (fOL T p : Nat) := (Int.toNat_of_nonneg o2).symm
      refine hW_cast H2 rfl he rfl rfl rfl ?_
      refine zW_p 4 rfl ?_
      refine hW_getr H2 rfl he rfl rfl rfl hm (fun b1 hb1 => ?_)
      refine hW_iter H2 rfl rfl rfl hb1 rfl rfl rfl (by omega) (fun σ3 it2 hJ3 H3 k3 => ?_)
      refine zW_p 1 rfl ?_
      refine zW_lv ((5, .ref it2) :: [(0, .ref a), (1, iv mn), (2, .ref it), (3, .ref e), (4, iv (bi (fAnyQ z T p 0)))]) rfl ⟨rfl, rfl, rfl, rfl, rfl, by unfold fAnyQ; rw [List.take_zero, List.any_nil, Bool.and_false]; rfl, trivial⟩ ?_
      refine hW_loop (c := 26) (i := fOL T p) (b := b1) (n := 7) (xs := sE T 26 (fOL T p)) (mc := Int32.ofInt (sM T 26 (fOL T p))) (fun q lv κ gh'' S'' => lv = [(0, .ref a), (1, iv mn), (2, .ref it), (3, .ref e), (4, iv (bi (fAnyQ z T p q)))] ∧ gh'' = gh' ∧ S'' = T ∧ kd σ3.2 κ (fSumQ z T p q) (4 * fSumQ z T p q)) hJ3 rfl rfl rfl (fun _ => rfl) rfl rfl rfl (fun _ => rfl) (fun _ => rfl) rfl rfl rfl (by omega) ?_ ?_ ?_ _ _ _ _ H3 ⟨rfl, rfl, rfl, by
        have : fSumQ z T p 0 = 0 := by unfold fSumQ; rw [List.take_zero]; split <;> rfl
        rw [this]; exact kd.rfl'⟩
      · rintro q lv κ gh'' S'' ⟨rfl, rfl, rfl, hk2⟩
        exact ⟨hb1, rfl, rfl⟩
      · rintro q y lv σ4 gh'' S'' J4 e2 hq hy2 ⟨rfl, rfl, rfl, hk2⟩ H4 hd4 he2 hback2
        obtain ⟨x, hx⟩ : ∃ x : Nat, sT S'' 7 0 y = x := ⟨(sT S'' 7 0 y).toNat, (Int.toNat_of_nonneg (i2 y he2.1)).symm⟩
        have hlx : fLotOf S'' y = x := by unfold fLotOf; rw [Int.toNat_natCast, hx, Int.toNat_natCast]
        have hA := fAnyQ_succ (z := z) hy2
        have hB := fSumQ_succ (z := z) hy2
        rw [hlx] at hA hB
        have back : ∀ (r : Bool) (σ5 : zS) (ex : Nat) (lv : zp_L), hRep g w0 σ5 gh'' S'' J4 → r = fAnyQ z S'' p (q + 1) → kd σ4.2 σ5.2 ex (4 * ex) → fSumQ z S'' p q + ex ≤ fSumQ z S'' p (q + 1) → lvok [(0, .ref a), (1, iv mn), (2, .ref it), (3, .ref e), (5, .ref it2)] lv → zW g 104 89 94 lv [iv (bi r)] σ5 (fun r σ' => r = .inl (some (iv (fLoseN z S (sn S 8)).2.1)) ∧ hRep g w0 σ' gh'' (fLoseN z S (sn S 8)).1 J ∧ kc σ σ' (fLoseN z S (sn S 8)).2.2 (4 * (fLoseN z S (sn S 8)).2.2)) := by
          intro r σ5 ex lv H5 hr hk5 hle hlv
          refine zW_ly hlv rfl ?_
          refine zW_p 2 rfl ?_
          refine zW_lv ((5, .ref it2) :: [(0, .ref a), (1, iv mn), (2, .ref it), (3, .ref e), (4, iv (bi r))]) rfl ⟨rfl, rfl, rfl, rfl, rfl, rfl, trivial⟩ ?_
          refine hback2 _ σ5 _ _ H5 ⟨by rw [hr], rfl, rfl, (hk2.trans hk5).mono hle (by omega)⟩
        refine hW_cast H4 rfl he2 rfl rfl rfl ?_
        refine zW_p 2 rfl ?_
        cases hany : fAnyQ z S'' p q with
        | true =>
          rw [hany] at hA
          refine zW_p 3 rfl ?_
          exact back true σ4 0 _ H4 (by rw [hA]; rfl) kd.rfl' (by omega) ⟨rfl, rfl, rfl, rfl, rfl, trivial⟩
        | false =>
          rw [hany] at hA
          refine zW_p 2 rfl ?_
          refine hW_get H4 rfl he rfl rfl rfl ?_
          rw [hs7, ← convC]
          refine aW_stat rfl rfl (C.1 1 (by decide)).1 ?_
          by_cases hp1 : s = 1
          · subst hp1
            have hpr : fPr z S'' p = true := by unfold fPr; rw [hs7]; exact decide_eq_true rfl
            rw [hpr, Bool.true_and, Bool.false_or] at hA
            rw [hpr, if_pos rfl] at hB
            refine zW_f rfl rfl (fun q => q rfl) ?_
            refine zW_p 1 rfl ?_
            refine hW_getr (j := x) H4 rfl he2 rfl rfl rfl hx (fun b5 hb5 => ?_)
            have hx100 : x < 100 := by have := hb5.1; rw [i4] at this; omega
            obtain ⟨σ6, g6, H6, k6⟩ := F_isHeld 100 hx100 H4 hb5 i1
            refine wV rfl rfl rfl rfl rfl rfl rfl (H4.rc hb5 rfl rfl) g6 (by omega) ?_
            cases hh : tHeld (fh S'') (fch S'') 100 x with
            | true =>
              refine zW_p 3 rfl ?_
              exact back true σ6 _ _ H6 (by rw [hA, hh]) k6 (by rw [hB]; exact Nat.le_refl _) ⟨rfl, rfl, rfl, rfl, rfl, trivial⟩
            | false =>
              refine zW_p 2 rfl ?_
              exact back false σ6 _ _ H6 (by rw [hA, hh]) k6 (by rw [hB]; exact Nat.le_refl _) ⟨rfl, rfl, rfl, rfl, rfl, trivial⟩
          · have hpr : fPr z S'' p = false := by
              unfold fPr
              rw [hs7]
              exact decide_eq_false (fun q => hp1 (C.inj (by omega) (by decide) (by exact_mod_cast q)))
            rw [hpr, Bool.false_and, Bool.false_or] at hA
            refine zW_t rfl rfl (fun q => hp1 (C.inj (by omega) (by decide) q)) ?_
            refine zW_p 1 rfl ?_
            exact back false σ4 0 _ H4 (by rw [hA]) kd.rfl' (by omega) ⟨rfl, rfl, rfl, rfl, rfl, trivial⟩
      · rintro lv σ4 gh'' S'' H4 ⟨rfl, rfl, rfl, hk2⟩
        have hany : fAnyQ z S'' p (sE S'' 26 (fOL S'' p)).length = fLoses z S'' p := by unfold fAnyQ fLoses; rw [List.take_length]; rfl
        have hsum : 1 + fSumQ z S'' p (sE S'' 26 (fOL S'' p)).length = fLoseC z S'' p := by
          unfold fSumQ fLoseC fPr
          rw [List.take_length]
          by_cases hh : sT S'' 8 7 p = (z 1 : Nat)
          · rw [if_pos hh, if_pos (decide_eq_true hh)]; rfl
          · rw [if_neg hh, if_neg (by rw [decide_eq_false hh]; decide)]
        rw [hany]
        have hk4 : kd σ.2 σ4.2 (ct + fLoseC z S'' p) (4 * (ct + fLoseC z S'' p)) := ((hk.trans k3).trans hk2).mono (by omega) (by omega)
        unfold fLoseStep at hs
        simp only at hs
        cases hl : fLoses z S'' p with
        | false =>
          rw [hl, if_neg (by decide)] at hs
          refine zW_p 3 rfl ?_
          refine zW_lv ((2, .ref it) :: [(0, .ref a), (1, iv mn)]) rfl ⟨rfl, rfl, rfl, trivial⟩ ?_
          exact hback _ σ4 _ _ H4 ⟨by rw [hs], rfl, by rw [hs], by rw [hs]; exact hk4⟩
        | true =>
          rw [hl, if_pos rfl] at hs
          refine zW_p 4 rfl ?_
          obtain ⟨σ5, g5, H5, k5⟩ := F_takeBack (a := a) H4 i2 he o2
          refine wV rfl rfl rfl rfl rfl rfl rfl (H4.rc ha' rfl rfl) g5 (by omega) ?_
          refine zW_p 1 rfl ?_
          refine aW_stat rfl rfl (C.1 0 (by decide)).1 ?_
          have he5 : hat gh'' (fTakeBack S'' p) 8 p e := ⟨by rw [fTB_sn]; exact he.1, he.2⟩
          refine hW_put (v := (z 0 : Nat)) H5 rfl he5 rfl rfl rfl (Or.inl rfl) rfl rfl convC alv4 (fun _ => Or.inl (by decide)) (fun σ6 H6 e6 => ?_)
          refine zW_p 1 rfl ?_
          rw [I_add]
          refine zW_p 1 rfl ?_
          refine zW_lv ((2, .ref it) :: [(0, .ref a), (1, iv ((mn + 1 : Nat) : Int))]) rfl ⟨rfl, rfl, rfl, trivial⟩ ?_
          exact hback _ σ6 _ _ H6 ⟨by rw [hs], rfl, by rw [hs], by rw [hs]; exact ((hk4.trans k5).trans (kc.of e6)).mono (by show _ ≤ ct + fLoseC z S'' p + 1; omega) (by show _ ≤ 4 * (ct + fLoseC z S'' p + 1); omega)⟩
    · rintro lv σ2 gh' S' H2 ⟨rfl, rfl, rfl, hk⟩
      rw [f8, idl_len] at H2 hk ⊢
      refine zW_p 1 rfl ?_
      exact zW_reti rfl rfl rfl ⟨rfl, H2, hk⟩
  obtain ⟨r, σ', h1, rfl, h2, h3⟩ := main
  exact ⟨σ', h1, h2, h3⟩
def fHold (z : Nat → Nat) (S : hS) (i : Nat) (on : Bool) : hS × Nat × Nat := fLoseN z (sset S 6 7 i (bi on)) (sn S 8)
theorem fW_hold {i : Nat} {on : Bool} (h : fW S) : fW (sset S 6 7 i (bi on)) := by
  intro j hj
  obtain ⟨w1, w2, w3⟩ := h j hj
  refine ⟨?_, by rw [sT_set, if_neg (by omega)]; exact w2, ?_⟩
  · rw [sT_set]
    split
    · cases on
      · exact Or.inl rfl
      · exact Or.inr rfl
    · exact w1
  · intro t ht
    rw [sT_set, if_neg (by omega)] at ht ⊢
    exact w3 t ht
theorem F_hold {i : Nat} {on : Bool} (H : hRep g w0 σ gh S J) (C : hCon g w0 z) (hF : fFix S) (hW : fW S) (hT : fTk S) (hO : fOrd z S) (ha : hat gh S 0 0 a) (hi : i < sn S 6) :
    ∃ σ' : zS, zEnd g 106 88 [.ref a, iv i, iv (bi on)] σ (.inl (some (iv (fHold z S i on).2.1))) σ' ∧ hRep g w0 σ' gh (fHold z S i on).1 J ∧ kc σ σ' (fHold z S i on).2.2 (4 * (fHold z S i on).2.2) := by
  obtain ⟨b, hb, g1⟩ := F_lot H hF ha hi
  unfold fHold
  have main : zW g 106 88 0 (lv_args 0 [.ref a, iv i, iv (bi on)]) [] σ (fun r σ' => r = .inl (some (iv (fLoseN z (sset S 6 7 i (bi on)) (sn S 8)).2.1)) ∧ hRep g w0 σ' gh (fLoseN z (sset S 6 7 i (bi on)) (sn S 8)).1 J ∧ kc σ σ' (fLoseN z (sset S 6 7 i (bi on)) (sn S 8)).2.2 (4 * (fLoseN z (sset S 6 7 i (bi on)) (sn S 8)).2.2)) := by
    refine zW_p 2 rfl ?_
    refine wV rfl rfl rfl rfl rfl rfl rfl (H.rc ha rfl rfl) g1 (by omega) ?_
    refine zW_p 1 rfl ?_
    refine hW_put (v := bi on) H rfl hb rfl rfl rfl (Or.inl rfl) (by cases on <;> rfl) (by cases on <;> rfl) rfl alv0 (fun e => absurd e (by decide)) (fun σ1 H1 e1 => ?_)
    refine zW_p 1 rfl ?_
    obtain ⟨σ2, g2, H2, k2⟩ := F_losePromises H1 C (show fFix (sset S 6 7 i (bi on)) from hF) (fW_hold hW) (fun t ht => by rw [sT_set, if_neg (by omega)]; exact hT t ht) (fun o ho => by rw [sT_set, if_neg (by omega), sT_set, if_neg (by omega), sT_set, if_neg (by omega), sT_set, if_neg (by omega)]; exact hO o ho) (show hat gh (sset S 6 7 i (bi on)) 0 0 a from ha)
    refine wV rfl rfl rfl rfl rfl rfl rfl (H1.rc (show hat gh (sset S 6 7 i (bi on)) 0 0 a from ha) rfl rfl) g2 (by omega) ?_
    have k2' : kc σ1 σ2 (fLoseN z (sset S 6 7 i (bi on)) (sn S 8)).2.2 (4 * (fLoseN z (sset S 6 7 i (bi on)) (sn S 8)).2.2) := k2
    exact zW_reti rfl rfl rfl ⟨rfl, H2, ((kc.of e1).trans k2').mono (by omega) (by omega)⟩
  obtain ⟨r, σ', h1, rfl, h2, h3⟩ := main
  exact ⟨σ', h1, h2, h3⟩
end ZLP
