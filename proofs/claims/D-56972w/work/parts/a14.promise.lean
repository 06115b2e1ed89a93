/-! Foundrymark: reserveAll, promise, withdraw -/
set_option maxRecDepth 100000
abbrev fAst : Type := hS × Bool × Nat × Nat
def fRAstep (o m : Nat) (s : fAst) (k : Int) : fAst := if s.2.1 = false then s else if fFor s.1 k.toNat (sT s.1 8 3 o) = true then ((fResN s.1 m (sT s.1 4 0 k.toNat) (sT s.1 8 2 o * sT s.1 4 1 k.toNat) (sn s.1 6)).1, decide ((fResN s.1 m (sT s.1 4 0 k.toNat) (sT s.1 8 2 o * sT s.1 4 1 k.toNat) (sn s.1 6)).2.1 ≤ 0), s.2.2.1 + (fResN s.1 m (sT s.1 4 0 k.toNat) (sT s.1 8 2 o * sT s.1 4 1 k.toNat) (sn s.1 6)).2.2.1 + 1, s.2.2.2 + (fResN s.1 m (sT s.1 4 0 k.toNat) (sT s.1 8 2 o * sT s.1 4 1 k.toNat) (sn s.1 6)).2.2.2 + 6) else s
/-- the components of an order's part -/
def fComps (S : hS) (o : Nat) : List Int := sE S 24 (sT S 2 7 ((sT S 8 1 o).toNat / 2)).toNat
def fRAN (S : hS) (o p : Nat) : fAst := ((fComps S o).take p).foldl (fRAstep o (fOL S o)) (S, true, 1, 4)
def fRA (z : Nat → Nat) (S : hS) (o : Nat) : fAst := if (fRAN S o (fComps S o).length).2.1 = true then (sset (fRAN S o (fComps S o).length).1 8 7 o (z 1 : Nat), true, (fRAN S o (fComps S o).length).2.2) else (fTakeBack (fRAN S o (fComps S o).length).1 o, false, (fRAN S o (fComps S o).length).2.2.1 + 1, (fRAN S o (fComps S o).length).2.2.2 + 4)
theorem fRA_stop {o m : Nat} {s : fAst} (h : s.2.1 = false) : ∀ xs : List Int, xs.foldl (fRAstep o m) s = s
  | [] => rfl
  | x :: xs => by
    rw [List.foldl_cons]
    have : fRAstep o m s x = s := by unfold fRAstep; rw [if_pos h]
    rw [this]
    exact fRA_stop h xs
theorem fResI.trans {S T U : hS} {m : Nat} (h : fResI S T m) (h2 : fResI T U m) : fResI S U m := by
  obtain ⟨a1, a2, a3, a4, a5, a6, a7, a8, a9⟩ := h
  obtain ⟨b1, b2, b3, b4, b5, b6, b7, b8, b9⟩ := h2
  exact ⟨b1, b2, b3, b4, fun c hc => (b5 c hc).trans (a5 c hc), Nat.le_trans a6 b6, fun c i hc hi => (b7 c i hc hi).trans (a7 c i hc hi), fun c i hc hc2 => (b8 c i hc hc2).trans (a8 c i hc hc2), fun c k i hc hk => (b9 c k i hc hk).trans (a9 c k i hc hk)⟩
theorem fResI.le {S T : hS} {m : Nat} (h : fResI S T m) : ∀ c, sn S c ≤ sn T c := fun c => by
  by_cases e : c = 7
  · rw [e]; exact h.2.2.2.2.2.1
  · rw [h.2.2.2.2.1 c e]; exact Nat.le_refl _
/-- components, and the order, are well -/
def fCmp (S : hS) : Prop := ∀ k : Nat, k < sn S 4 → rg (sT S 4 0 k) ∧ (1 ≤ sT S 4 1 k ∧ sT S 4 1 k ≤ 9) ∧ rg (sT S 4 2 k)
def fOq (S : hS) (o : Nat) : Prop := (1 ≤ sT S 8 2 o ∧ sT S 8 2 o ≤ 100) ∧ rg (sT S 8 3 o) ∧ 0 ≤ sT S 8 1 o ∧ 0 ≤ sT S 8 5 o
section ZRA
variable {g : zG} {w0 : hG} {z : Nat → Nat} {σ : zS} {gh : Nat → Nat → Nat} {S T : hS} {J : zw_W} {a b o : Nat}
theorem F_reserveAll (H : hRep g w0 σ gh S J) (C : hCon g w0 z) (hF : fFix S) (hW : fW S) (hA : fAv S) (hT : fTk S) (hP : fPart S) (hC : fCmp S) (hQ : fOq S o) (hmd : (sT S 8 1 o).toNat % 2 = 0) (hSp : fSep S (fOL S o)) (hem : sE S 26 (fOL S o) = []) (ha : hat gh S 0 0 a) (hb : hat gh S 8 o b) :
    zM g 106 112 [.ref a, .ref b] σ (fun r σ' => r = .inl (some (iv (bi (fRA z S o).2.1))) ∧ ∃ ghx, gext S gh ghx ∧ hRep g w0 σ' ghx (fRA z S o).1 J ∧ kc σ σ' (fRA z S o).2.2.1 (fRA z S o).2.2.2 ∧ fResI S (fRAN S o (fComps S o).length).1 (fOL S o)) := by
  obtain ⟨hq, ho3, ho1, ho5⟩ := hQ
  have hm : sT S 8 5 o = (fOL S o : Nat) := (Int.toNat_of_nonneg ho5).symm
  have hy : sT S 8 1 o = ((sT S 8 1 o).toNat : Nat) := (Int.toNat_of_nonneg ho1).symm
  refine zW_p 1 rfl ?_
  refine hW_getp H rfl hb rfl rfl rfl hy (fun b1 hb1 => ?_)
  rw [hmd] at hb1
  obtain ⟨p1, p2, p3, p4⟩ := hP _ hb1.1
  refine hW_cast H rfl hb1 rfl rfl rfl ?_
  have hcl : sT S 2 7 ((sT S 8 1 o).toNat / 2) = ((sT S 2 7 ((sT S 8 1 o).toNat / 2)).toNat : Nat) := (Int.toNat_of_nonneg p1).symm
  refine hW_getr H rfl hb1 rfl rfl rfl hcl (fun b2 hb2 => ?_)
  have hxs : sE S 24 (sT S 2 7 ((sT S 8 1 o).toNat / 2)).toNat = fComps S o := rfl
  have hlen4 : (fComps S o).length ≤ 4 := p3
  have hI0 : fResI S S (fOL S o) := ⟨hW, hA, hT, hSp, fun _ _ => rfl, Nat.le_refl _, fun _ _ _ _ => rfl, fun _ _ _ _ => rfl, fun _ _ _ _ _ => rfl⟩
  have hsn100 : sn S 6 ≤ 100 := hF.2.2.2.2.2.2.2.2.2.2.1
  refine hW_iter H rfl rfl rfl hb2 rfl rfl rfl (by omega) (fun σ1 it hJ H1 k1 => ?_)
  refine zW_p 1 rfl ?_
  refine zW_lv ((2, .ref it) :: [(0, .ref a), (1, .ref b)]) rfl ⟨rfl, rfl, rfl, trivial⟩ ?_
  refine hW_loop (c := 24) (i := (sT S 2 7 ((sT S 8 1 o).toNat / 2)).toNat) (b := b2) (n := 4) (xs := fComps S o) (mc := Int32.ofInt (sM S 24 (sT S 2 7 ((sT S 8 1 o).toNat / 2)).toNat)) (fun p lv κ gh' S' => lv = [(0, .ref a), (1, .ref b)] ∧ gext S gh gh' ∧ S' = (fRAN S o p).1 ∧ (fRAN S o p).2.1 = true ∧ fResI S S' (fOL S o) ∧ (sE S' 26 (fOL S o)).length ≤ p * 100 ∧ kd σ.2 κ (fRAN S o p).2.2.1 (fRAN S o p).2.2.2) hJ rfl rfl rfl (fun _ => rfl) rfl rfl rfl (fun _ => rfl) (fun _ => rfl) rfl rfl rfl (by omega) ?_ ?_ ?_ _ _ _ _ H1 ⟨rfl, gext_rfl, rfl, rfl, hI0, by rw [hem]; exact Nat.zero_le _, k1⟩
  · rintro p lv κ gh' S' ⟨rfl, hx, hS', hok, hi, hl, hk⟩
    exact ⟨hx.hat hi.le hb2, (hi.2.2.2.2.2.2.1 24 _ (by decide) (by omega)).trans hxs, by rw [hi.2.2.2.2.2.2.2.1 24 _ (by decide) (by decide)]⟩
  · rintro p y lv σ2 gh' S' J2 e hp hy2 ⟨rfl, hx, hS', hok, hi, hl, hk⟩ H2 hd he hback
    have hs : fRAN S o (p + 1) = fRAstep o (fOL S o) (fRAN S o p) (y : Int) := by
      unfold fRAN
      rw [take_snoc hy2, List.foldl_append]
      rfl
    have hstop : fRAN S o (fComps S o).length = ((fComps S o).drop (p + 1)).foldl (fRAstep o (fOL S o)) (fRAN S o (p + 1)) := by
      unfold fRAN
      rw [List.take_length]
      conv => lhs; rw [← List.take_append_drop (p + 1) (fComps S o)]
      rw [List.foldl_append]
    generalize hL : fRAN S o p = L at hS' hok hk hs
    obtain ⟨U, ok, ct, sl⟩ := L
    simp only at hS' hok hk hs
    subst hS'
    subst hok
    have eT : ∀ c k i, c ≠ 7 → ¬ (c = 6 ∧ k = 5) → sT S' c k i = sT S c k i := hi.2.2.2.2.2.2.2.2
    have eN : ∀ c, c ≠ 7 → sn S' c = sn S c := hi.2.2.2.2.1
    have hbx : hat gh' S' 8 o b := hx.hat hi.le hb
    have hax : hat gh' S' 0 0 a := hx.hat hi.le ha
    have hy4 : y < sn S 4 := by have := he.1; rw [eN 4 (by decide)] at this; exact this
    obtain ⟨q1, q2, q3⟩ := hC y hy4
    unfold fRAstep at hs
    simp only at hs
    rw [if_neg (by decide), Int.toNat_natCast] at hs
    refine hW_cast H2 rfl he rfl rfl rfl ?_
    refine zW_p 3 rfl ?_
    refine hW_get H2 rfl hbx rfl rfl rfl ?_
    have gF := F_isFor (k := y) (w := sT S' 8 3 o) H2 he (by rw [eT 4 2 y (by decide) (by omega)]; exact q3) (by rw [eT 8 3 o (by decide) (by omega)]; exact ho3)
    refine wV rfl rfl rfl rfl rfl rfl rfl (H2.rc he rfl rfl) gF (by omega) ?_
    cases hf : fFor S' y (sT S' 8 3 o) with
    | false =>
      rw [hf, if_neg (by decide)] at hs
      refine zW_p 2 rfl ?_
      refine zW_lv ((2, .ref it) :: [(0, .ref a), (1, .ref b)]) rfl ⟨rfl, rfl, rfl, trivial⟩ ?_
      exact hback _ σ2 gh' S' H2 ⟨rfl, hx, by rw [hs], by rw [hs], hi, by omega, by rw [hs]; exact hk⟩
    | true =>
      rw [hf, if_pos rfl] at hs
      refine zW_p 4 rfl ?_
      refine hW_get H2 rfl he rfl rfl rfl ?_
      refine zW_p 1 rfl ?_
      refine hW_get H2 rfl hbx rfl rfl rfl ?_
      refine zW_p 1 rfl ?_
      refine hW_get H2 rfl he rfl rfl rfl ?_
      refine zW_p 1 rfl ?_
      rw [I_mul]
      have hnb : 0 ≤ sT S' 8 2 o * sT S' 4 1 y ∧ sT S' 8 2 o * sT S' 4 1 y ≤ 900 := by
        rw [eT 8 2 o (by decide) (by omega), eT 4 1 y (by decide) (by omega)]
        obtain ⟨hq1, hq2⟩ := hq
        obtain ⟨hq3, hq4⟩ := q2
        refine ⟨Int.mul_nonneg (by omega) (by omega), ?_⟩
        have h1 : sT S 8 2 o * sT S 4 1 y ≤ 100 * sT S 4 1 y := Int.mul_le_mul_of_nonneg_right hq2 (by omega)
        omega
      have hF' : fFix S' := by
        obtain ⟨f0, f1, f2, f3, f4, f5, f6, f7, f8, f9, fa, fb, fc, fd⟩ := hF
        refine ⟨by rw [eN 0 (by decide)]; exact f0, by rw [eT 0 0 0 (by decide) (by omega)]; exact f1, by rw [eT 0 1 0 (by decide) (by omega)]; exact f2, by rw [eT 0 2 0 (by decide) (by omega)]; exact f3, by rw [eT 0 3 0 (by decide) (by omega)]; exact f4, by rw [eT 0 4 0 (by decide) (by omega)]; exact f5, ?_, ?_, ?_, by rw [eN 1 (by decide)]; exact f9, by rw [eN 6 (by decide)]; exact fa, by rw [eN 8 (by decide)]; exact fb, ?_, ?_⟩
        · rw [hi.2.2.2.2.2.2.1 20 0 (by decide) (by omega), eN 1 (by decide)]; exact f6
        · rw [hi.2.2.2.2.2.2.1 22 0 (by decide) (by omega), eN 6 (by decide)]; exact f7
        · rw [hi.2.2.2.2.2.2.1 23 0 (by decide) (by omega), eN 8 (by decide)]; exact f8
        · rw [hi.2.2.2.2.2.2.1 21 0 (by decide) (by omega)]; exact fc
        · rw [hi.2.2.2.2.2.2.1 21 0 (by decide) (by omega)]; exact fd
      obtain ⟨ro, σ3, g3, hr3, hi3, hle3, hl3, ghx, x3, H3, k3⟩ := F_reserve (n := sT S' 8 2 o * sT S' 4 1 y) (pt := sT S' 4 0 y) (m := fOL S o) H2 hF' hi.1 hi.2.1 hi.2.2.1 (by rw [eT 8 5 o (by decide) (by omega)]; exact hm) hi.2.2.2.1 hax hbx (by rw [eT 4 0 y (by decide) (by omega)]; exact q1) hnb (by omega)
      have gx : gext S gh ghx := gext.trans hx x3 hi.le
      have hi5 := hi.trans hi3
      by_cases h0 : 0 < (fResN S' (fOL S o) (sT S' 4 0 y) (sT S' 8 2 o * sT S' 4 1 y) (sn S' 6)).2.1
      · rw [if_pos h0] at hr3 k3
        rw [if_pos h0] at k3
        rw [decide_eq_false (by omega)] at hs
        subst hr3
        refine wVC (z := (75, [])) rfl rfl rfl rfl rfl rfl rfl (H2.rc hax rfl rfl) g3 (by omega) rfl rfl ?_
        have hfin : fRAN S o (fComps S o).length = fRAN S o (p + 1) := by rw [hstop]; exact fRA_stop (by rw [hs]) _
        have hok5 : (fRAN S o (fComps S o).length).2.1 = false := by rw [hfin, hs]
        have e1 : (fRAN S o (fComps S o).length).1 = (fResN S' (fOL S o) (sT S' 4 0 y) (sT S' 8 2 o * sT S' 4 1 y) (sn S' 6)).1 := by rw [hfin, hs]
        have e2 : (fRAN S o (fComps S o).length).2.2.1 = ct + (fResN S' (fOL S o) (sT S' 4 0 y) (sT S' 8 2 o * sT S' 4 1 y) (sn S' 6)).2.2.1 + 1 := by rw [hfin, hs]
        have e3 : (fRAN S o (fComps S o).length).2.2.2 = sl + (fResN S' (fOL S o) (sT S' 4 0 y) (sT S' 8 2 o * sT S' 4 1 y) (sn S' 6)).2.2.2 + 6 := by rw [hfin, hs]
        have H3' := hd _ _ _ H3
        have hax3 : hat ghx (fResN S' (fOL S o) (sT S' 4 0 y) (sT S' 8 2 o * sT S' 4 1 y) (sn S' 6)).1 0 0 a := gx.hat hi5.le ha
        have hbx3 : hat ghx (fResN S' (fOL S o) (sT S' 4 0 y) (sT S' 8 2 o * sT S' 4 1 y) (sn S' 6)).1 8 o b := gx.hat hi5.le hb
        obtain ⟨σ5, g5, H5, k5⟩ := F_takeBack (a := a) H3' hi5.2.2.1 hbx3 (by rw [hi5.2.2.2.2.2.2.2.2 8 5 o (by decide) (by omega)]; exact ho5)
        refine zW_p 2 rfl ?_
        refine wV rfl rfl rfl rfl rfl rfl rfl (H3'.rc hax3 rfl rfl) g5 (by omega) ?_
        refine zW_p 1 rfl ?_
        unfold fRA
        rw [if_neg (by rw [hok5]; decide), e1, e2, e3]
        exact zW_reti rfl rfl rfl ⟨rfl, ghx, gx, H5, ((hk.trans k3).trans k5).mono (by show _ ≤ ct + (fResN S' (fOL S o) (sT S' 4 0 y) (sT S' 8 2 o * sT S' 4 1 y) (sn S' 6)).2.2.1 + 1 + 1; omega) (by show _ ≤ sl + (fResN S' (fOL S o) (sT S' 4 0 y) (sT S' 8 2 o * sT S' 4 1 y) (sn S' 6)).2.2.2 + 6 + 4; omega), hi5⟩
      · rw [if_neg h0] at hr3 k3
        rw [if_neg h0] at k3
        rw [decide_eq_true (by omega)] at hs
        subst hr3
        refine wV rfl rfl rfl rfl rfl rfl rfl (H2.rc hax rfl rfl) g3 (by omega) ?_
        refine zW_p 1 rfl ?_
        refine zW_lv ((2, .ref it) :: [(0, .ref a), (1, .ref b)]) rfl ⟨rfl, rfl, rfl, trivial⟩ ?_
        refine hback _ σ3 ghx _ H3 ⟨rfl, gx, by rw [hs], by rw [hs], hi5, ?_, by rw [hs]; exact (hk.trans k3).mono (by show _ ≤ ct + (fResN S' (fOL S o) (sT S' 4 0 y) (sT S' 8 2 o * sT S' 4 1 y) (sn S' 6)).2.2.1 + 1; omega) (by show _ ≤ sl + (fResN S' (fOL S o) (sT S' 4 0 y) (sT S' 8 2 o * sT S' 4 1 y) (sn S' 6)).2.2.2 + 6; omega)⟩
        have h6 : sn S' 6 ≤ 100 := by rw [eN 6 (by decide)]; exact hsn100
        omega
  · rintro lv σ2 gh' S' H2 ⟨rfl, hx, hS', hok, hi, hl, hk⟩
    subst hS'
    have hbx : hat gh' (fRAN S o (fComps S o).length).1 8 o b := hx.hat hi.le hb
    refine zW_p 1 rfl ?_
    refine aW_stat rfl rfl (C.1 1 (by decide)).1 ?_
    refine hW_put (v := (z 1 : Nat)) H2 rfl hbx rfl rfl rfl (Or.inl rfl) rfl rfl convC alv4 (fun _ => Or.inl (by decide)) (fun σ6 H6 e6 => ?_)
    refine zW_p 1 rfl ?_
    unfold fRA
    rw [if_pos hok]
    exact zW_reti rfl rfl rfl ⟨rfl, gh', hx, H6, (hk.trans (kc.of e6)).mono (Nat.le_refl _) (Nat.le_refl _), hi⟩
end ZRA
