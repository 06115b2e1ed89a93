/-! Foundrymark: advance -/
set_option maxRecDepth 100000
theorem fGoOn_E {z : Nat → Nat} {S : hS} {o c i : Nat} (h22 : c ≠ 22) (h45 : c ≠ 45) (h6 : c ≠ 6) : sE (fGoOn z S o) c i = sE S c i ∧ sM (fGoOn z S o) c i = sM S c i := by
  unfold fGoOn
  split
  · unfold fFinish
    split
    · unfold fAdd kFLot
      simp only [sE_set, sM_set, sE_ssE, sM_ssE, sE_w, sM_w]
      refine ⟨?_, ?_⟩ <;> rw [if_neg (fun e => h22 e.1), if_neg (fun e => h6 e.1)]
    · exact ⟨rfl, rfl⟩
  · rw [sE_ssE, sM_ssE, if_neg (fun e => h45 e.1), if_neg (fun e => h45 e.1)]
    exact ⟨rfl, rfl⟩
theorem fEnd3_E {S : hS} {m c i : Nat} : sE (fEnd3 S m) c i = sE S c i ∧ sM (fEnd3 S m) c i = sM S c i := by
  show sE (fEnd2 S m) c i = _ ∧ sM (fEnd2 S m) c i = _
  unfold fEnd2
  split <;> exact ⟨rfl, rfl⟩
theorem fEnd_E {z : Nat → Nat} {S : hS} {m c i : Nat} (h22 : c ≠ 22) (h45 : c ≠ 45) (h6 : c ≠ 6) : sE (fEnd z S m) c i = sE S c i ∧ sM (fEnd z S m) c i = sM S c i := by
  unfold fEnd
  split
  · exact ⟨rfl, rfl⟩
  · have h1 := fGoOn_E (z := z) (S := fEnd3 S m) (o := fWk S m) (i := i) h22 h45 h6
    have h2 := fEnd3_E (S := S) (m := m) (c := c) (i := i)
    exact ⟨h1.1.trans h2.1, h1.2.trans h2.2⟩
def fDue (S : hS) (m : Nat) : Bool := !fFree S m && decide (sT S 1 10 m = sT S 0 6 0)
/-- the state, and how many jobs went on -/
def fEndStep (z : Nat → Nat) (s : hS × Nat) (m : Nat) : hS × Nat := if fDue s.1 m = true then (fEnd z s.1 m, s.2 + fEk s.1 m) else s
def fEndN (z : Nat → Nat) (S : hS) (p : Nat) : hS × Nat := (List.range p).foldl (fEndStep z) (S, 0)
theorem fEndN_succ {z : Nat → Nat} {S : hS} {n : Nat} : fEndN z S (n + 1) = fEndStep z (fEndN z S n) n := by
  unfold fEndN
  rw [List.range_succ, List.foldl_append]
  rfl
theorem fEndStep_le {z : Nat → Nat} {s : hS × Nat} {m c : Nat} : sn s.1 c ≤ sn (fEndStep z s m).1 c := by
  unfold fEndStep
  split
  · exact fEnd_le
  · exact Nat.le_refl _
theorem fEndN_le {z : Nat → Nat} {S : hS} {c : Nat} : ∀ p : Nat, sn S c ≤ sn (fEndN z S p).1 c
  | 0 => Nat.le_refl _
  | p + 1 => by
    rw [fEndN_succ]
    exact Nat.le_trans (fEndN_le p) fEndStep_le
theorem fEndN_E {z : Nat → Nat} {S : hS} {c i : Nat} (h22 : c ≠ 22) (h45 : c ≠ 45) (h6 : c ≠ 6) : ∀ p : Nat, sE (fEndN z S p).1 c i = sE S c i ∧ sM (fEndN z S p).1 c i = sM S c i
  | 0 => ⟨rfl, rfl⟩
  | p + 1 => by
    rw [fEndN_succ]
    have ih := fEndN_E (z := z) (S := S) (i := i) h22 h45 h6 p
    unfold fEndStep
    split
    · have h1 := fEnd_E (z := z) (S := (fEndN z S p).1) (m := p) (i := i) h22 h45 h6
      exact ⟨h1.1.trans ih.1, h1.2.trans ih.2⟩
    · exact ih
noncomputable def fTick (z : Nat → Nat) (s : hS × Nat) : hS × Nat :=
  (fBeginN z (fEndN z (sset s.1 0 6 0 (sT s.1 0 6 0 + 1)) (sn s.1 1)).1 (sn (fEndN z (sset s.1 0 6 0 (sT s.1 0 6 0 + 1)) (sn s.1 1)).1 1), s.2 + (fEndN z (sset s.1 0 6 0 (sT s.1 0 6 0 + 1)) (sn s.1 1)).2)
noncomputable def fTicks (z : Nat → Nat) (S : hS) : Nat → hS × Nat
  | 0 => (S, 0)
  | k + 1 => fTick z (fTicks z S k)
/-- what a tick asks for; S1: the state behind now++ -/
def fTickOk (z : Nat → Nat) (S : hS) : Prop := fFix S ∧ rg (sT S 0 6 0 + 1) ∧ (∀ p : Nat, p < sn S 1 → fMach (fEndN z (sset S 0 6 0 (sT S 0 6 0 + 1)) p).1 ∧ rg (sT (fEndN z (sset S 0 6 0 (sT S 0 6 0 + 1)) p).1 1 10 p) ∧ rg (sT (fEndN z (sset S 0 6 0 (sT S 0 6 0 + 1)) p).1 0 6 0) ∧ (fDue (fEndN z (sset S 0 6 0 (sT S 0 6 0 + 1)) p).1 p = true → fEndOk (fEndN z (sset S 0 6 0 (sT S 0 6 0 + 1)) p).1 p)) ∧
  fFix (fEndN z (sset S 0 6 0 (sT S 0 6 0 + 1)) (sn S 1)).1 ∧ fJI (fEndN z (sset S 0 6 0 (sT S 0 6 0 + 1)) (sn S 1)).1
def fAdvCode (S : hS) (v : Int) : Nat := if ¬ (1 ≤ v ∧ v ≤ 500) then 3 else if 5000 < sT S 0 6 0 + v then 4 else 0
section ZAD
variable {g : zG} {w0 : hG} {z : Nat → Nat} {σ : zS} {gh : Nat → Nat → Nat} {S T : hS} {J : zw_W} {a b o t m : Nat} {u v : Int} {Q : Option Value ⊕ String → zS → Prop}
theorem F_tick (H : hRep g w0 σ gh S J) (C : hCon g w0 z) (hK : fTickOk z S) (ha : hat gh S 0 0 a)
    (hQ : ∀ (σ' : zS) (ghx : Nat → Nat → Nat), gext S gh ghx → hRep g w0 σ' ghx (fTick z (S, 0)).1 J → (∀ c, sn S c ≤ sn (fTick z (S, 0)).1 c) → kc σ σ' (2 + 2 * (fTick z (S, 0)).2) (8 + 300 * (fTick z (S, 0)).2) → zW g 20 158 101 [(0, .ref a), (1, iv u), (2, iv v)] [] σ' Q) :
    zW g 20 158 38 [(0, .ref a), (1, iv u), (2, iv v)] [] σ Q := by
  obtain ⟨hF, hr, hE, hF2, hJ2⟩ := hK
  have hF' := hF
  obtain ⟨f0, f1, f2, f3, f4, f5, f6, f7, f8, f9, fa, fb, fc, fd⟩ := hF'
  refine zW_p 2 rfl ?_
  refine hW_get H rfl ha rfl rfl rfl ?_
  refine zW_p 1 rfl ?_
  refine zW_p 1 rfl ?_
  rw [I_add]
  refine hW_put (v := sT S 0 6 0 + 1) H rfl ha rfl rfl rfl (Or.inl rfl) rfl rfl rfl alv0 (fun e => absurd e (by decide)) (fun σ0 H0 e0 => ?_)
  have eT : fTick z (S, 0) = (fBeginN z (fEndN z (sset S 0 6 0 (sT S 0 6 0 + 1)) (sn S 1)).1 (sn (fEndN z (sset S 0 6 0 (sT S 0 6 0 + 1)) (sn S 1)).1 1), 0 + (fEndN z (sset S 0 6 0 (sT S 0 6 0 + 1)) (sn S 1)).2) := rfl
  rw [eT] at hQ
  have s20 : sE (sset S 0 6 0 (sT S 0 6 0 + 1)) 20 0 = idl (sn S 1) := f6
  have sn1 : sn (sset S 0 6 0 (sT S 0 6 0 + 1)) = sn S := rfl
  have hmp : sT (sset S 0 6 0 (sT S 0 6 0 + 1)) 0 0 0 = (0 : Nat) := by rw [sT_set, if_neg (by omega)]; exact f1
  generalize hS1 : sset S 0 6 0 (sT S 0 6 0 + 1) = S1 at H0 hE hF2 hJ2 hQ s20 sn1 hmp
  have snc : ∀ c, sn S1 c = sn S c := fun c => congrFun sn1 c
  have ha0 : hat gh S1 0 0 a := ⟨by rw [snc]; exact ha.1, ha.2⟩
  refine zW_p 1 rfl ?_
  refine hW_getr (j := 0) H0 rfl ha0 rfl rfl rfl hmp (fun b0 hb0 => ?_)
  refine hW_iter H0 rfl rfl rfl hb0 rfl rfl rfl (by omega) (fun σ1 it hJ H1 k1 => ?_)
  refine zW_p 1 rfl ?_
  refine zW_lv ((3, .ref it) :: [(0, .ref a), (1, iv u), (2, iv v)]) rfl ⟨rfl, rfl, rfl, rfl, trivial⟩ ?_
  refine hW_loop (c := 20) (i := 0) (b := b0) (n := 1) (xs := sE S1 20 0) (mc := Int32.ofInt (sM S1 20 0)) (fun p lv κ gh' S' => lv = [(0, .ref a), (1, iv u), (2, iv v)] ∧ gext S1 gh gh' ∧ S' = (fEndN z S1 p).1 ∧ kd σ1.2 κ (2 * (fEndN z S1 p).2) (300 * (fEndN z S1 p).2)) hJ rfl rfl rfl (fun _ => rfl) rfl rfl rfl (fun _ => rfl) (fun _ => rfl) rfl rfl rfl (by omega) ?_ ?_ ?_ _ _ _ _ H1 ⟨rfl, gext_rfl, rfl, kd.rfl'⟩
  · rintro p lv κ gh' S' ⟨rfl, hx, rfl, hk⟩
    have hE2 := fEndN_E (z := z) (S := S1) (c := 20) (i := 0) (by decide) (by decide) (by decide) p
    exact ⟨hx.hat (fun c => fEndN_le p) hb0, hE2.1, by rw [hE2.2]⟩
  · rintro p y lv σ2 gh' S' J2 e hp hy ⟨rfl, hx, rfl, hk⟩ H2 hd he hback
    rw [s20, idl_len] at hp
    rw [s20, idl_at hp] at hy
    obtain rfl : p = y := by have := Option.some.inj hy; omega
    obtain ⟨q1, q2, q3, q4⟩ := hE p hp
    have hax : hat gh' (fEndN z S1 p).1 0 0 a := hx.hat (fun c => fEndN_le p) ha0
    have hs := fEndN_succ (z := z) (S := S1) (n := p)
    refine hW_cast H2 rfl he rfl rfl rfl ?_
    refine zW_p 3 rfl ?_
    refine hW_get H2 rfl hax rfl rfl rfl ?_
    refine wV rfl rfl rfl rfl rfl rfl rfl (H2.rc he rfl rfl) (F_endsAt H2 q1 he q3 q2) (by omega) ?_
    unfold fEndStep at hs
    have eD : (!fFree (fEndN z S1 p).1 p && decide (sT (fEndN z S1 p).1 1 10 p = sT (fEndN z S1 p).1 0 6 0)) = fDue (fEndN z S1 p).1 p := rfl
    rw [eD]
    cases hdu : fDue (fEndN z S1 p).1 p with
    | false =>
      rw [hdu, if_neg (by decide)] at hs
      refine zW_p 2 rfl ?_
      refine zW_lv ((3, .ref it) :: [(0, .ref a), (1, iv u), (2, iv v)]) rfl ⟨rfl, rfl, rfl, rfl, trivial⟩ ?_
      exact hback _ σ2 _ _ H2 ⟨rfl, hx, by rw [hs], by rw [hs]; exact hk⟩
    | true =>
      rw [hdu, if_pos rfl] at hs
      refine zW_p 3 rfl ?_
      obtain ⟨σ3, g3, ghx, x3, H3, k3⟩ := F_end (z := z) H2 C (q4 hdu) hax he
      refine wV rfl rfl rfl rfl rfl rfl rfl (H2.rc hax rfl rfl) g3 (by omega) ?_
      refine zW_p 1 rfl ?_
      refine zW_lv ((3, .ref it) :: [(0, .ref a), (1, iv u), (2, iv v)]) rfl ⟨rfl, rfl, rfl, rfl, trivial⟩ ?_
      refine hback _ σ3 ghx _ H3 ⟨rfl, gext.trans hx x3 (fun c => fEndN_le p), by rw [hs], ?_⟩
      rw [hs]
      exact (kd.trans hk k3.kd).mono (by simp only; omega) (by simp only; omega)
  · rintro lv σ2 gh' S' H2 ⟨rfl, hx, rfl, hk⟩
    rw [s20, idl_len] at H2 hk
    have hax : hat gh' (fEndN z S1 (sn S 1)).1 0 0 a := hx.hat (fun c => fEndN_le _) ha0
    obtain ⟨σ3, g3, H3, k3, i1, i2, i3⟩ := F_beginAll (z := z) H2 C hF2 hJ2 hax
    refine zW_p 1 rfl ?_
    refine wV rfl rfl rfl rfl rfl rfl rfl (H2.rc hax rfl rfl) g3 (by omega) ?_
    refine zW_lv [(0, .ref a), (1, iv u), (2, iv v)] rfl ⟨rfl, rfl, rfl, trivial⟩ ?_
    refine hQ σ3 gh' (fun c i hi => hx c i (by rw [snc]; exact hi)) H3 (fun c => ?_) ?_
    · show sn S c ≤ sn (fBeginN z _ _) c
      rw [i3 c, ← snc c]
      exact fEndN_le _
    · exact ((kc.of e0).trans (k1.trans ((kd.kc hk).trans k3))).mono (by simp only; omega) (by simp only; omega)
theorem fTick_add {S : hS} {n : Nat} : fTick z (S, n) = ((fTick z (S, 0)).1, n + (fTick z (S, 0)).2) := by
  unfold fTick
  simp only [Nat.zero_add]
theorem F_advance (H : hRep g w0 σ gh S J) (C : hCon g w0 z) (hv : rg v) (hnow : 0 ≤ sT S 0 6 0 ∧ sT S 0 6 0 ≤ 5000) (ha : hat gh S 0 0 a) (hK : fAdvCode S v = 0 → ∀ k : Nat, k < v.toNat → fTickOk z (fTicks z S k).1) :
    zM g 20 158 [.ref a, iv v] σ (fun r σ' => (fAdvCode S v ≠ 0 ∧ r = .inr (fEx4 (fAdvCode S v)) ∧ hRep g w0 σ' gh S J ∧ kc σ σ' 1 6) ∨
      (fAdvCode S v = 0 ∧ r = .inl (some (iv (sT (fTicks z S v.toNat).1 0 6 0))) ∧ ∃ ghx, gext S gh ghx ∧ hRep g w0 σ' ghx (fTicks z S v.toNat).1 J ∧ (∀ c, sn S c ≤ sn (fTicks z S v.toNat).1 c) ∧ kc σ σ' (2 * v.toNat + 2 * (fTicks z S v.toNat).2) (8 * v.toNat + 300 * (fTicks z S v.toNat).2))) := by
  refine zW_p 3 rfl ?_
  refine wS rfl rfl rfl rfl rfl rfl rfl rfl rfl (F_between (lo := 1) (hi := 500) hv ⟨by decide, by decide⟩ ⟨by decide, by decide⟩) (by omega) ?_
  by_cases h1 : 1 ≤ v ∧ v ≤ 500
  · rw [decide_eq_true h1]
    have hc1 : fAdvCode S v = if 5000 < sT S 0 6 0 + v then 4 else 0 := by unfold fAdvCode; rw [if_neg (fun q => q h1)]
    refine wS rfl rfl rfl rfl rfl rfl rfl rfl rfl F_reqT37 (by omega) ?_
    refine zW_p 1 rfl ?_
    refine hW_get H rfl ha rfl rfl rfl ?_
    refine zW_p 2 rfl ?_
    rw [I_add]
    refine zW_p 1 rfl ?_
    by_cases h2 : 5000 < sT S 0 6 0 + v
    · rw [if_pos h2] at hc1
      refine zW_t rfl rfl ((I_lt (a := 5000) ⟨by decide, by decide⟩ ⟨by omega, by omega⟩).mpr h2) ?_
      refine zW_p 1 rfl ?_
      obtain ⟨σ1, q1, q2, q3⟩ := F_reqF39 H
      exact wST rfl rfl rfl rfl rfl rfl rfl rfl rfl q1 (by omega) rfl (Or.inl ⟨by rw [hc1]; decide, by rw [hc1]; rfl, q2, q3⟩)
    · rw [if_neg h2] at hc1
      refine zW_f rfl rfl (fun q => by have := (I_lt (a := 5000) ⟨by decide, by decide⟩ ⟨by omega, by omega⟩).mp q; omega) ?_
      refine zW_p 2 rfl ?_
      refine wS rfl rfl rfl rfl rfl rfl rfl rfl rfl F_reqT39 (by omega) ?_
      refine zW_p 2 rfl ?_
      have hK' := hK hc1
      obtain ⟨n, hn⟩ : ∃ n : Nat, v = n := ⟨v.toNat, (Int.toNat_of_nonneg (by omega)).symm⟩
      have loop : ∀ (q k : Nat) (σ1 : zS) (gh1 : Nat → Nat → Nat), k + q = n → gext S gh gh1 → hRep g w0 σ1 gh1 (fTicks z S k).1 J → (∀ c, sn S c ≤ sn (fTicks z S k).1 c) → kc σ σ1 (2 * k + 2 * (fTicks z S k).2) (8 * k + 300 * (fTicks z S k).2) →
          zW g 20 158 33 [(0, .ref a), (1, iv v), (2, iv k)] [] σ1 (fun r σ' => (fAdvCode S v ≠ 0 ∧ r = .inr (fEx4 (fAdvCode S v)) ∧ hRep g w0 σ' gh S J ∧ kc σ σ' 1 6) ∨ (fAdvCode S v = 0 ∧ r = .inl (some (iv (sT (fTicks z S v.toNat).1 0 6 0))) ∧ ∃ ghx, gext S gh ghx ∧ hRep g w0 σ' ghx (fTicks z S v.toNat).1 J ∧ (∀ c, sn S c ≤ sn (fTicks z S v.toNat).1 c) ∧ kc σ σ' (2 * v.toNat + 2 * (fTicks z S v.toNat).2) (8 * v.toNat + 300 * (fTicks z S v.toNat).2))) := by
        intro q
        induction q with
        | zero =>
          intro k σ1 gh1 hk hx H1 hl kk
          have hkn : v.toNat = k := by omega
          have hax : hat gh1 (fTicks z S k).1 0 0 a := hx.hat hl ha
          refine zW_p 2 rfl ?_
          refine zW_t rfl rfl ((I_le hv ⟨by omega, by omega⟩).mpr (by omega)) ?_
          refine zW_p 1 rfl ?_
          refine hW_get H1 rfl hax rfl rfl rfl ?_
          rw [hkn]
          exact zW_reti rfl rfl rfl (Or.inr ⟨hc1, rfl, gh1, hx, H1, hl, kk⟩)
        | succ q ih =>
          intro k σ1 gh1 hk hx H1 hl kk
          have hax : hat gh1 (fTicks z S k).1 0 0 a := hx.hat hl ha
          refine zW_p 2 rfl ?_
          refine zW_f rfl rfl (fun e => by have := (I_le hv ⟨by omega, by omega⟩).mp e; omega) ?_
          have eK : fTicks z S (k + 1) = ((fTick z ((fTicks z S k).1, 0)).1, (fTicks z S k).2 + (fTick z ((fTicks z S k).1, 0)).2) := fTick_add (S := (fTicks z S k).1) (n := (fTicks z S k).2)
          refine F_tick H1 C (hK' k (by omega)) hax (fun σ2 gh2 x2 H2 l2 k2 => ?_)
          refine zW_p 1 rfl ?_
          rw [I_add]
          refine zW_p 1 rfl ?_
          refine zW_lv [(0, .ref a), (1, iv v), (2, iv ((k + 1 : Nat) : Int))] rfl ⟨rfl, rfl, rfl, trivial⟩ ?_
          refine ih (k + 1) σ2 gh2 (by omega) (gext.trans hx x2 hl) (by rw [eK]; exact H2) (fun c => by rw [eK]; exact Nat.le_trans (hl c) (l2 c)) ?_
          rw [eK]
          exact (kk.trans k2).mono (by simp only; omega) (by simp only; omega)
      refine zW_lv [(0, .ref a), (1, iv v), (2, iv (0 : Nat))] rfl ⟨rfl, rfl, rfl, trivial⟩ ?_
      exact loop n 0 σ gh (by omega) gext_rfl H (fun c => Nat.le_refl _) kc.rfl'
  · rw [decide_eq_false h1]
    have hc1 : fAdvCode S v = 3 := by unfold fAdvCode; rw [if_pos h1]
    obtain ⟨σ1, q1, q2, q3⟩ := F_reqF37 H
    exact wST rfl rfl rfl rfl rfl rfl rfl rfl rfl q1 (by omega) rfl (Or.inl ⟨by rw [hc1]; decide, by rw [hc1]; rfl, q2, q3⟩)
end ZAD
