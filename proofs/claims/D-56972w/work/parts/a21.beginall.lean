/-! Foundrymark: beginAll, scrap -/
set_option maxRecDepth 100000
section ZBA
variable {g : zG} {w0 : hG} {z : Nat → Nat} {σ : zS} {gh : Nat → Nat → Nat} {S T : hS} {J : zw_W} {a b o t m j : Nat}
theorem fBegin_sn {c : Nat} : sn (fBegin z S m j) c = sn S c := rfl
theorem fBegin_sE {c i : Nat} : sE (fBegin z S m j) c i = if c = 45 ∧ i = fQi S m then (sE S 45 (fQi S m)).erase (j : Int) else sE S c i := rfl
theorem fBegin_sM {c i : Nat} (h : c ≠ 45) : sM (fBegin z S m j) c i = sM S c i := by
  unfold fBegin
  simp only [sM_set]
  rw [sM_ssE, if_neg (fun e => h e.1)]
theorem fBegin_sT {c k i : Nat} (h1 : ¬ (c = 1 ∧ (k = 5 ∨ k = 7 ∨ k = 9 ∨ k = 10) ∧ i = m)) (h8 : ¬ (c = 8 ∧ (k = 7 ∨ k = 10) ∧ i = j)) (h0 : ¬ (c = 0 ∧ k = 8)) : sT (fBegin z S m j) c k i = sT S c k i := by
  unfold fBegin
  rw [sT_set, if_neg (by omega), sT_set, if_neg (by omega), sT_set, if_neg (by omega), sT_set, if_neg (by omega), sT_set, if_neg (by omega), sT_set, if_neg (by omega), sT_set, if_neg (by omega), sT_ssE]
theorem fBegin_fam : sT (fBegin z S m j) 1 5 m = fFam S j := by
  unfold fBegin
  rw [sT_set, if_neg (by omega), sT_set, if_neg (by omega), sT_set, if_neg (by omega), sT_set, if_neg (by omega), sT_set, if_pos ⟨rfl, rfl, rfl⟩]
theorem fBegin_stage : sT (fBegin z S m j) 8 7 j = (z 3 : Nat) := by
  unfold fBegin
  rw [sT_set, if_neg (by omega), sT_set, if_neg (by omega), sT_set, if_neg (by omega), sT_set, if_neg (by omega), sT_set, if_neg (by omega), sT_set, if_pos ⟨rfl, rfl, rfl⟩]
/-- all about jobs and machines -/
def fJI (S : hS) : Prop := fPart S ∧ fMach S ∧ fMn S ∧ fOps S ∧ hOrd S ∧ fNum S ∧ (∀ i, i < sn S 2 → rg (sT S 2 1 i)) ∧ (0 ≤ sT S 0 6 0 ∧ sT S 0 6 0 ≤ 5000) ∧ (∀ m, m < sn S 1 → sT S 1 4 m = (m : Nat) ∧ m < sn S 45 ∧ ∀ x ∈ sE S 45 m, fQok S x.toNat) ∧ ∀ o, o < sn S 8 → 0 ≤ sT S 8 1 o ∧ ((sT S 8 1 o).toNat % 2 = 0 → (sT S 8 1 o).toNat / 2 < sn S 2)
theorem fJI.qi (h : fJI S) (hm : m < sn S 1) : fQi S m = m := by
  obtain ⟨_, _, _, _, _, _, _, _, h9, _⟩ := h
  unfold fQi
  rw [(h9 m hm).1, Int.toNat_natCast]
theorem fJI_begin (h : fJI S) (hm : m < sn S 1) (hj : (j : Int) ∈ sE S 45 m) (hjl : j < sn S 8) : fJI (fBegin z S m j) := by
  have hqi := h.qi hm
  obtain ⟨h1, h2, h3, h4, h5, h6, h7, h8, h9, h10⟩ := h
  obtain ⟨k1, k2, k3⟩ := h9 m hm
  obtain ⟨⟨q1, q1m⟩, q9, q8⟩ := k3 _ hj
  rw [Int.toNat_natCast] at q1 q1m
  have hE : ∀ i, ∀ x ∈ sE (fBegin z S m j) 45 i, x ∈ sE S 45 i := fun i x hx => by
    rw [fBegin_sE] at hx
    split at hx
    · rename_i e
      rw [e.2]
      exact List.mem_of_mem_erase hx
    · exact hx
  have hQ : ∀ x : Nat, fQok S x → fQok (fBegin z S m j) x := fun x hx => by
    unfold fQok fOpL at hx ⊢
    rw [fBegin_sT (by omega) (by omega) (by omega), fBegin_sT (by omega) (by omega) (by omega), fBegin_sT (by omega) (by omega) (by omega), fBegin_sT (by omega) (by omega) (by omega)]
    exact hx
  refine ⟨?_, ?_, ?_, ?_, ?_, ?_, ?_, ?_, ?_, ?_⟩
  · intro i hi
    rw [fBegin_sT (by omega) (by omega) (by omega), fBegin_sT (by omega) (by omega) (by omega)]
    exact h1 i hi
  · intro i hi
    obtain ⟨v1, v2, v3⟩ := h2 i hi
    rw [fBegin_sT (by omega) (by omega) (by omega), fBegin_sT (by omega) (by omega) (by omega)]
    refine ⟨v1, v2, ?_⟩
    rw [fBegin_sE]
    split
    · rename_i e
      exact Nat.le_trans (List.length_erase_le) (by rw [← e.2]; exact v3)
    · exact v3
  · intro i hi
    obtain ⟨v1, v2, v3⟩ := h3 i hi
    rw [fBegin_sT (by omega) (by omega) (by omega), fBegin_sT (by omega) (by omega) (by omega)]
    refine ⟨v1, v2, ?_⟩
    by_cases e : i = m
    · rw [e, fBegin_fam]
      exact h7 _ ((h10 j hjl).2 q1m)
    · rw [fBegin_sT (by omega) (by omega) (by omega)]
      exact v3
  · intro i hi
    rw [fBegin_sT (by omega) (by omega) (by omega), fBegin_sT (by omega) (by omega) (by omega), fBegin_sT (by omega) (by omega) (by omega)]
    exact h4 i hi
  · intro i hi
    rw [fBegin_sT (by omega) (by omega) (by omega), fBegin_sT (by omega) (by omega) (by omega)]
    exact h5 i hi
  · intro i hi
    rw [fBegin_sT (by omega) (by omega) (by omega)]
    exact h6 i hi
  · intro i hi
    rw [fBegin_sT (by omega) (by omega) (by omega)]
    exact h7 i hi
  · rw [fBegin_sT (by omega) (by omega) (by omega)]
    exact h8
  · intro i hi
    obtain ⟨v1, v2, v3⟩ := h9 i hi
    rw [fBegin_sT (by omega) (by omega) (by omega)]
    exact ⟨v1, v2, fun x hx => hQ _ (v3 x (hE i x hx))⟩
  · intro i hi
    rw [fBegin_sT (by omega) (by omega) (by omega)]
    exact h10 i hi
theorem fFix_begin (hF : fFix S) : fFix (fBegin z S m j) := by
  obtain ⟨f0, f1, f2, f3, f4, f5, f6, f7, f8, f9, fa, fb, fc, fd⟩ := hF
  exact ⟨f0, by rw [fBegin_sT (by omega) (by omega) (by omega)]; exact f1, by rw [fBegin_sT (by omega) (by omega) (by omega)]; exact f2, by rw [fBegin_sT (by omega) (by omega) (by omega)]; exact f3, by rw [fBegin_sT (by omega) (by omega) (by omega)]; exact f4, by rw [fBegin_sT (by omega) (by omega) (by omega)]; exact f5, f6, f7, f8, f9, fa, fb, fc, fd⟩
noncomputable def fBAstep (z : Nat → Nat) (S : hS) (m : Nat) : hS := if (fFree S m && !(sE S 45 m).isEmpty) = true then fBegin z S m (fHead S m) else S
noncomputable def fBeginN (z : Nat → Nat) (S : hS) (n : Nat) : hS := (List.range n).foldl (fBAstep z) S
theorem fBeginN_succ {n : Nat} : fBeginN z S (n + 1) = fBAstep z (fBeginN z S n) n := by
  unfold fBeginN
  rw [List.range_succ, List.foldl_append]
  rfl
theorem F_beginAll (H : hRep g w0 σ gh S J) (C : hCon g w0 z) (hF : fFix S) (hI : fJI S) (ha : hat gh S 0 0 a) :
    ∃ σ' : zS, zEnd g 8 148 [.ref a] σ (.inl none) σ' ∧ hRep g w0 σ' gh (fBeginN z S (sn S 1)) J ∧ kc σ σ' 1 4 ∧ fFix (fBeginN z S (sn S 1)) ∧ fJI (fBeginN z S (sn S 1)) ∧ (∀ c, sn (fBeginN z S (sn S 1)) c = sn S c) := by
  have hf1 := hF.2.1
  have hf6 := hF.2.2.2.2.2.2.1
  have main : zW g 8 148 0 (lv_args 0 [.ref a]) [] σ (fun r σ' => r = .inl none ∧ hRep g w0 σ' gh (fBeginN z S (sn S 1)) J ∧ kc σ σ' 1 4 ∧ fFix (fBeginN z S (sn S 1)) ∧ fJI (fBeginN z S (sn S 1)) ∧ (∀ c, sn (fBeginN z S (sn S 1)) c = sn S c)) := by
    refine zW_p 1 rfl ?_
    refine hW_getr (j := 0) H rfl ha rfl rfl rfl hf1 (fun b0 hb0 => ?_)
    refine hW_iter H rfl rfl rfl hb0 rfl rfl rfl (by omega) (fun σ1 it hJ H1 k1 => ?_)
    refine zW_p 1 rfl ?_
    refine zW_lv ((1, .ref it) :: [(0, .ref a)]) rfl ⟨rfl, rfl, trivial⟩ ?_
    refine hW_loop (c := 20) (i := 0) (b := b0) (n := 1) (xs := sE S 20 0) (mc := Int32.ofInt (sM S 20 0)) (fun p lv κ gh' S' => lv = [(0, .ref a)] ∧ gh' = gh ∧ S' = fBeginN z S p ∧ fFix S' ∧ fJI S' ∧ (∀ c, sn S' c = sn S c) ∧ (∀ c i, c ≠ 45 → sE S' c i = sE S c i) ∧ (∀ c i, c ≠ 45 → sM S' c i = sM S c i) ∧ κ = σ1.2) hJ rfl rfl rfl (fun _ => rfl) rfl rfl rfl (fun _ => rfl) (fun _ => rfl) rfl rfl rfl (by omega) ?_ ?_ ?_ _ _ _ _ H1 ⟨rfl, rfl, rfl, hF, hI, fun _ => rfl, fun _ _ _ => rfl, fun _ _ _ => rfl, rfl⟩
    · rintro p lv κ gh' S' ⟨rfl, rfl, hS', i1, i2, i3, i4, i5, hk⟩
      exact ⟨⟨by rw [i3]; exact hb0.1, hb0.2⟩, i4 _ _ (by decide), by rw [i5 _ _ (by decide)]⟩
    · rintro p y lv σ2 gh' S' J2 e hp hy ⟨rfl, rfl, hS', i1, i2, i3, i4, i5, hk⟩ H2 hd he hback
      rw [hf6, idl_len] at hp
      rw [hf6, idl_at hp] at hy
      obtain rfl : p = y := by have := Option.some.inj hy; omega
      have hs : fBeginN z S (p + 1) = fBAstep z S' p := by rw [fBeginN_succ, ← hS']
      have hpl : p < sn S' 1 := he.1
      have hqi := i2.qi hpl
      obtain ⟨j1, j2, j3, j4, j5, j6, j7, j8, j9, j10⟩ := i2
      obtain ⟨v1, v2, v3⟩ := j9 p hpl
      have hax : hat gh' S' 0 0 a := ⟨by rw [i3]; exact ha.1, ha.2⟩
      refine hW_cast H2 rfl he rfl rfl rfl ?_
      refine zW_p 2 rfl ?_
      refine wV rfl rfl rfl rfl rfl rfl rfl (H2.rc he rfl rfl) (F_isFree H2 j2 he) (by omega) ?_
      unfold fBAstep at hs
      cases hfr : fFree S' p with
      | false =>
        rw [hfr, Bool.false_and, if_neg (by decide)] at hs
        refine zW_p 2 rfl ?_
        refine zW_lv ((1, .ref it) :: [(0, .ref a)]) rfl ⟨rfl, rfl, trivial⟩ ?_
        exact hback _ σ2 _ _ H2 ⟨rfl, rfl, hs.symm, i1, ⟨j1, j2, j3, j4, j5, j6, j7, j8, j9, j10⟩, i3, i4, i5, hk⟩
      | true =>
        rw [hfr, Bool.true_and] at hs
        refine zW_p 2 rfl ?_
        refine hW_getr (j := p) H2 rfl he rfl rfl rfl v1 (fun b2 hb2 => ?_)
        refine hW_qempty H2 rfl rfl rfl rfl rfl hb2 rfl (by omega) ?_
        by_cases hem : sE S' 45 p = []
        · rw [hem, if_neg (by simp)] at hs
          rw [hem, if_pos (show ([] : List Int).length = 0 from rfl)]
          refine zW_p 2 rfl ?_
          refine zW_lv ((1, .ref it) :: [(0, .ref a)]) rfl ⟨rfl, rfl, trivial⟩ ?_
          exact hback _ σ2 _ _ H2 ⟨rfl, rfl, hs.symm, i1, ⟨j1, j2, j3, j4, j5, j6, j7, j8, j9, j10⟩, i3, i4, i5, hk⟩
        · rw [if_neg (fun q => hem (List.eq_nil_of_length_eq_zero q))]
          have hne : (!(sE S' 45 p).isEmpty) = true := by
            cases hh : sE S' 45 p with
            | nil => exact absurd hh hem
            | cons x xs => rfl
          rw [hne, if_pos rfl] at hs
          refine zW_p 3 rfl ?_
          have hfq : fQ S' p = sE S' 45 p := by unfold fQ; rw [v1, Int.toNat_natCast]
          obtain ⟨σ3, g3, H3, k3⟩ := F_begin (z := z) H2 C i1 j1 j2 j3 j4 j5 j6 j7 j8 hax he (by rw [hfq]; exact hem) (by rw [hfq]; exact v3)
          rw [hqi] at H3
          refine wV rfl rfl rfl rfl rfl rfl rfl (H2.rc hax rfl rfl) g3 (by omega) ?_
          -- the head is in the queue
          have hhead : (fHead S' p : Int) ∈ sE S' 45 p ∧ fHead S' p < sn S' 8 := by
            have hex : ∃ j : Nat, fIsHead S' p j := by
              have hmin : ∀ l : List Int, l ≠ [] → (∀ x ∈ l, 0 ≤ x) → ∃ j : Nat, (j : Int) ∈ l ∧ ∀ x ∈ l, okey S' j ≤ okey S' x.toNat := by
                intro l
                induction l with
                | nil => intro h; exact absurd rfl h
                | cons x xs ih =>
                  intro _ h0
                  by_cases hx : xs = []
                  · refine ⟨x.toNat, by rw [Int.toNat_of_nonneg (h0 x (List.mem_cons_self ..))]; exact List.mem_cons_self .., fun y hy => ?_⟩
                    rw [hx] at hy
                    rcases List.mem_cons.mp hy with h | h
                    · rw [h]; exact Int.le_refl _
                    · cases h
                  · obtain ⟨j, hj1, hj2⟩ := ih hx (fun y hy => h0 y (List.mem_cons_of_mem _ hy))
                    by_cases hc : okey S' x.toNat ≤ okey S' j
                    · refine ⟨x.toNat, by rw [Int.toNat_of_nonneg (h0 x (List.mem_cons_self ..))]; exact List.mem_cons_self .., fun y hy => ?_⟩
                      rcases List.mem_cons.mp hy with h | h
                      · rw [h]; exact Int.le_refl _
                      · exact Int.le_trans hc (hj2 y h)
                    · refine ⟨j, List.mem_cons_of_mem _ hj1, fun y hy => ?_⟩
                      rcases List.mem_cons.mp hy with h | h
                      · rw [h]; omega
                      · exact hj2 y h
              obtain ⟨j, q1, q2⟩ := hmin _ hem (fun x hx => (fQlive H2 v2 x hx).1)
              exact ⟨j, q1, q2⟩
            have hsp : fIsHead S' p (fHead S' p) := Classical.epsilon_spec (p := fIsHead S' p) hex
            have hl := (fQlive H2 v2 _ hsp.1).2
            rw [Int.toNat_natCast] at hl
            exact ⟨hsp.1, hl⟩
          refine zW_p 1 rfl ?_
          refine zW_lv ((1, .ref it) :: [(0, .ref a)]) rfl ⟨rfl, rfl, trivial⟩ ?_
          refine hback _ σ3 _ _ H3 ⟨rfl, rfl, hs.symm, fFix_begin i1, fJI_begin ⟨j1, j2, j3, j4, j5, j6, j7, j8, j9, j10⟩ hpl hhead.1 hhead.2, i3, fun c i hc => ?_, fun c i hc => ?_, ?_⟩
          · rw [fBegin_sE, if_neg (fun q => hc q.1)]
            exact i4 c i hc
          · rw [fBegin_sM hc]
            exact i5 c i hc
          · have := k3
            obtain ⟨u1, u2, u3, u4⟩ := this
            rw [← hk]
            exact Prod.ext (by omega) (by omega)
    · rintro lv σ2 gh' S' H2 ⟨rfl, rfl, hS', i1, i2, i3, i4, i5, hk⟩
      rw [hf6, idl_len] at hS'
      rw [← hS']
      exact wW_ret rfl rfl rfl rfl ⟨rfl, H2, (k1.trans (kc.of hk)).mono (by omega) (by omega), i1, i2, i3⟩
  obtain ⟨r, σ', h1, rfl, h2⟩ := main
  exact ⟨σ', h1, h2⟩
end ZBA
