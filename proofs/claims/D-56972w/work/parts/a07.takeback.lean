/-! Foundrymark: takeBack, losePromises, hold -/
set_option maxRecDepth 100000
theorem take_snoc {α : Type} : ∀ {l : List α} {p : Nat} {y : α}, l[p]? = some y → l.take (p + 1) = l.take p ++ [y]
  | [], p, y, h => by simp at h
  | x :: l, 0, y, h => by simp at h; simp [h]
  | x :: l, p + 1, y, h => by
    have h2 : l[p]? = some y := by simpa using h
    have := take_snoc h2
    simp only [List.take_succ_cons, this, List.cons_append]
theorem fold_keep {α β γ : Type} {f : α → β → α} (φ : α → γ) (h : ∀ S t, φ (f S t) = φ S) : ∀ (ts : List β) (S : α), φ (ts.foldl f S) = φ S
  | [], _ => rfl
  | t :: ts, S => (fold_keep φ h ts (f S t)).trans (h S t)
/-- one piece of a promise taken back -/
def fUnres (S : hS) (t : Int) : hS := sset S 6 5 (sT S 7 0 t.toNat).toNat (sT S 6 5 (sT S 7 0 t.toNat).toNat - sT S 7 1 t.toNat)
def fOL (S : hS) (o : Nat) : Nat := (sT S 8 5 o).toNat
def fTakeBack (S : hS) (o : Nat) : hS := ssE ((sE S 26 (fOL S o)).foldl fUnres S) 26 (fOL S o) []
theorem fUnres_sn {S : hS} {ts : List Int} {c : Nat} : sn (ts.foldl fUnres S) c = sn S c := fold_keep (f := fUnres) (fun S => sn S c) (fun _ _ => rfl) ts S
theorem fUnres_sE {S : hS} {ts : List Int} {c i : Nat} : sE (ts.foldl fUnres S) c i = sE S c i := fold_keep (f := fUnres) (fun S => sE S c i) (fun _ _ => rfl) ts S
theorem fUnres_sM {S : hS} {ts : List Int} {c i : Nat} : sM (ts.foldl fUnres S) c i = sM S c i := fold_keep (f := fUnres) (fun S => sM S c i) (fun _ _ => rfl) ts S
theorem fUnres_sT {S : hS} {ts : List Int} {c k i : Nat} (h : ¬ (c = 6 ∧ k = 5)) : sT (ts.foldl fUnres S) c k i = sT S c k i := fold_keep (f := fUnres) (fun S => sT S c k i) (fun S t => by
  unfold fUnres
  rw [sT_set, if_neg (fun e => h ⟨e.1, e.2.1⟩)]) ts S
/-- every Taken has its lot -/
def fTk (S : hS) : Prop := ∀ t : Nat, t < sn S 7 → 0 ≤ sT S 7 0 t
/-- orders are well -/
def fOrd (z : Nat → Nat) (S : hS) : Prop := ∀ o : Nat, o < sn S 8 → 0 ≤ sT S 8 1 o ∧ 0 ≤ sT S 8 5 o ∧ 0 ≤ sT S 8 6 o ∧ ∃ s : Nat, s < 6 ∧ sT S 8 7 o = (z s : Nat)
theorem fTB_sn {S : hS} {o c : Nat} : sn (fTakeBack S o) c = sn S c := by
  unfold fTakeBack
  rw [sn_ssE, fUnres_sn]
theorem fTB_sT {S : hS} {o c k i : Nat} (h : ¬ (c = 6 ∧ k = 5)) : sT (fTakeBack S o) c k i = sT S c k i := by
  unfold fTakeBack
  rw [sT_ssE, fUnres_sT h]
theorem fTB_sE {S : hS} {o c i : Nat} : sE (fTakeBack S o) c i = if c = 26 ∧ i = fOL S o then [] else sE S c i := by
  unfold fTakeBack
  rw [sE_ssE, fUnres_sE]
theorem fTB_sM {S : hS} {o c i : Nat} (h : c ≠ 26) : sM (fTakeBack S o) c i = sM S c i := by
  unfold fTakeBack
  rw [sM_ssE, if_neg (fun e => h e.1), fUnres_sM]
theorem fW_of {S S' : hS} (h : fW S) (hn : sn S' 6 = sn S 6) (h7 : ∀ i, sT S' 6 7 i = sT S 6 7 i) (h3 : ∀ i, sT S' 6 3 i = sT S 6 3 i) (hE : ∀ m, ∀ t ∈ sE S' 26 m, t ∈ sE S 26 m) (h0 : ∀ t, sT S' 7 0 t = sT S 7 0 t) : fW S' := by
  intro i hi
  rw [hn] at hi
  obtain ⟨w1, w2, w3⟩ := h i hi
  rw [h7, h3]
  refine ⟨w1, w2, fun t ht => ?_⟩
  rw [h0]
  exact w3 t (hE _ t ht)
theorem fW_TB {S : hS} {o : Nat} (h : fW S) : fW (fTakeBack S o) := fW_of h fTB_sn (fun _ => fTB_sT (by omega)) (fun _ => fTB_sT (by omega)) (fun m t ht => by
  rw [fTB_sE] at ht
  split at ht
  · cases ht
  · exact ht) (fun _ => fTB_sT (by omega))
theorem fTk_TB {S : hS} {o : Nat} (h : fTk S) : fTk (fTakeBack S o) := fun t ht => by
  rw [fTB_sn] at ht
  rw [fTB_sT (by omega)]
  exact h t ht
theorem fOrd_TB {z : Nat → Nat} {S : hS} {o : Nat} (h : fOrd z S) : fOrd z (fTakeBack S o) := fun i hi => by
  rw [fTB_sn] at hi
  rw [fTB_sT (by omega), fTB_sT (by omega), fTB_sT (by omega), fTB_sT (by omega)]
  exact h i hi
section ZTB
variable {g : zG} {w0 : hG} {z : Nat → Nat} {σ : zS} {gh : Nat → Nat → Nat} {S : hS} {J : zw_W} {a b o : Nat}
theorem F_takeBack (H : hRep g w0 σ gh S J) (hT : fTk S) (hb : hat gh S 8 o b) (h5 : 0 ≤ sT S 8 5 o) : ∃ σ' : zS, zEnd g 4 90 [.ref a, .ref b] σ (.inl none) σ' ∧ hRep g w0 σ' gh (fTakeBack S o) J ∧ kc σ σ' 1 4 := by
  have hm : sT S 8 5 o = (fOL S o : Nat) := (Int.toNat_of_nonneg h5).symm
  unfold fTakeBack
  generalize fOL S o = m at hm
  have main : zW g 4 90 0 (lv_args 0 [.ref a, .ref b]) [] σ (fun r σ' => r = .inl none ∧ hRep g w0 σ' gh (ssE ((sE S 26 m).foldl fUnres S) 26 m []) J ∧ kc σ σ' 1 4) := by
    refine zW_p 1 rfl ?_
    refine hW_getr H rfl hb rfl rfl rfl hm (fun b1 hb1 => ?_)
    refine hW_iter H rfl rfl rfl hb1 rfl rfl rfl (by omega) (fun σ1 it hJ H1 k1 => ?_)
    refine zW_p 1 rfl ?_
    refine zW_lv ((2, .ref it) :: [(1, .ref b)]) rfl ⟨rfl, rfl, trivial⟩ ?_
    refine hW_loop (c := 26) (i := m) (b := b1) (n := 7) (xs := sE S 26 m) (mc := Int32.ofInt (sM S 26 m)) (fun p lv κ gh' S' => lv = [(1, .ref b)] ∧ gh' = gh ∧ S' = ((sE S 26 m).take p).foldl fUnres S ∧ κ = σ1.2) hJ rfl rfl rfl (fun _ => rfl) rfl rfl rfl (fun _ => rfl) (fun _ => rfl) rfl rfl rfl (by omega) ?_ ?_ ?_ _ _ _ _ H1 ⟨rfl, rfl, rfl, rfl⟩
    · rintro p lv κ gh' S' ⟨rfl, rfl, rfl, rfl⟩
      exact ⟨⟨by rw [fUnres_sn]; exact hb1.1, hb1.2⟩, fUnres_sE, by rw [fUnres_sM]⟩
    · rintro p y lv σ2 gh' S' J2 e hp hy ⟨rfl, rfl, rfl, hk⟩ H2 hd he hback
      have hy0 : y < sn S 7 := by have := he.1; rw [fUnres_sn] at this; exact this
      obtain ⟨x, hx⟩ : ∃ x : Nat, sT S 7 0 y = x := ⟨(sT S 7 0 y).toNat, (Int.toNat_of_nonneg (hT y hy0)).symm⟩
      have hx' : sT (((sE S 26 m).take p).foldl fUnres S) 7 0 y = (x : Nat) := by rw [fUnres_sT (by omega)]; exact hx
      refine hW_cast H2 rfl he rfl rfl rfl ?_
      refine zW_p 2 rfl ?_
      refine hW_getr (j := x) H2 rfl he rfl rfl rfl hx' (fun b2 hb2 => ?_)
      refine zW_p 1 rfl ?_
      refine hW_get H2 rfl hb2 rfl rfl rfl ?_
      refine zW_p 1 rfl ?_
      refine hW_get H2 rfl he rfl rfl rfl ?_
      refine zW_p 1 rfl ?_
      rw [I_sub]
      refine hW_put H2 rfl hb2 rfl rfl rfl (Or.inl rfl) rfl rfl rfl alv0 (fun e => absurd e (by decide)) (fun σ3 H3 e3 => ?_)
      refine zW_p 1 rfl ?_
      refine zW_lv ((2, .ref it) :: [(1, .ref b)]) rfl ⟨rfl, rfl, trivial⟩ ?_
      refine hback _ σ3 _ _ H3 ⟨rfl, rfl, ?_, by rw [e3]; exact hk⟩
      rw [take_snoc hy, List.foldl_append]
      simp only [List.foldl_cons, List.foldl_nil]
      unfold fUnres
      rw [Int.toNat_natCast]
      have hx2 := hx'
      unfold fUnres at hx2
      rw [hx2, Int.toNat_natCast]
    · rintro lv σ2 gh' S' H2 ⟨rfl, rfl, rfl, hk⟩
      rw [List.take_length] at H2
      refine zW_p 1 rfl ?_
      have hb' : hat gh' ((sE S 26 m).foldl fUnres S) 8 o b := ⟨by rw [fUnres_sn]; exact hb.1, hb.2⟩
      refine hW_getr (j := m) H2 rfl hb' rfl rfl rfl (by rw [fUnres_sT (by omega)]; exact hm) (fun b2 hb2 => ?_)
      refine hW_clear H2 rfl rfl rfl hb2 rfl rfl rfl rfl (by omega) (fun σ3 H3 e3 => ?_)
      exact wW_ret rfl rfl rfl rfl ⟨rfl, H3, (k1.trans (kc.of (e3.trans hk))).mono (by omega) (by omega)⟩
  obtain ⟨r, σ', h1, rfl, h2, h3⟩ := main
  exact ⟨σ', h1, h2, h3⟩
/-- an order loses its promise: it's promised, and something of it is held -/
def fLoses (z : Nat → Nat) (S : hS) (o : Nat) : Bool := decide (sT S 8 7 o = (z 1 : Nat)) && (sE S 26 (fOL S o)).any (fun t => tHeld (fh S) (fch S) 100 (sT S 7 0 t.toNat).toNat)
def fLoseC (z : Nat → Nat) (S : hS) (o : Nat) : Nat := 1 + if sT S 8 7 o = (z 1 : Nat) then ((sE S 26 (fOL S o)).map (fun t => tN (fch S) 100 (sT S 7 0 t.toNat).toNat)).sum else 0
def fLoseStep (z : Nat → Nat) (s : hS × Nat × Nat) (o : Nat) : hS × Nat × Nat := if fLoses z s.1 o then (sset (fTakeBack s.1 o) 8 7 o (z 0 : Nat), s.2.1 + 1, s.2.2 + fLoseC z s.1 o + 1) else (s.1, s.2.1, s.2.2 + fLoseC z s.1 o)
def fLoseN (z : Nat → Nat) (S : hS) (n : Nat) : hS × Nat × Nat := (List.range n).foldl (fLoseStep z) (S, 0, 1)
theorem fLoseN_succ {n : Nat} : fLoseN z S (n + 1) = fLoseStep z (fLoseN z S n) n := by
  unfold fLoseN
  rw [List.range_succ, List.foldl_append]
  rfl
/-- what the loop keeps -/
def fLoseI (z : Nat → Nat) (S S' : hS) : Prop := fW S' ∧ fTk S' ∧ fOrd z S' ∧ (∀ c, sn S' c = sn S c) ∧ (∀ c i, c ≠ 26 → sE S' c i = sE S c i) ∧ (∀ c i, c ≠ 26 → sM S' c i = sM S c i) ∧ (∀ c k i, ¬ (c = 6 ∧ k = 5) → ¬ (c = 8 ∧ k = 7) → sT S' c k i = sT S c k i)
theorem fLoseI_step {S' : hS} (h : fLoseI z S S') {o : Nat} : fLoseI z S (sset (fTakeBack S' o) 8 7 o (z 0 : Nat)) := by
  obtain ⟨h1, h2, h3, h4, h5, h6, h7⟩ := h
  refine ⟨?_, ?_, ?_, ?_, ?_, ?_, ?_⟩
  · exact fW_of (fW_TB (o := o) h1) rfl (fun i => by rw [sT_set, if_neg (by omega)]) (fun i => by rw [sT_set, if_neg (by omega)]) (fun m t ht => ht) (fun i => by rw [sT_set, if_neg (by omega)])
  · intro t ht
    rw [sT_set, if_neg (by omega)]
    exact fTk_TB (o := o) h2 t ht
  · intro i hi
    obtain ⟨q1, q2, q3, q4⟩ := fOrd_TB (o := o) h3 i hi
    rw [sT_set, if_neg (by omega), sT_set, if_neg (by omega), sT_set, if_neg (by omega), sT_set]
    refine ⟨q1, q2, q3, ?_⟩
    split
    · exact ⟨0, by decide, rfl⟩
    · exact q4
  · intro c
    rw [sn_set, fTB_sn]
    exact h4 c
  · intro c i hc
    rw [sE_set, fTB_sE, if_neg (fun e => hc e.1)]
    exact h5 c i hc
  · intro c i hc
    rw [sM_set, fTB_sM hc]
    exact h6 c i hc
  · intro c k i hc hc2
    rw [sT_set, if_neg (fun e => hc2 ⟨e.1, e.2.1⟩), fTB_sT hc]
    exact h7 c k i hc hc2
theorem fLoseN_I (h : fW S) (h2 : fTk S) (h3 : fOrd z S) : ∀ n : Nat, fLoseI z S (fLoseN z S n).1 := by
  intro n
  induction n with
  | zero => exact ⟨h, h2, h3, fun _ => rfl, fun _ _ _ => rfl, fun _ _ _ => rfl, fun _ _ _ _ _ => rfl⟩
  | succ n ih =>
    rw [fLoseN_succ]
    unfold fLoseStep
    split
    · exact fLoseI_step ih
    · exact ih
end ZTB
