/-! THE MODEL: free, lose, hold -/
set_option maxRecDepth 100000
def mUnres (S : hS) (q : Int × Int) : hS := sset S 14 3 q.1.toNat (sT S 14 3 q.1.toNat - sT S 19 0 q.2.toNat)
def mZs (S : hS) (o : Nat) : List (Int × Int) := (sE S 38 o).zip (sE S 39 o)
def mFree (S : hS) (o : Nat) : hS := sset (ssE (ssE ((mZs S o).foldl mUnres S) 38 o []) 39 o []) 15 5 o 45
def mSumP (S : hS) (o p : Nat) : Int := (((sE S 39 o).take p).map (fun j => sT S 19 0 j.toNat)).sum
/-- the model's orders: their lists go by their numbers -/
def mOrd2 (S : hS) : Prop := ∀ o : Nat, o < sn S 15 → sT S 15 6 o = (o : Nat) ∧ sT S 15 7 o = (o : Nat) ∧ sT S 15 16 o = (o : Nat) ∧ (sE S 38 o).length = (sE S 39 o).length ∧ (sE S 38 o).length ≤ 1000 ∧ o < sn S 38 ∧ o < sn S 39 ∧ o < sn S 40
theorem mUnres_sn {S : hS} {ts : List (Int × Int)} {c : Nat} : sn (ts.foldl mUnres S) c = sn S c := fold_keep (f := mUnres) (fun S => sn S c) (fun _ _ => rfl) ts S
theorem mUnres_sE {S : hS} {ts : List (Int × Int)} {c i : Nat} : sE (ts.foldl mUnres S) c i = sE S c i := fold_keep (f := mUnres) (fun S => sE S c i) (fun _ _ => rfl) ts S
theorem mUnres_sM {S : hS} {ts : List (Int × Int)} {c i : Nat} : sM (ts.foldl mUnres S) c i = sM S c i := fold_keep (f := mUnres) (fun S => sM S c i) (fun _ _ => rfl) ts S
theorem mUnres_sT {S : hS} {ts : List (Int × Int)} {c k i : Nat} (h : ¬ (c = 14 ∧ k = 3)) : sT (ts.foldl mUnres S) c k i = sT S c k i := fold_keep (f := mUnres) (fun S => sT S c k i) (fun S t => by
  unfold mUnres
  rw [sT_set, if_neg (fun e => h ⟨e.1, e.2.1⟩)]) ts S
theorem mF_sn {S : hS} {o c : Nat} : sn (mFree S o) c = sn S c := by
  unfold mFree
  rw [sn_set, sn_ssE, sn_ssE, mUnres_sn]
theorem mF_sT {S : hS} {o c k i : Nat} (h : ¬ (c = 14 ∧ k = 3)) (h2 : ¬ (c = 15 ∧ k = 5 ∧ i = o)) : sT (mFree S o) c k i = sT S c k i := by
  unfold mFree
  rw [sT_set, if_neg h2, sT_ssE, sT_ssE, mUnres_sT h]
theorem mF_sE {S : hS} {o c i : Nat} : sE (mFree S o) c i = if (c = 38 ∨ c = 39) ∧ i = o then [] else sE S c i := by
  unfold mFree
  rw [sE_set, sE_ssE, sE_ssE, mUnres_sE]
  by_cases h1 : c = 39 ∧ i = o
  · rw [if_pos h1, if_pos ⟨Or.inr h1.1, h1.2⟩]
  · rw [if_neg h1]
    by_cases h2 : c = 38 ∧ i = o
    · rw [if_pos h2, if_pos ⟨Or.inl h2.1, h2.2⟩]
    · rw [if_neg h2, if_neg (fun e => by rcases e with ⟨e1 | e1, e2⟩; exact h2 ⟨e1, e2⟩; exact h1 ⟨e1, e2⟩)]
theorem mF_sM {S : hS} {o c i : Nat} (h : c ≠ 38) (h2 : c ≠ 39) : sM (mFree S o) c i = sM S c i := by
  unfold mFree
  rw [sM_set, sM_ssE, if_neg (fun e => h2 e.1), sM_ssE, if_neg (fun e => h e.1), mUnres_sM]
section ZMF
variable {g : zG} {w0 : hG} {z : Nat → Nat} {σ : zS} {gh : Nat → Nat → Nat} {S : hS} {J : zw_W} {a b o : Nat}
theorem M_free (H : hRep g w0 σ gh S J) (hO : mOrd2 S) (hb : hat gh S 15 o b) : ∃ σ' : zS, zEnd g 4 215 [.ref a, .ref b] σ (.inl (some (iv (mSumP S o (sE S 39 o).length)))) σ' ∧ hRep g w0 σ' gh (mFree S o) J ∧ kc σ σ' 0 0 := by
  obtain ⟨o6, o7, o16, olen, o1000, l38, l39, l40⟩ := hO o hb.1
  have hzl : (mZs S o).length = (sE S 38 o).length := by unfold mZs; rw [List.length_zip]; omega
  have loop : ∀ (q p : Nat) (σ1 : zS), p + q = (sE S 38 o).length → hRep g w0 σ1 gh (((mZs S o).take p).foldl mUnres S) J → σ1.2 = σ.2 →
      zW g 4 215 4 [(1, .ref b), (2, iv (mSumP S o p)), (3, iv p)] [] σ1 (fun r σ' => r = .inl (some (iv (mSumP S o (sE S 39 o).length))) ∧ hRep g w0 σ' gh (mFree S o) J ∧ kc σ σ' 0 0) := by
    intro q
    induction q with
    | zero =>
      intro p σ1 hp H1 hs
      have hb' : hat gh (((mZs S o).take p).foldl mUnres S) 15 o b := ⟨by rw [mUnres_sn]; exact hb.1, hb.2⟩
      refine zW_p 2 rfl ?_
      refine hW_getr (j := o) H1 rfl hb' rfl rfl rfl (by rw [mUnres_sT (by omega)]; exact o6) (fun b1 hb1 => ?_)
      refine hW_size H1 rfl rfl rfl hb1 rfl rfl rfl (by omega) ?_
      rw [mUnres_sE]
      refine zW_t rfl rfl ((I_le ⟨by omega, by omega⟩ ⟨by omega, by omega⟩).mpr (by omega)) ?_
      have hfull : (mZs S o).take p = mZs S o := List.take_of_length_le (by omega)
      rw [hfull] at H1 hb'
      refine zW_p 1 rfl ?_
      refine hW_getr (j := o) H1 rfl hb' rfl rfl rfl (by rw [mUnres_sT (by omega)]; exact o6) (fun b2 hb2 => ?_)
      refine hW_clear H1 rfl rfl rfl hb2 rfl rfl rfl rfl (by omega) (fun σ2 H2 e2 => ?_)
      refine zW_p 1 rfl ?_
      refine hW_getr (j := o) H2 rfl hb' rfl rfl rfl (by rw [sT_ssE, mUnres_sT (by omega)]; exact o7) (fun b3 hb3 => ?_)
      refine hW_clear H2 rfl rfl rfl hb3 rfl rfl rfl rfl (by omega) (fun σ3 H3 e3 => ?_)
      refine zW_p 2 rfl ?_
      refine hW_put (v := 45) H3 rfl (show hat gh (ssE (ssE ((mZs S o).foldl mUnres S) 38 o []) 39 o []) 15 o b from hb') rfl rfl rfl (Or.inl rfl) rfl rfl rfl alv0 (fun e => absurd e (by decide)) (fun σ4 H4 e4 => ?_)
      refine zW_p 1 rfl ?_
      rw [show p = (sE S 39 o).length by omega]
      exact zW_reti rfl rfl rfl ⟨rfl, H4, kc.of (e4.trans (e3.trans (e2.trans hs)))⟩
    | succ q ih =>
      intro p σ1 hp H1 hs
      have hb' : hat gh (((mZs S o).take p).foldl mUnres S) 15 o b := ⟨by rw [mUnres_sn]; exact hb.1, hb.2⟩
      have hlt : p < (sE S 38 o).length := by omega
      have hlt2 : p < (sE S 39 o).length := by omega
      have hL : ∀ (c : Nat) (hc : c = 38 ∨ c = 39) (hl : p < (sE S c o).length), ∃ y : Nat, (sE S c o)[p]? = some (y : Int) := by
        intro c hc hl
        refine ⟨((sE S c o)[p]).toNat, ?_⟩
        have hat' : hat gh (((mZs S o).take p).foldl mUnres S) c o (gh c o) := ⟨by rw [mUnres_sn]; rcases hc with rfl | rfl <;> assumption, rfl⟩
        obtain ⟨r, cap, f, q1, q2, _⟩ := H1.lst hat' (by rcases hc with rfl | rfl <;> decide) (by rcases hc with rfl | rfl <;> decide)
        have h0 := (q2 p ((sE S c o)[p]) (by rw [mUnres_sE]; exact List.getElem?_eq_getElem hl)).1
        rw [List.getElem?_eq_getElem hl, Int.toNat_of_nonneg h0]
      obtain ⟨x, hx⟩ := hL 38 (Or.inl rfl) hlt
      obtain ⟨j, hj⟩ := hL 39 (Or.inr rfl) hlt2
      have hz : (mZs S o)[p]? = some ((x : Int), (j : Int)) := by
        unfold mZs
        rw [List.getElem?_zip_eq_some]
        exact ⟨hx, hj⟩
      refine zW_p 2 rfl ?_
      refine hW_getr (j := o) H1 rfl hb' rfl rfl rfl (by rw [mUnres_sT (by omega)]; exact o6) (fun b1 hb1 => ?_)
      refine hW_size H1 rfl rfl rfl hb1 rfl rfl rfl (by omega) ?_
      rw [mUnres_sE]
      refine zW_f rfl rfl (fun e => by have := (I_le ⟨by omega, by omega⟩ ⟨by omega, by omega⟩).mp e; omega) ?_
      refine zW_p 1 rfl ?_
      refine hW_getr (j := o) H1 rfl hb' rfl rfl rfl (by rw [mUnres_sT (by omega)]; exact o6) (fun b2 hb2 => ?_)
      refine zW_p 1 rfl ?_
      refine hW_lget (y := x) H1 rfl rfl rfl hb2 rfl rfl rfl (by rw [mUnres_sE]; exact hx) rfl (by omega) (fun b3 hb3 => ?_)
      refine hW_cast H1 rfl hb3 rfl rfl rfl ?_
      refine zW_p 1 rfl ?_
      refine hW_get H1 rfl hb3 rfl rfl rfl ?_
      refine zW_p 1 rfl ?_
      refine hW_getr (j := o) H1 rfl hb' rfl rfl rfl (by rw [mUnres_sT (by omega)]; exact o7) (fun b4 hb4 => ?_)
      refine zW_p 1 rfl ?_
      refine hW_lget (y := j) H1 rfl rfl rfl hb4 rfl rfl rfl (by rw [mUnres_sE]; exact hj) rfl (by omega) (fun b5 hb5 => ?_)
      refine hW_cast H1 rfl hb5 rfl rfl rfl ?_
      refine hW_intVal H1 rfl rfl rfl hb5 rfl (by omega) ?_
      refine zW_p 1 rfl ?_
      rw [I_sub]
      refine hW_put H1 rfl hb3 rfl rfl rfl (Or.inl rfl) rfl rfl rfl alv0 (fun e => absurd e (by decide)) (fun σ2 H2 e2 => ?_)
      have H2' : hRep g w0 σ2 gh (((mZs S o).take (p + 1)).foldl mUnres S) J := by
        rw [take_snoc hz, List.foldl_append]
        simp only [List.foldl_cons, List.foldl_nil]
        exact H2
      have hb2' : hat gh (((mZs S o).take (p + 1)).foldl mUnres S) 15 o b := ⟨by rw [mUnres_sn]; exact hb.1, hb.2⟩
      refine zW_p 2 rfl ?_
      refine hW_getr (j := o) H2' rfl hb2' rfl rfl rfl (by rw [mUnres_sT (by omega)]; exact o7) (fun b6 hb6 => ?_)
      refine zW_p 1 rfl ?_
      refine hW_lget (y := j) H2' rfl rfl rfl hb6 rfl rfl rfl (by rw [mUnres_sE]; exact hj) rfl (by omega) (fun b7 hb7 => ?_)
      refine hW_cast H2' rfl hb7 rfl rfl rfl ?_
      refine hW_intVal H2' rfl rfl rfl hb7 rfl (by omega) ?_
      rw [mUnres_sT (by omega)]
      refine zW_p 1 rfl ?_
      rw [I_add]
      refine zW_p 2 rfl ?_
      rw [I_add]
      refine zW_p 1 rfl ?_
      have hsum : mSumP S o (p + 1) = mSumP S o p + sT S 19 0 j := by
        unfold mSumP
        rw [take_snoc hj, List.map_append, List.sum_append]
        simp
      refine zW_lv [(1, .ref b), (2, iv (mSumP S o (p + 1))), (3, iv ((p + 1 : Nat) : Int))] rfl ⟨rfl, by rw [hsum]; rfl, rfl, trivial⟩ ?_
      exact ih (p + 1) σ2 (by omega) H2' (e2.trans hs)
  have main : zW g 4 215 0 (lv_args 0 [.ref a, .ref b]) [] σ (fun r σ' => r = .inl (some (iv (mSumP S o (sE S 39 o).length))) ∧ hRep g w0 σ' gh (mFree S o) J ∧ kc σ σ' 0 0) := by
    refine zW_p 4 rfl ?_
    refine zW_lv [(1, .ref b), (2, iv (mSumP S o 0)), (3, iv (0 : Nat))] rfl ⟨rfl, rfl, rfl, trivial⟩ ?_
    exact loop (sE S 38 o).length 0 σ (by omega) H rfl
  obtain ⟨r, σ', h1, rfl, h2, h3⟩ := main
  exact ⟨σ', h1, h2, h3⟩
theorem mW_of {S S' : hS} (h : mW S) (hn : sn S' 14 = sn S 14) (h7 : ∀ i, sT S' 14 5 i = sT S 14 5 i) (h3 : ∀ i, sT S' 14 6 i = sT S 14 6 i) (hE : ∀ m, sE S' 41 m = sE S 41 m) : mW S' := by
  intro i hi
  rw [hn] at hi
  rw [h7, h3, hE]
  exact h i hi
theorem mOrd2_F (h : mOrd2 S) {o : Nat} : mOrd2 (mFree S o) := by
  intro i hi
  rw [mF_sn] at hi
  obtain ⟨q1, q2, q3, q4, q5, q6⟩ := h i hi
  rw [mF_sT (by omega) (by omega), mF_sT (by omega) (by omega), mF_sT (by omega) (by omega), mF_sn, mF_sn, mF_sn, mF_sE, mF_sE]
  refine ⟨q1, q2, q3, ?_, ?_, q6⟩
  · by_cases e : i = o
    · rw [if_pos ⟨Or.inl rfl, e⟩, if_pos ⟨Or.inr rfl, e⟩]
    · rw [if_neg (fun q => e q.2), if_neg (fun q => e q.2)]; exact q4
  · by_cases e : i = o
    · rw [if_pos ⟨Or.inl rfl, e⟩]; exact Nat.zero_le _
    · rw [if_neg (fun q => e q.2)]; exact q5
theorem mOrd_F (h : mOrd S) {o : Nat} : mOrd (mFree S o) := by
  intro i hi
  rw [mF_sn] at hi
  obtain ⟨q1, q2⟩ := h i hi
  refine ⟨?_, by rw [mF_sT (by omega) (by omega)]; exact q2⟩
  by_cases e : i = o
  · subst e
    left
    unfold mFree
    rw [sT_set, if_pos ⟨rfl, rfl, rfl⟩]
  · rw [mF_sT (by omega) (fun q => e q.2.2)]
    exact q1
/-- an order loses its promise -/
def mPr (S : hS) (o : Nat) : Bool := decide (sT S 15 5 o = 112)
def mAnyQ (S : hS) (o q : Nat) : Bool := mPr S o && ((sE S 38 o).take q).any (fun t => tHeld (mh S) (mch S) 100 t.toNat)
def mSumQ (S : hS) (o q : Nat) : Nat := if mPr S o = true then (((sE S 38 o).take q).map (fun t => tN (mch S) 100 t.toNat)).sum else 0
def mLoses (S : hS) (o : Nat) : Bool := mAnyQ S o (sE S 38 o).length
def mLoseC (S : hS) (o : Nat) : Nat := 1 + mSumQ S o (sE S 38 o).length
def mLoseStep (s : hS × Nat × Nat) (o : Nat) : hS × Nat × Nat := if mLoses s.1 o then (mFree s.1 o, s.2.1 + 1, s.2.2 + mLoseC s.1 o) else (s.1, s.2.1, s.2.2 + mLoseC s.1 o)
def mLoseN (S : hS) (n : Nat) : hS × Nat × Nat := (List.range n).foldl mLoseStep (S, 0, 1)
theorem mLoseN_succ {n : Nat} : mLoseN S (n + 1) = mLoseStep (mLoseN S n) n := by
  unfold mLoseN
  rw [List.range_succ, List.foldl_append]
  rfl
theorem mAnyQ_succ {q y : Nat} (h : (sE S 38 o)[q]? = some (y : Int)) : mAnyQ S o (q + 1) = (mAnyQ S o q || (mPr S o && tHeld (mh S) (mch S) 100 y)) := by
  unfold mAnyQ
  rw [take_snoc h, List.any_append, List.any_cons, List.any_nil, Bool.or_false, Bool.and_or_distrib_left, Int.toNat_natCast]
theorem mSumQ_succ {q y : Nat} (h : (sE S 38 o)[q]? = some (y : Int)) : mSumQ S o (q + 1) = mSumQ S o q + (if mPr S o = true then tN (mch S) 100 y else 0) := by
  unfold mSumQ
  rw [take_snoc h]
  split
  · simp
  · rfl
def mLoseI (S S' : hS) : Prop := mW S' ∧ mOrd S' ∧ mOrd2 S' ∧ (∀ c, sn S' c = sn S c) ∧ (∀ c i, c ≠ 38 → c ≠ 39 → sE S' c i = sE S c i) ∧ (∀ c i, c ≠ 38 → c ≠ 39 → sM S' c i = sM S c i) ∧ (∀ c k i, ¬ (c = 14 ∧ k = 3) → ¬ (c = 15 ∧ k = 5) → sT S' c k i = sT S c k i)
theorem mLoseI_step {S' : hS} (h : mLoseI S S') {o : Nat} : mLoseI S (mFree S' o) := by
  obtain ⟨h1, h2, h3, h4, h5, h6, h7⟩ := h
  refine ⟨mW_of h1 mF_sn (fun i => mF_sT (by omega) (by omega)) (fun i => mF_sT (by omega) (by omega)) (fun m => by rw [mF_sE, if_neg (by omega)]), mOrd_F h2, mOrd2_F h3, ?_, ?_, ?_, ?_⟩
  · intro c
    rw [mF_sn]
    exact h4 c
  · intro c i hc hc2
    rw [mF_sE, if_neg (by omega)]
    exact h5 c i hc hc2
  · intro c i hc hc2
    rw [mF_sM hc hc2]
    exact h6 c i hc hc2
  · intro c k i hc hc2
    rw [mF_sT hc (fun e => hc2 ⟨e.1, e.2.1⟩)]
    exact h7 c k i hc hc2
theorem mLoseN_I (h : mW S) (h2 : mOrd S) (h3 : mOrd2 S) : ∀ n : Nat, mLoseI S (mLoseN S n).1 := by
  intro n
  induction n with
  | zero => exact ⟨h, h2, h3, fun _ => rfl, fun _ _ _ _ => rfl, fun _ _ _ _ => rfl, fun _ _ _ _ _ => rfl⟩
  | succ n ih =>
    rw [mLoseN_succ]
    unfold mLoseStep
    split
    · exact mLoseI_step ih
    · exact ih
theorem M_lose (H : hRep g w0 σ gh S J) (hF : mFix S) (hW : mW S) (hO : mOrd S) (hO2 : mOrd2 S) (ha : hat gh S 11 0 a) :
    ∃ σ' : zS, zEnd g 104 213 [.ref a] σ (.inl (some (iv (mLoseN S (sn S 15)).2.1))) σ' ∧ hRep g w0 σ' gh (mLoseN S (sn S 15)).1 J ∧ kc σ σ' (mLoseN S (sn S 15)).2.2 (4 * (mLoseN S (sn S 15)).2.2) := by
  obtain ⟨f0, f1, f2, f3, f4, f5, f6, f7, f8, f9, fa, fb, fc, fd, fe⟩ := hF
  have main : zW g 104 213 0 (lv_args 0 [.ref a]) [] σ (fun r σ' => r = .inl (some (iv (mLoseN S (sn S 15)).2.1)) ∧ hRep g w0 σ' gh (mLoseN S (sn S 15)).1 J ∧ kc σ σ' (mLoseN S (sn S 15)).2.2 (4 * (mLoseN S (sn S 15)).2.2)) := by
    refine zW_p 3 rfl ?_
    refine hW_getr H rfl ha rfl rfl rfl f4 (fun b0 hb0 => ?_)
    refine hW_iter H rfl rfl rfl hb0 rfl rfl rfl (by omega) (fun σ1 it hJ H1 k1 => ?_)
    refine zW_p 1 rfl ?_
    refine zW_lv ((2, .ref it) :: [(0, .ref a), (1, iv (mLoseN S 0).2.1)]) rfl ⟨rfl, rfl, rfl, trivial⟩ ?_
    refine hW_loop (c := 33) (i := 0) (b := b0) (n := 15) (xs := sE S 33 0) (mc := Int32.ofInt (sM S 33 0)) (fun p lv κ gh' S' => lv = [(0, .ref a), (1, iv (mLoseN S p).2.1)] ∧ gh' = gh ∧ S' = (mLoseN S p).1 ∧ kd σ.2 κ (mLoseN S p).2.2 (4 * (mLoseN S p).2.2)) hJ rfl rfl rfl (fun _ => rfl) rfl rfl rfl (fun _ => rfl) (fun _ => rfl) rfl rfl rfl (by omega) ?_ ?_ ?_ _ _ _ _ H1 ⟨rfl, rfl, rfl, k1⟩
    · rintro p lv κ gh' S' ⟨rfl, rfl, rfl, hk⟩
      obtain ⟨i1, i2, i3, i4, i5, i6, i7⟩ := mLoseN_I hW hO hO2 p
      exact ⟨⟨by rw [i4]; exact hb0.1, hb0.2⟩, i5 _ _ (by decide) (by decide), by rw [i6 _ _ (by decide) (by decide)]⟩
    · rintro p y lv σ2 gh' S' J2 e hp hy ⟨rfl, rfl, rfl, hk⟩ H2 hd he hback
      rw [fa, idl_len] at hp
      rw [fa, idl_at hp] at hy
      obtain rfl : p = y := by have := Option.some.inj hy; omega
      obtain ⟨i1, i2, i3, i4, i5, i6, i7⟩ := mLoseN_I hW hO hO2 p
      have hs : mLoseN S (p + 1) = mLoseStep (mLoseN S p) p := mLoseN_succ
      generalize hL : mLoseN S p = L at i1 i2 i3 i4 i5 i6 i7 H2 he hk hs
      obtain ⟨T, mn, ct⟩ := L
      simp only at i1 i2 i3 i4 i5 i6 i7 H2 he hk hs
      have ha' : hat gh' T 11 0 a := ⟨by rw [i4]; exact ha.1, ha.2⟩
      obtain ⟨o6, o7, o16, olen, o1000, l38, l39, l40⟩ := i3 p he.1
      obtain ⟨w1, w2⟩ := i2 p he.1
      have w1r : rg (sT T 15 5 p) := by rcases w1 with e | e | e | e | e | e <;> rw [e] <;> exact ⟨by decide, by decide⟩
      refine hW_cast H2 rfl he rfl rfl rfl ?_
      refine zW_p 4 rfl ?_
      refine hW_getr H2 rfl he rfl rfl rfl o6 (fun b1 hb1 => ?_)
      refine hW_iter H2 rfl rfl rfl hb1 rfl rfl rfl (by omega) (fun σ3 it2 hJ3 H3 k3 => ?_)
      refine zW_p 1 rfl ?_
      refine zW_lv ((5, .ref it2) :: [(0, .ref a), (1, iv mn), (2, .ref it), (3, .ref e), (4, iv (bi (mAnyQ T p 0)))]) rfl ⟨rfl, rfl, rfl, rfl, rfl, by unfold mAnyQ; rw [List.take_zero, List.any_nil, Bool.and_false]; rfl, trivial⟩ ?_
      refine hW_loop (c := 38) (i := p) (b := b1) (n := 14) (xs := sE T 38 p) (mc := Int32.ofInt (sM T 38 p)) (fun q lv κ gh'' S'' => lv = [(0, .ref a), (1, iv mn), (2, .ref it), (3, .ref e), (4, iv (bi (mAnyQ T p q)))] ∧ gh'' = gh' ∧ S'' = T ∧ kd σ3.2 κ (mSumQ T p q) (4 * mSumQ T p q)) hJ3 rfl rfl rfl (fun _ => rfl) rfl rfl rfl (fun _ => rfl) (fun _ => rfl) rfl rfl rfl (by omega) ?_ ?_ ?_ _ _ _ _ H3 ⟨rfl, rfl, rfl, by
        have : mSumQ T p 0 = 0 := by unfold mSumQ; rw [List.take_zero]; split <;> rfl
        rw [this]; exact kd.rfl'⟩
      · rintro q lv κ gh'' S'' ⟨rfl, rfl, rfl, hk2⟩
        exact ⟨hb1, rfl, rfl⟩
      · rintro q y lv σ4 gh'' S'' J4 e2 hq hy2 ⟨rfl, rfl, rfl, hk2⟩ H4 hd4 he2 hback2
        have hA := mAnyQ_succ hy2
        have hB := mSumQ_succ hy2
        have back : ∀ (r : Bool) (σ5 : zS) (ex : Nat) (lv : zp_L), hRep g w0 σ5 gh'' S'' J4 → r = mAnyQ S'' p (q + 1) → kd σ4.2 σ5.2 ex (4 * ex) → mSumQ S'' p q + ex ≤ mSumQ S'' p (q + 1) → lvok [(0, .ref a), (1, iv mn), (2, .ref it), (3, .ref e), (5, .ref it2)] lv → zW g 104 213 90 lv [iv (bi r)] σ5 (fun r σ' => r = .inl (some (iv (mLoseN S (sn S 15)).2.1)) ∧ hRep g w0 σ' gh'' (mLoseN S (sn S 15)).1 J ∧ kc σ σ' (mLoseN S (sn S 15)).2.2 (4 * (mLoseN S (sn S 15)).2.2)) := by
          intro r σ5 ex lv H5 hr hk5 hle hlv
          refine zW_ly hlv rfl ?_
          refine zW_p 2 rfl ?_
          refine zW_lv ((5, .ref it2) :: [(0, .ref a), (1, iv mn), (2, .ref it), (3, .ref e), (4, iv (bi r))]) rfl ⟨rfl, rfl, rfl, rfl, rfl, rfl, trivial⟩ ?_
          refine hback2 _ σ5 _ _ H5 ⟨by rw [hr], rfl, rfl, (hk2.trans hk5).mono hle (by omega)⟩
        refine hW_cast H4 rfl he2 rfl rfl rfl ?_
        refine zW_p 2 rfl ?_
        cases hany : mAnyQ S'' p q with
        | true =>
          rw [hany] at hA
          refine zW_p 3 rfl ?_
          exact back true σ4 0 _ H4 (by rw [hA]; rfl) kd.rfl' (by omega) ⟨rfl, rfl, rfl, rfl, rfl, trivial⟩
        | false =>
          rw [hany] at hA
          refine zW_p 2 rfl ?_
          refine hW_get H4 rfl he rfl rfl rfl ?_
          refine zW_p 1 rfl ?_
          by_cases hp1 : sT S'' 15 5 p = 112
          · have hpr : mPr S'' p = true := decide_eq_true hp1
            rw [hpr, Bool.true_and, Bool.false_or] at hA
            rw [hpr, if_pos rfl] at hB
            refine zW_f rfl rfl (fun q => q (by rw [hp1]; rfl)) ?_
            refine zW_p 1 rfl ?_
            have hx100 : y < 100 := by have := he2.1; rw [i4] at this; omega
            obtain ⟨σ6, g6, H6, k6⟩ := M_isHeld 100 hx100 H4 he2 i1
            refine wV rfl rfl rfl rfl rfl rfl rfl (H4.rc he2 rfl rfl) g6 (by omega) ?_
            cases hh : tHeld (mh S'') (mch S'') 100 y with
            | true =>
              refine zW_p 3 rfl ?_
              exact back true σ6 _ _ H6 (by rw [hA, hh]) k6 (by rw [hB]; exact Nat.le_refl _) ⟨rfl, rfl, rfl, rfl, rfl, trivial⟩
            | false =>
              refine zW_p 2 rfl ?_
              exact back false σ6 _ _ H6 (by rw [hA, hh]) k6 (by rw [hB]; exact Nat.le_refl _) ⟨rfl, rfl, rfl, rfl, rfl, trivial⟩
          · have hpr : mPr S'' p = false := decide_eq_false hp1
            rw [hpr, Bool.false_and, Bool.false_or] at hA
            refine zW_t rfl rfl (fun q => hp1 ((I_eq w1r ⟨by decide, by decide⟩).mp q)) ?_
            refine zW_p 1 rfl ?_
            exact back false σ4 0 _ H4 (by rw [hA]) kd.rfl' (by omega) ⟨rfl, rfl, rfl, rfl, rfl, trivial⟩
      · rintro lv σ4 gh'' S'' H4 ⟨rfl, rfl, rfl, hk2⟩
        have hany : mAnyQ S'' p (sE S'' 38 p).length = mLoses S'' p := rfl
        have hsum : 1 + mSumQ S'' p (sE S'' 38 p).length = mLoseC S'' p := rfl
        rw [hany]
        have hk4 : kd σ.2 σ4.2 (ct + mLoseC S'' p) (4 * (ct + mLoseC S'' p)) := ((hk.trans k3).trans hk2).mono (by omega) (by omega)
        unfold mLoseStep at hs
        simp only at hs
        cases hl : mLoses S'' p with
        | false =>
          rw [hl, if_neg (by decide)] at hs
          refine zW_p 3 rfl ?_
          refine zW_lv ((2, .ref it) :: [(0, .ref a), (1, iv mn)]) rfl ⟨rfl, rfl, rfl, trivial⟩ ?_
          exact hback _ σ4 _ _ H4 ⟨by rw [hs], rfl, by rw [hs], by rw [hs]; exact hk4⟩
        | true =>
          rw [hl, if_pos rfl] at hs
          refine zW_p 4 rfl ?_
          obtain ⟨σ5, g5, H5, k5⟩ := M_free (a := a) H4 i3 he
          refine wV rfl rfl rfl rfl rfl rfl rfl (H4.rc ha' rfl rfl) g5 (by omega) ?_
          refine zW_p 2 rfl ?_
          rw [I_add]
          refine zW_p 1 rfl ?_
          refine zW_lv ((2, .ref it) :: [(0, .ref a), (1, iv ((mn + 1 : Nat) : Int))]) rfl ⟨rfl, rfl, rfl, trivial⟩ ?_
          exact hback _ σ5 _ _ H5 ⟨by rw [hs], rfl, by rw [hs], by rw [hs]; exact (hk4.trans k5).mono (by show _ ≤ ct + mLoseC S'' p; omega) (by show _ ≤ 4 * (ct + mLoseC S'' p); omega)⟩
    · rintro lv σ2 gh' S' H2 ⟨rfl, rfl, rfl, hk⟩
      rw [fa, idl_len] at H2 hk ⊢
      refine zW_p 1 rfl ?_
      exact zW_reti rfl rfl rfl ⟨rfl, H2, hk⟩
  obtain ⟨r, σ', h1, rfl, h2, h3⟩ := main
  exact ⟨σ', h1, h2, h3⟩
end ZMF
