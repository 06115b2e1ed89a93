/-! THE MODEL: begin -/
set_option maxRecDepth 100000
def mWaitB (S : hS) (i o : Nat) : Bool := decide (sT S 12 6 i = 45) && (decide (sT S 15 5 o = 119) && decide (sT S 15 10 o = i))
def mPickStep (S : hS) (i : Nat) (bst : Option Nat) (o : Nat) : Option Nat := if mWaitB S i o = true then (match bst with
  | none => some o
  | some b => if sT S 15 4 o < sT S 15 4 b then some o else some b) else bst
def mPick (S : hS) (i p : Nat) : Option Nat := (List.range p).foldl (mPickStep S i) none
theorem mPick_succ {S : hS} {i p : Nat} : mPick S i (p + 1) = mPickStep S i (mPick S i p) p := by
  unfold mPick
  rw [List.range_succ, List.foldl_append]
  rfl
theorem mPick_ok {S : hS} {i : Nat} : ∀ p b : Nat, mPick S i p = some b → b < p ∧ mWaitB S i b = true := by
  intro p
  induction p with
  | zero => intro b h; cases h
  | succ p ih =>
    intro b h
    rw [mPick_succ] at h
    unfold mPickStep at h
    by_cases hw : mWaitB S i p = true
    · rw [if_pos hw] at h
      cases hb : mPick S i p with
      | none =>
        rw [hb] at h
        obtain rfl := Option.some.inj h
        exact ⟨by omega, hw⟩
      | some c =>
        rw [hb] at h
        obtain ⟨h1, h2⟩ := ih c hb
        by_cases hl : sT S 15 4 p < sT S 15 4 c
        · simp only [if_pos hl] at h
          obtain rfl := Option.some.inj h
          exact ⟨by omega, hw⟩
        · simp only [if_neg hl] at h
          obtain rfl := Option.some.inj h
          exact ⟨by omega, h2⟩
    · rw [if_neg hw] at h
      obtain ⟨h1, h2⟩ := ih b h
      exact ⟨by omega, h2⟩
def mPv (gh : Nat → Nat → Nat) : Option Nat → Value
  | none => .null
  | some b => .ref (gh 15 b)
def mBegStep (S : hS) (i : Nat) : hS := match mPick S i (sn S 15) with
  | none => S
  | some o => mBegin S i o
def mBegL : Nat → hS → Nat → hS
  | 0, S, _ => S
  | q + 1, S, i => mBegL q (mBegStep S i) (i + 1)
/-- all about jobs and machines -/
def mJI (S : hS) : Prop := mFix S ∧ mPart S ∧ mOps S ∧ mMn S ∧ (∀ p : Nat, p < sn S 13 → rg (sT S 13 1 p)) ∧ mMach S ∧ mOrd S ∧ (∀ o : Nat, o < sn S 15 → rg (sT S 15 4 o)) ∧ (∀ o : Nat, o < sn S 15 → sT S 15 5 o = 119 → mQok S o)
section ZMB2
variable {g : zG} {w0 : hG} {σ : zS} {gh : Nat → Nat → Nat} {S T : hS} {J : zw_W} {a i o : Nat}
theorem mBegin_sT {c k j : Nat} (h1 : ¬ (c = 12 ∧ (k = 4 ∨ k = 6 ∨ k = 9 ∨ k = 8 ∨ k = 7) ∧ j = i)) (h2 : ¬ (c = 15 ∧ (k = 11 ∨ k = 5) ∧ j = o)) : sT (mBegin S i o) c k j = sT S c k j := by
  unfold mBegin
  rw [sT_set, if_neg (by omega), sT_set, if_neg (by omega), sT_set, if_neg (by omega), sT_set, if_neg (by omega), sT_set, if_neg (by omega), sT_set, if_neg (by omega), sT_set, if_neg (by omega)]
theorem mBegin_fam : sT (mBegin S i o) 12 4 i = mFam S o := by
  unfold mBegin
  rw [sT_set, if_neg (by omega), sT_set, if_neg (by omega), sT_set, if_neg (by omega), sT_set, if_neg (by omega), sT_set, if_neg (by omega), sT_set, if_neg (by omega), sT_set, if_pos ⟨rfl, rfl, rfl⟩]
theorem mBegin_st : sT (mBegin S i o) 12 6 i = 111 := by
  unfold mBegin
  rw [sT_set, if_neg (by omega), sT_set, if_neg (by omega), sT_set, if_neg (by omega), sT_set, if_neg (by omega), sT_set, if_neg (by omega), sT_set, if_pos ⟨rfl, rfl, rfl⟩]
theorem mBegin_os : sT (mBegin S i o) 15 5 o = 111 := by
  unfold mBegin
  rw [sT_set, if_pos ⟨rfl, rfl, rfl⟩]
theorem mJI_begin (h : mJI S) (ho : o < sn S 15) (hw : sT S 15 5 o = 119) : mJI (mBegin S i o) := by
  obtain ⟨h1, h2, h3, h4, h5, h6, h7, h8, h9⟩ := h
  refine ⟨?_, ?_, ?_, ?_, ?_, ?_, ?_, ?_, ?_⟩
  · exact h1
  · exact h2
  · exact h3
  · intro m hm
    obtain ⟨a0, a1, a4⟩ := h4 m hm
    rw [mBegin_sT (by omega) (by omega), mBegin_sT (by omega) (by omega)]
    refine ⟨a0, a1, ?_⟩
    by_cases e : m = i
    · rw [e, mBegin_fam]
      exact h5 _ (by have := (h9 o ho hw).1; omega)
    · rw [mBegin_sT (by omega) (by omega)]
      exact a4
  · exact h5
  · intro m hm
    by_cases e : m = i
    · rw [e, mBegin_st]
      exact Or.inr (Or.inr rfl)
    · rw [mBegin_sT (by omega) (by omega)]
      exact h6 m hm
  · intro q hq
    obtain ⟨a1, a2⟩ := h7 q hq
    refine ⟨?_, by rw [mBegin_sT (by omega) (by omega)]; exact a2⟩
    by_cases e : q = o
    · rw [e, mBegin_os]
      exact Or.inr (Or.inr (Or.inr (Or.inl rfl)))
    · rw [mBegin_sT (by omega) (by omega)]
      exact a1
  · intro q hq
    rw [mBegin_sT (by omega) (by omega)]
    exact h8 q hq
  · intro q hq hs
    have e : q ≠ o := fun e => by
      rw [e, mBegin_os] at hs
      omega
    rw [mBegin_sT (by omega) (by omega)] at hs
    obtain ⟨a1, a9, a8⟩ := h9 q hq hs
    have eL : mOpL (mBegin S i o) q = mOpL S q := by
      unfold mOpL
      rw [mBegin_sT (by omega) (by omega), mBegin_sT (by omega) (by omega)]
      rfl
    unfold mQok
    rw [mBegin_sT (by omega) (by omega), mBegin_sT (by omega) (by omega), mBegin_sT (by omega) (by omega), eL]
    exact ⟨a1, a9, a8⟩
theorem M_begin (H : hRep g w0 σ gh S J) (hI : mJI S) (ha : hat gh S 11 0 a) :
    ∃ σ' : zS, zEnd g 6 240 [.ref a] σ (.inl none) σ' ∧ hRep g w0 σ' gh (mBegL (sn S 12) S 0) J ∧ kc σ σ' (sn S 12) (4 * sn S 12) := by
  have loop : ∀ (q i : Nat) (σ1 : zS) (S : hS), i + q = sn S 12 → mJI S → hat gh S 11 0 a → hRep g w0 σ1 gh S J →
      zW g 6 240 2 [(0, .ref a), (1, iv i)] [] σ1 (fun r σ' => r = .inl none ∧ hRep g w0 σ' gh (mBegL q S i) J ∧ kc σ1 σ' q (4 * q)) := by
    intro q
    induction q with
    | zero =>
      intro i σ1 S hi hI ha H1
      obtain ⟨⟨f0, f1, f2, f3, f4, f5, f6, f7, f8, f9, fa, fb, fc, fd, fe⟩, -⟩ := hI
      refine zW_p 2 rfl ?_
      refine hW_getr (j := 0) H1 rfl ha rfl rfl rfl f1 (fun b1 hb1 => ?_)
      refine hW_size H1 rfl rfl rfl hb1 rfl rfl rfl (by omega) ?_
      rw [f7, idl_len]
      refine zW_t rfl rfl ((I_le ⟨by omega, by omega⟩ ⟨by omega, by omega⟩).mpr (by omega)) ?_
      exact wW_ret rfl rfl rfl rfl ⟨rfl, H1, kc.rfl'⟩
    | succ q ih =>
      intro i σ1 S hi hI ha H1
      have hI0 := hI
      obtain ⟨hFx, hP, hOp, hMn, hfam, hM, hO, hdue, hQk⟩ := hI
      have hF2 := hFx
      obtain ⟨f0, f1, f2, f3, f4, f5, f6, f7, f8, f9, fa, fb, fc, fd, fe⟩ := hFx
      have hil : i < sn S 12 := by omega
      have hr6 : rg (sT S 12 6 i) := by rcases hM i hil with e | e | e <;> rw [e] <;> constructor <;> decide
      refine zW_p 2 rfl ?_
      refine hW_getr (j := 0) H1 rfl ha rfl rfl rfl f1 (fun b1 hb1 => ?_)
      refine hW_size H1 rfl rfl rfl hb1 rfl rfl rfl (by omega) ?_
      rw [f7, idl_len]
      refine zW_f rfl rfl (fun e => by have := (I_le ⟨by omega, by omega⟩ ⟨by omega, by omega⟩).mp e; omega) ?_
      refine zW_p 1 rfl ?_
      refine hW_getr (j := 0) H1 rfl ha rfl rfl rfl f1 (fun b2 hb2 => ?_)
      refine zW_p 1 rfl ?_
      refine hW_lget (y := i) H1 rfl rfl rfl hb2 rfl rfl rfl (by rw [f7]; exact idl_at hil) rfl (by omega) (fun mb hmb => ?_)
      refine hW_cast H1 rfl hmb rfl rfl rfl ?_
      refine zW_p 4 rfl ?_
      refine hW_getr (j := 0) H1 rfl ha rfl rfl rfl f4 (fun b3 hb3 => ?_)
      refine hW_iter H1 rfl rfl rfl hb3 rfl rfl rfl (by omega) (fun σ2 it hJ H2 k2 => ?_)
      refine zW_p 1 rfl ?_
      have next : ∀ (σ5 : zS) (lv : zp_L), hRep g w0 σ5 gh (mBegStep S i) J → kc σ1 σ5 1 4 → lvok [(0, .ref a), (1, iv i)] lv → zW g 6 240 260 lv [] σ5 (fun r σ' => r = .inl none ∧ hRep g w0 σ' gh (mBegL (q + 1) S i) J ∧ kc σ1 σ' (q + 1) (4 * (q + 1))) := by
        intro σ5 lv H5 k5 hlv
        refine zW_ly hlv rfl ?_
        refine zW_p 1 rfl ?_
        rw [I_add]
        refine zW_p 1 rfl ?_
        have hI5 : mJI (mBegStep S i) ∧ sn (mBegStep S i) 12 = sn S 12 ∧ hat gh (mBegStep S i) 11 0 a := by
          unfold mBegStep
          cases hp : mPick S i (sn S 15) with
          | none => exact ⟨hI0, rfl, ha⟩
          | some o =>
            obtain ⟨u1, u2⟩ := mPick_ok _ _ hp
            unfold mWaitB at u2
            simp only [Bool.and_eq_true, decide_eq_true_eq] at u2
            exact ⟨mJI_begin hI0 u1 u2.2.1, rfl, ha⟩
        refine zW_lv [(0, .ref a), (1, iv ((i + 1 : Nat) : Int))] rfl ⟨rfl, rfl, trivial⟩ ?_
        obtain ⟨r, σ6, g6, g7, H6, k6⟩ := ih (i + 1) σ5 (mBegStep S i) (by rw [hI5.2.1]; omega) hI5.1 hI5.2.2 H5
        exact ⟨r, σ6, g6, g7, H6, (k5.trans k6).mono (by omega) (by omega)⟩
      refine zW_lv ((4, .ref it) :: [(0, .ref a), (1, iv i), (2, .ref mb), (3, mPv gh (mPick S i 0))]) rfl ⟨rfl, rfl, rfl, rfl, rfl, trivial⟩ ?_
      refine hW_loop (c := 33) (i := 0) (b := b3) (n := 15) (xs := sE S 33 0) (mc := Int32.ofInt (sM S 33 0)) (fun p lv κ gh' S' => lv = [(0, .ref a), (1, iv i), (2, .ref mb), (3, mPv gh (mPick S i p))] ∧ gh' = gh ∧ S' = S ∧ kd σ1.2 κ 1 4) hJ rfl rfl rfl (fun _ => rfl) rfl rfl rfl (fun _ => rfl) (fun _ => rfl) rfl rfl rfl (by omega) ?_ ?_ ?_ _ _ _ _ H2 ⟨rfl, rfl, rfl, k2⟩
      · rintro p lv κ gh' S' ⟨rfl, rfl, rfl, hk⟩
        exact ⟨hb3, rfl, rfl⟩
      · rintro p y lv σ3 gh' S' J2 e hp hy ⟨rfl, rfl, rfl, hk⟩ H3 hd he hback
        rw [fa, idl_len] at hp
        rw [fa, idl_at hp] at hy
        obtain rfl : p = y := by have := Option.some.inj hy; omega
        have hs := mPick_succ (S := S') (i := i) (p := p)
        have hok := mPick_ok (S := S') (i := i) p
        generalize hL : mPick S' i p = L at hs hok ⊢
        obtain ⟨o1, o2⟩ := hO p hp
        have hr5 : rg (sT S' 15 5 p) := by rcases o1 with e | e | e | e | e | e <;> rw [e] <;> constructor <;> decide
        have back : ∀ (v : Value) (lv : zp_L), v = mPv gh' (mPick S' i (p + 1)) → lvok [(0, .ref a), (1, iv i), (2, .ref mb), (4, .ref it)] lv → zW g 6 240 120 lv [v] σ3 (fun r σ' => r = .inl none ∧ hRep g w0 σ' gh' (mBegL (q + 1) S' i) J ∧ kc σ1 σ' (q + 1) (4 * (q + 1))) := by
          intro v lv hv hlv
          refine zW_ly hlv rfl ?_
          cases hn : mPick S' i (p + 1) with
          | none =>
            rw [hn] at hv
            rw [hv]
            unfold mPv
            refine zW_p 2 rfl ?_
            refine zW_lv ((4, .ref it) :: [(0, .ref a), (1, iv i), (2, .ref mb), (3, .null)]) rfl ⟨rfl, rfl, rfl, rfl, rfl, trivial⟩ ?_
            exact hback _ σ3 _ _ H3 ⟨by rw [hn]; rfl, rfl, rfl, hk⟩
          | some c =>
            rw [hn] at hv
            rw [hv]
            unfold mPv
            refine zW_p 2 rfl ?_
            refine zW_lv ((4, .ref it) :: [(0, .ref a), (1, iv i), (2, .ref mb), (3, .ref (gh' 15 c))]) rfl ⟨rfl, rfl, rfl, rfl, rfl, trivial⟩ ?_
            exact hback _ σ3 _ _ H3 ⟨by rw [hn]; rfl, rfl, rfl, hk⟩
        refine hW_cast H3 rfl he rfl rfl rfl ?_
        have J6 : ∀ (t : Bool) (lv : zp_L), t = mWaitB S' i p → lvok [(0, .ref a), (1, iv i), (2, .ref mb), (3, mPv gh' L), (4, .ref it), (5, .ref e)] lv → zW g 6 240 91 lv [iv (bi t)] σ3 (fun r σ' => r = .inl none ∧ hRep g w0 σ' gh' (mBegL (q + 1) S' i) J ∧ kc σ1 σ' (q + 1) (4 * (q + 1))) := by
          intro t lv ht hlv
          refine zW_ly hlv rfl ?_
          unfold mPickStep at hs
          rw [← ht] at hs
          cases t with
          | false =>
            rw [if_neg (by decide)] at hs
            cases L with
            | none =>
              refine zW_p 4 rfl ?_
              exact back _ _ (by rw [hs]; rfl) ⟨rfl, rfl, rfl, rfl, trivial⟩
            | some c =>
              refine zW_p 4 rfl ?_
              exact back _ _ (by rw [hs]; rfl) ⟨rfl, rfl, rfl, rfl, trivial⟩
          | true =>
            rw [if_pos rfl] at hs
            cases L with
            | none =>
              simp only at hs
              have ev : Value.ref e = mPv gh' (mPick S' i (p + 1)) := by rw [hs]; show _ = Value.ref _; rw [he.2]
              refine zW_p 7 rfl ?_
              exact back _ _ ev ⟨rfl, rfl, rfl, rfl, trivial⟩
            | some c =>
              simp only at hs
              obtain ⟨hc1, -⟩ := hok c rfl
              have hcat : hat gh' S' 15 c (gh' 15 c) := ⟨by omega, rfl⟩
              have r1 := hdue p hp
              have r2 := hdue c (by omega)
              refine zW_p 6 rfl ?_
              refine hW_get H3 rfl he rfl rfl rfl ?_
              refine zW_p 1 rfl ?_
              refine hW_get H3 rfl hcat rfl rfl rfl ?_
              by_cases hl : sT S' 15 4 p < sT S' 15 4 c
              · rw [if_pos hl] at hs
                have ev : Value.ref e = mPv gh' (mPick S' i (p + 1)) := by rw [hs]; show _ = Value.ref _; rw [he.2]
                refine zW_f rfl rfl (fun e => by have := (I_le r2 r1).mp e; omega) ?_
                refine zW_p 2 rfl ?_
                exact back _ _ ev ⟨rfl, rfl, rfl, rfl, trivial⟩
              · rw [if_neg hl] at hs
                refine zW_t rfl rfl ((I_le r2 r1).mpr (by omega)) ?_
                refine zW_p 1 rfl ?_
                exact back _ _ (by rw [hs]; rfl) ⟨rfl, rfl, rfl, rfl, trivial⟩
        refine zW_p 2 rfl ?_
        refine hW_get H3 rfl (show hat gh' S' 12 i mb from hmb) rfl rfl rfl ?_
        refine zW_p 1 rfl ?_
        by_cases d1 : sT S' 12 6 i = 45
        · refine zW_f rfl rfl (fun q => q (by rw [d1]; rfl)) ?_
          refine zW_p 1 rfl ?_
          refine hW_get H3 rfl he rfl rfl rfl ?_
          refine zW_p 1 rfl ?_
          by_cases d2 : sT S' 15 5 p = 119
          · refine zW_f rfl rfl (fun q => q (by rw [d2]; rfl)) ?_
            refine zW_p 1 rfl ?_
            refine hW_get H3 rfl he rfl rfl rfl ?_
            refine zW_p 1 rfl ?_
            by_cases d3 : sT S' 15 10 p = i
            · refine zW_f rfl rfl (fun q => q (by rw [d3])) ?_
              refine zW_p 2 rfl ?_
              exact J6 true _ (by unfold mWaitB; rw [decide_eq_true d1, decide_eq_true d2, decide_eq_true d3]; rfl) ⟨rfl, rfl, rfl, rfl, rfl, rfl, trivial⟩
            · refine zW_t rfl rfl (fun q => d3 ((I_eq o2 ⟨by omega, by omega⟩).mp q)) ?_
              refine zW_p 1 rfl ?_
              exact J6 false _ (by unfold mWaitB; rw [decide_eq_false d3, Bool.and_false, Bool.and_false]) ⟨rfl, rfl, rfl, rfl, rfl, rfl, trivial⟩
          · refine zW_t rfl rfl (fun q => d2 ((I_eq hr5 (by constructor <;> decide)).mp q)) ?_
            refine zW_p 1 rfl ?_
            exact J6 false _ (by unfold mWaitB; rw [decide_eq_false d2, Bool.false_and, Bool.and_false]) ⟨rfl, rfl, rfl, rfl, rfl, rfl, trivial⟩
        · refine zW_t rfl rfl (fun q => d1 ((I_eq hr6 (by constructor <;> decide)).mp q)) ?_
          refine zW_p 1 rfl ?_
          exact J6 false _ (by unfold mWaitB; rw [decide_eq_false d1, Bool.false_and]) ⟨rfl, rfl, rfl, rfl, rfl, rfl, trivial⟩
      · rintro lv σ3 gh' S' H3 ⟨rfl, rfl, rfl, hk⟩
        rw [fa, idl_len]
        cases hp : mPick S' i (sn S' 15) with
        | none =>
          have eS : mBegStep S' i = S' := by unfold mBegStep; rw [hp]
          refine zW_p 2 rfl ?_
          exact next σ3 _ (by rw [eS]; exact H3) hk ⟨rfl, rfl, trivial⟩
        | some o =>
          have eS : mBegStep S' i = mBegin S' i o := by unfold mBegStep; rw [hp]
          obtain ⟨u1, u2⟩ := mPick_ok _ _ hp
          unfold mWaitB at u2
          simp only [Bool.and_eq_true, decide_eq_true_eq] at u2
          refine zW_p 2 rfl ?_
          refine zW_lv [(0, .ref a), (1, iv i), (2, .ref mb), (3, .ref (gh' 15 o))] rfl ⟨rfl, rfl, rfl, rfl, trivial⟩ ?_
          refine M_beginX H3 hF2 hP hOp hMn hfam (hQk o u1 u2.2.1) ha hmb ⟨u1, rfl⟩ (fun σ' h1 h2 => ?_)
          exact next σ' _ (by rw [eS]; exact h1) ((kd.trans hk (kc.of h2)).mono (by omega) (by omega)) ⟨rfl, rfl, trivial⟩
  have main : zW g 6 240 0 (lv_args 0 [.ref a]) [] σ (fun r σ' => r = .inl none ∧ hRep g w0 σ' gh (mBegL (sn S 12) S 0) J ∧ kc σ σ' (sn S 12) (4 * sn S 12)) := by
    refine zW_p 2 rfl ?_
    refine zW_lv [(0, .ref a), (1, iv (0 : Nat))] rfl ⟨rfl, rfl, trivial⟩ ?_
    exact loop (sn S 12) 0 σ S (by omega) hI ha H
  obtain ⟨r, σ', h1, rfl, h2⟩ := main
  exact ⟨σ', h1, h2⟩
end ZMB2
