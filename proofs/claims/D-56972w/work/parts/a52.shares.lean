/-! Shares: inTimeShare, meanBusy of both classes -/
set_option maxRecDepth 100000
section ZSH
variable {g : zG} {w0 : hG} {z : Nat → Nat} {σ : zS} {gh : Nat → Nat → Nat} {S : hS} {J : zw_W} {a b o d k pc : Nat} {lv : zp_L} {st : List Value} {Q : Option Value ⊕ String → zS → Prop}
theorem zW_fdiv {x y : UInt32} (hx : r_i k pc = some (.fdiv, 1)) (h0 : FP.Core.fIsNaN (FP.fdiv x y) = false) (hr : zW g d k (pc + 1) lv (.float (FP.fdiv x y) :: st) σ Q) : zW g d k pc lv (.float y :: .float x :: st) σ Q := by
  refine zW_ps 1 (f := (pc + 1, lv, .float (FP.fdiv x y) :: st)) ?_ hr
  unfold zps
  rw [hx]
  simp only
  have e : zp_step .fdiv 1 pc (r_l k) lv (.float y :: .float x :: st) = some (pc + 1, lv, .float (FP.fdiv x y) :: st) := by
    show (match (if FP.fdiv x y &&& 0x7fffffff ≤ 0x7f800000 then some (pc + 1, lv, Value.float (FP.fdiv x y) :: st) else none) with | some f => some f | none => zp_jump .fdiv 1 pc lv (.float y :: .float x :: st)) = _
    rw [if_pos (zf_ok32 h0)]
  rw [e]
  rfl
theorem zW_ddiv {x y : UInt64} (hx : r_i k pc = some (.ddiv, 1)) (h0 : FP.Core.dIsNaN (FP.ddiv x y) = false) (hr : zW g d k (pc + 1) lv (.double (FP.ddiv x y) :: st) σ Q) : zW g d k pc lv (.double y :: .double x :: st) σ Q := by
  refine zW_ps 1 (f := (pc + 1, lv, .double (FP.ddiv x y) :: st)) ?_ hr
  unfold zps
  rw [hx]
  simp only
  have e : zp_step .ddiv 1 pc (r_l k) lv (.double y :: .double x :: st) = some (pc + 1, lv, .double (FP.ddiv x y) :: st) := by
    show (match (if FP.ddiv x y &&& 0x7fffffffffffffff ≤ 0x7ff0000000000000 then some (pc + 1, lv, Value.double (FP.ddiv x y) :: st) else none) with | some f => some f | none => zp_jump .ddiv 1 pc lv (.double y :: .double x :: st)) = _
    rw [if_pos (zf_ok64 h0)]
  rw [e]
  rfl
def cntB (f : Nat → Bool) (p : Nat) : Nat := ((List.range p).filter f).length
theorem cntB_succ {f : Nat → Bool} {p : Nat} : (cntB f (p + 1) : Int) = cntB f p + bi (f p) := by
  unfold cntB
  rw [List.range_succ, List.filter_append, List.length_append]
  cases hf : f p with
  | true => rw [List.filter_cons_of_pos hf]; simp [bi]
  | false => rw [List.filter_cons_of_neg (by rw [hf]; decide)]; simp [bi]
theorem cntB_le {f : Nat → Bool} {p : Nat} : cntB f p ≤ p := by
  unfold cntB
  exact Nat.le_trans (List.length_filter_le ..) (by rw [List.length_range]; exact Nat.le_refl _)
def fDlv (z : Nat → Nat) (S : hS) (o : Nat) : Bool := fStg z S o 5
def fInT (z : Nat → Nat) (S : hS) (o : Nat) : Bool := fStg z S o 5 && decide (sT S 8 12 o ≤ sT S 8 4 o)
def shr (x y : Nat) : UInt32 := FP.fdiv (FP.i2f (Int32.ofInt x)) (FP.i2f (Int32.ofInt y))
theorem F_inTimeShare (H : hRep g w0 σ gh S J) (C : hCon g w0 z) (hF : fFix S) (hO : fOrd z S) (hr : ∀ o : Nat, o < sn S 8 → rg (sT S 8 12 o) ∧ rg (sT S 8 4 o)) (ha : hat gh S 0 0 a) :
    ∃ σ' : zS, zEnd g 3 189 [.ref a] σ (if cntB (fDlv z S) (sn S 8) = 0 then .inr "java/lang/ArithmeticException" else .inl (some (.float (shr (cntB (fInT z S) (sn S 8)) (cntB (fDlv z S) (sn S 8)))))) σ' ∧ hRep g w0 σ' gh S J ∧ kc σ σ' 2 10 := by
  have hFx := hF
  obtain ⟨f0, f1, f2, f3, f4, f5, f6, f7, f8, f9, fa, fb, fc, fd⟩ := hF
  have main : zW g 3 189 0 (lv_args 0 [.ref a]) [] σ (fun r σ' => r = (if cntB (fDlv z S) (sn S 8) = 0 then .inr "java/lang/ArithmeticException" else .inl (some (.float (shr (cntB (fInT z S) (sn S 8)) (cntB (fDlv z S) (sn S 8)))))) ∧ hRep g w0 σ' gh S J ∧ kc σ σ' 2 10) := by
    refine zW_p 5 rfl ?_
    refine hW_getr (j := 0) H rfl ha rfl rfl rfl f4 (fun b0 hb0 => ?_)
    refine hW_iter H rfl rfl rfl hb0 rfl rfl rfl (by omega) (fun σ1 it hJ H1 k1 => ?_)
    refine zW_p 1 rfl ?_
    refine zW_lv ((3, .ref it) :: [(1, iv (cntB (fDlv z S) 0 : Nat)), (2, iv (cntB (fInT z S) 0 : Nat))]) rfl ⟨rfl, rfl, rfl, trivial⟩ ?_
    refine hW_loop (c := 23) (i := 0) (b := b0) (n := 8) (xs := sE S 23 0) (mc := Int32.ofInt (sM S 23 0)) (fun p lv κ gh' S' => lv = [(1, iv (cntB (fDlv z S) p : Nat)), (2, iv (cntB (fInT z S) p : Nat))] ∧ gh' = gh ∧ S' = S ∧ κ = σ1.2) hJ rfl rfl rfl (fun _ => rfl) rfl rfl rfl (fun _ => rfl) (fun _ => rfl) rfl rfl rfl (by omega) ?_ ?_ ?_ _ _ _ _ H1 ⟨rfl, rfl, rfl, rfl⟩
    · rintro p lv κ gh' S' ⟨rfl, rfl, rfl, hk⟩
      exact ⟨hb0, rfl, rfl⟩
    · rintro p y lv σ2 gh' S' J2 e hp hy ⟨rfl, rfl, rfl, hk⟩ H2 hd he hback
      rw [f8, idl_len] at hp
      rw [f8, idl_at hp] at hy
      obtain rfl : p = y := by have := Option.some.inj hy; omega
      obtain ⟨o1, o2, o3, s, s6, hs⟩ := hO p hp
      obtain ⟨r12, r4⟩ := hr p hp
      have h5 := fStg_z (z := z) (t := 5) C s6 (by decide) hs
      have fin : ∀ (v : Int) (lv : zp_L), v = bi (fInT z S' p) → lvok [(1, iv (cntB (fDlv z S') (p + 1) : Nat)), (3, .ref it)] lv → zW g 3 189 87 lv [iv v, iv (cntB (fInT z S') p : Nat)] σ2 (fun r σ' => r = (if cntB (fDlv z S') (sn S' 8) = 0 then .inr "java/lang/ArithmeticException" else .inl (some (.float (shr (cntB (fInT z S') (sn S' 8)) (cntB (fDlv z S') (sn S' 8)))))) ∧ hRep g w0 σ' gh' S' J ∧ kc σ σ' 2 10) := by
        intro v lv hv hlv
        refine zW_ly hlv rfl ?_
        refine zW_p 1 rfl ?_
        rw [I_add, hv, ← cntB_succ]
        refine zW_p 2 rfl ?_
        refine zW_lv ((3, .ref it) :: [(1, iv (cntB (fDlv z S') (p + 1) : Nat)), (2, iv (cntB (fInT z S') (p + 1) : Nat))]) rfl ⟨rfl, rfl, rfl, trivial⟩ ?_
        exact hback _ σ2 _ _ H2 ⟨rfl, rfl, rfl, hk⟩
      have mid : ∀ (w : Bool) (lv : zp_L), w = fDlv z S' p → lvok [(1, iv (cntB (fDlv z S') p : Nat)), (2, iv (cntB (fInT z S') p : Nat)), (3, .ref it), (4, .ref e), (5, iv (bi w))] lv → zW g 3 189 50 lv [] σ2 (fun r σ' => r = (if cntB (fDlv z S') (sn S' 8) = 0 then .inr "java/lang/ArithmeticException" else .inl (some (.float (shr (cntB (fInT z S') (sn S' 8)) (cntB (fDlv z S') (sn S' 8)))))) ∧ hRep g w0 σ' gh' S' J ∧ kc σ σ' 2 10) := by
        intro w lv hw hlv
        refine zW_ly hlv rfl ?_
        have hc := cntB_succ (f := fDlv z S') (p := p)
        rw [← hw] at hc
        have hI : fInT z S' p = (w && decide (sT S' 8 12 p ≤ sT S' 8 4 p)) := by unfold fInT; rw [hw]; rfl
        cases w with
        | true =>
          refine zW_p 6 rfl ?_
          rw [I_add]
          refine zW_p 5 rfl ?_
          refine hW_get H2 rfl he rfl rfl rfl ?_
          refine zW_p 1 rfl ?_
          refine hW_get H2 rfl he rfl rfl rfl ?_
          by_cases hle : sT S' 8 12 p ≤ sT S' 8 4 p
          · refine zW_f rfl rfl (fun q => by have := (I_lt r4 r12).mp q; omega) ?_
            refine zW_p 2 rfl ?_
            exact fin 1 _ (by rw [hI, decide_eq_true hle]; rfl) ⟨by rw [hc]; rfl, rfl, trivial⟩
          · refine zW_t rfl rfl ((I_lt r4 r12).mpr (by omega)) ?_
            refine zW_p 1 rfl ?_
            exact fin 0 _ (by rw [hI, decide_eq_false hle]; rfl) ⟨by rw [hc]; rfl, rfl, trivial⟩
        | false =>
          refine zW_p 5 rfl ?_
          rw [I_add]
          refine zW_p 5 rfl ?_
          exact fin 0 _ (by rw [hI]; rfl) ⟨by rw [hc]; rfl, rfl, trivial⟩
      refine hW_cast H2 rfl he rfl rfl rfl ?_
      refine zW_p 2 rfl ?_
      refine hW_get H2 rfl he rfl rfl rfl ?_
      rw [hs, ← convC]
      refine aW_stat rfl rfl (C.1 5 (by decide)).1 ?_
      by_cases e5 : s = 5
      · subst e5
        refine zW_f rfl rfl (fun q => q rfl) ?_
        refine zW_p 3 rfl ?_
        exact mid true _ (by unfold fDlv; rw [h5]; rfl) ⟨rfl, rfl, rfl, rfl, rfl, trivial⟩
      · refine zW_t rfl rfl (fun q => e5 (C.inj (by omega) (by decide) q)) ?_
        refine zW_p 2 rfl ?_
        exact mid false _ (by unfold fDlv; rw [h5, decide_eq_false e5]) ⟨rfl, rfl, rfl, rfl, rfl, trivial⟩
    · rintro lv σ2 gh' S' H2 ⟨rfl, rfl, rfl, hk⟩
      rw [f8, idl_len]
      have hle1 : cntB (fDlv z S') (sn S' 8) ≤ sn S' 8 := cntB_le
      generalize cntB (fDlv z S') (sn S' 8) = n at hle1 ⊢
      have hle2 : cntB (fInT z S') (sn S' 8) ≤ sn S' 8 := cntB_le
      generalize cntB (fInT z S') (sn S' 8) = m at hle2 ⊢
      have k2 : kc σ σ2 1 4 := k1.trans (kc.of hk)
      refine zW_p 1 rfl ?_
      by_cases h0 : n = 0
      · rw [if_pos h0]
        refine zW_f rfl rfl (fun q => q ((I_eq0 ⟨by omega, by omega⟩).mpr (by omega))) ?_
        exact hW_throw H2 rfl rfl rfl rfl (fun σ' H' k' => ⟨rfl, H', (k2.trans k').mono (by omega) (by omega)⟩)
      · rw [if_neg h0]
        have hn0 : Int32.ofInt (n : Int) ≠ 0 := fun q => h0 (by have := (I_eq0 ⟨by omega, by omega⟩).mp q; omega)
        refine zW_t rfl rfl hn0 ?_
        refine zW_p 4 rfl ?_
        refine zW_fdiv rfl (zf_ok (by omega) (by omega) (by omega)) ?_
        exact wW_ret rfl rfl rfl rfl ⟨rfl, H2, k2.mono (by omega) (by omega)⟩
  obtain ⟨r, σ', h1, rfl, h2, h3⟩ := main
  exact ⟨σ', h1, h2, h3⟩
def fBz (S : hS) (m : Nat) : Int := sT S 1 11 m + if sT S 1 7 m < 0 then 0 else sT S 0 6 0 - sT S 1 9 m
def fBzN (S : hS) (p : Nat) : Int := ((List.range p).map (fBz S)).sum
def mean (x : Int) (n : Nat) : UInt64 := FP.ddiv (FP.l2d (Int64.ofInt x)) (FP.i2d (Int32.ofInt n))
theorem F_meanBusy (H : hRep g w0 σ gh S J) (hF : fFix S) (hr : ∀ m : Nat, m < sn S 1 → rg (sT S 0 6 0 - sT S 1 9 m)) (hs : 0 ≤ fBzN S (sn S 1) ∧ fBzN S (sn S 1) < 1000000) (ha : hat gh S 0 0 a) :
    ∃ σ' : zS, zEnd g 3 192 [.ref a] σ (if sn S 1 = 0 then .inr "java/lang/ArithmeticException" else .inl (some (.double (mean (fBzN S (sn S 1)) (sn S 1))))) σ' ∧ hRep g w0 σ' gh S J ∧ kc σ σ' 2 10 := by
  have hFx := hF
  obtain ⟨f0, f1, f2, f3, f4, f5, f6, f7, f8, f9, fa, fb, fc, fd⟩ := hF
  have main : zW g 3 192 0 (lv_args 0 [.ref a]) [] σ (fun r σ' => r = (if sn S 1 = 0 then .inr "java/lang/ArithmeticException" else .inl (some (.double (mean (fBzN S (sn S 1)) (sn S 1))))) ∧ hRep g w0 σ' gh S J ∧ kc σ σ' 2 10) := by
    refine zW_p 1 rfl ?_
    refine hW_getr (j := 0) H rfl ha rfl rfl rfl f1 (fun b0 hb0 => ?_)
    refine hW_isEmpty H rfl rfl rfl hb0 rfl rfl rfl (by omega) ?_
    rw [f6, idl_len]
    by_cases h0 : sn S 1 = 0
    · rw [if_pos h0, if_pos h0]
      refine zW_p 1 rfl ?_
      exact hW_throw H rfl rfl rfl rfl (fun σ' H' k' => ⟨rfl, H', k'.mono (by omega) (by omega)⟩)
    · rw [if_neg h0, if_neg h0]
      refine zW_p 4 rfl ?_
      refine hW_getr (j := 0) H rfl ha rfl rfl rfl f1 (fun b1 hb1 => ?_)
      refine hW_iter H rfl rfl rfl hb1 rfl rfl rfl (by omega) (fun σ1 it hJ H1 k1 => ?_)
      refine zW_p 1 rfl ?_
      refine zW_lv ((3, .ref it) :: [(0, .ref a), (1, .long (Int64.ofInt (fBzN S 0)))]) rfl ⟨rfl, rfl, rfl, trivial⟩ ?_
      refine hW_loop (c := 20) (i := 0) (b := b1) (n := 1) (xs := sE S 20 0) (mc := Int32.ofInt (sM S 20 0)) (fun p lv κ gh' S' => lv = [(0, .ref a), (1, .long (Int64.ofInt (fBzN S p)))] ∧ gh' = gh ∧ S' = S ∧ κ = σ1.2) hJ rfl rfl rfl (fun _ => rfl) rfl rfl rfl (fun _ => rfl) (fun _ => rfl) rfl rfl rfl (by omega) ?_ ?_ ?_ _ _ _ _ H1 ⟨rfl, rfl, rfl, rfl⟩
      · rintro p lv κ gh' S' ⟨rfl, rfl, rfl, hk⟩
        exact ⟨hb1, rfl, rfl⟩
      · rintro p y lv σ2 gh' S' J2 e hp hy ⟨rfl, rfl, rfl, hk⟩ H2 hd he hback
        rw [f6, idl_len] at hp
        rw [f6, idl_at hp] at hy
        obtain rfl : p = y := by have := Option.some.inj hy; omega
        have fin : ∀ (v : Int) (lv : zp_L), v = (if sT S' 1 7 p < 0 then 0 else sT S' 0 6 0 - sT S' 1 9 p) → rg v → lvok [(0, .ref a), (3, .ref it)] lv → zW g 3 192 76 lv [iv v, .long (Int64.ofInt (sT S' 1 11 p)), .long (Int64.ofInt (fBzN S' p))] σ2 (fun r σ' => r = .inl (some (.double (mean (fBzN S' (sn S' 1)) (sn S' 1)))) ∧ hRep g w0 σ' gh' S' J ∧ kc σ σ' 2 10) := by
          intro v lv hv rv hlv
          refine zW_ly hlv rfl ?_
          refine zW_p 1 rfl ?_
          rw [L_of rv]
          refine zW_p 1 rfl ?_
          rw [L_add]
          refine zW_p 1 rfl ?_
          rw [L_add]
          refine zW_p 2 rfl ?_
          have hsum : fBzN S' (p + 1) = fBzN S' p + (sT S' 1 11 p + v) := by rw [hv]; exact sum_succ
          refine zW_lv ((3, .ref it) :: [(0, .ref a), (1, .long (Int64.ofInt (fBzN S' (p + 1))))]) rfl ⟨rfl, rfl, by rw [hsum]; rfl, trivial⟩ ?_
          exact hback _ σ2 _ _ H2 ⟨rfl, rfl, rfl, hk⟩
        refine hW_cast H2 rfl he rfl rfl rfl ?_
        refine zW_p 3 rfl ?_
        refine hW_get H2 rfl he rfl rfl rfl ?_
        refine zW_p 1 rfl ?_
        by_cases h7 : sT S' 1 7 p < 0
        · refine hW_getn H2 rfl he rfl rfl rfl h7 ?_
          refine zW_p 3 rfl ?_
          exact fin 0 _ (by rw [if_pos h7]) ⟨by decide, by decide⟩ ⟨rfl, rfl, trivial⟩
        · refine hW_getr (j := (sT S' 1 7 p).toNat) H2 rfl he rfl rfl rfl (Int.toNat_of_nonneg (by omega)).symm (fun b2 hb2 => ?_)
          refine zW_p 2 rfl ?_
          refine hW_get H2 rfl ha rfl rfl rfl ?_
          refine zW_p 1 rfl ?_
          refine hW_get H2 rfl he rfl rfl rfl ?_
          refine zW_p 1 rfl ?_
          rw [I_sub]
          exact fin _ _ (by rw [if_neg h7]) (hr p hp) ⟨rfl, rfl, trivial⟩
      · rintro lv σ2 gh' S' H2 ⟨rfl, rfl, rfl, hk⟩
        rw [f6, idl_len]
        have k2 : kc σ σ2 1 4 := k1.trans (kc.of hk)
        refine zW_p 3 rfl ?_
        refine hW_getr (j := 0) H2 rfl ha rfl rfl rfl f1 (fun b2 hb2 => ?_)
        refine hW_size H2 rfl rfl rfl hb2 rfl rfl rfl (by omega) ?_
        rw [f6, idl_len]
        refine zW_p 1 rfl ?_
        refine zW_ddiv rfl (zd_okL hs.1 hs.2 (by omega) (by omega)) ?_
        exact wW_ret rfl rfl rfl rfl ⟨rfl, H2, k2.mono (by omega) (by omega)⟩
  obtain ⟨r, σ', h1, rfl, h2, h3⟩ := main
  exact ⟨σ', h1, h2, h3⟩
end ZSH
