/-! THE MODEL: inTimeShare, meanBusy -/
set_option maxRecDepth 100000
section ZMSH
variable {g : zG} {w0 : hG} {σ : zS} {gh : Nat → Nat → Nat} {S : hS} {J : zw_W} {a b o d k pc : Nat} {lv : zp_L} {st : List Value} {Q : Option Value ⊕ String → zS → Prop}
def mDlv (S : hS) (o : Nat) : Bool := decide (0 ≤ sT S 15 14 o)
def mInT (S : hS) (o : Nat) : Bool := decide (0 ≤ sT S 15 14 o) && decide (sT S 15 14 o ≤ sT S 15 4 o)
theorem M_inTimeShare (H : hRep g w0 σ gh S J) (hF : mFix S) (hr : ∀ o : Nat, o < sn S 15 → rg (sT S 15 14 o) ∧ rg (sT S 15 4 o)) (ha : hat gh S 11 0 a) :
    ∃ σ' : zS, zEnd g 3 259 [.ref a] σ (.inl (some (.float (if cntB (mDlv S) (sn S 15) = 0 then FP.fconst0 else shr (cntB (mInT S) (sn S 15)) (cntB (mDlv S) (sn S 15)))))) σ' ∧ hRep g w0 σ' gh (mt S (if cntB (mDlv S) (sn S 15) = 0 then 1 else 0)) J ∧ kc σ σ' 2 10 := by
  have hFx := hF
  obtain ⟨f0, f1, f2, f3, f4, f5, f6, f7, f8, f9, fa, fb, fc, fd, fe⟩ := hF
  have main : zW g 3 259 0 (lv_args 0 [.ref a]) [] σ (fun r σ' => r = (.inl (some (.float (if cntB (mDlv S) (sn S 15) = 0 then FP.fconst0 else shr (cntB (mInT S) (sn S 15)) (cntB (mDlv S) (sn S 15)))))) ∧ hRep g w0 σ' gh (mt S (if cntB (mDlv S) (sn S 15) = 0 then 1 else 0)) J ∧ kc σ σ' 2 10) := by
    refine zW_p 5 rfl ?_
    refine hW_getr (j := 0) H rfl ha rfl rfl rfl f4 (fun b0 hb0 => ?_)
    refine hW_iter H rfl rfl rfl hb0 rfl rfl rfl (by omega) (fun σ1 it hJ H1 k1 => ?_)
    refine zW_p 1 rfl ?_
    refine zW_lv ((3, .ref it) :: [(0, .ref a), (1, iv (cntB (mDlv S) 0 : Nat)), (2, iv (cntB (mInT S) 0 : Nat))]) rfl ⟨rfl, rfl, rfl, rfl, trivial⟩ ?_
    refine hW_loop (c := 33) (i := 0) (b := b0) (n := 15) (xs := sE S 33 0) (mc := Int32.ofInt (sM S 33 0)) (fun p lv κ gh' S' => lv = [(0, .ref a), (1, iv (cntB (mDlv S) p : Nat)), (2, iv (cntB (mInT S) p : Nat))] ∧ gh' = gh ∧ S' = S ∧ κ = σ1.2) hJ rfl rfl rfl (fun _ => rfl) rfl rfl rfl (fun _ => rfl) (fun _ => rfl) rfl rfl rfl (by omega) ?_ ?_ ?_ _ _ _ _ H1 ⟨rfl, rfl, rfl, rfl⟩
    · rintro p lv κ gh' S' ⟨rfl, rfl, rfl, hk⟩
      exact ⟨hb0, rfl, rfl⟩
    · rintro p y lv σ2 gh' S' J2 e hp hy ⟨rfl, rfl, rfl, hk⟩ H2 hd he hback
      rw [fa, idl_len] at hp
      rw [fa, idl_at hp] at hy
      obtain rfl : p = y := by have := Option.some.inj hy; omega
      obtain ⟨r14, r4⟩ := hr p hp
      have fin : ∀ (v : Int) (lv : zp_L), v = bi (mInT S' p) → lvok [(0, .ref a), (1, iv (cntB (mDlv S') (p + 1) : Nat)), (3, .ref it)] lv → zW g 3 259 75 lv [iv v, iv (cntB (mInT S') p : Nat)] σ2 (fun r σ' => r = (.inl (some (.float (if cntB (mDlv S') (sn S' 15) = 0 then FP.fconst0 else shr (cntB (mInT S') (sn S' 15)) (cntB (mDlv S') (sn S' 15)))))) ∧ hRep g w0 σ' gh' (mt S' (if cntB (mDlv S') (sn S' 15) = 0 then 1 else 0)) J ∧ kc σ σ' 2 10) := by
        intro v lv hv hlv
        refine zW_ly hlv rfl ?_
        refine zW_p 1 rfl ?_
        rw [I_add, hv, ← cntB_succ]
        refine zW_p 2 rfl ?_
        refine zW_lv ((3, .ref it) :: [(0, .ref a), (1, iv (cntB (mDlv S') (p + 1) : Nat)), (2, iv (cntB (mInT S') (p + 1) : Nat))]) rfl ⟨rfl, rfl, rfl, rfl, trivial⟩ ?_
        exact hback _ σ2 _ _ H2 ⟨rfl, rfl, rfl, hk⟩
      have hc := cntB_succ (f := mDlv S') (p := p)
      refine hW_cast H2 rfl he rfl rfl rfl ?_
      refine zW_p 3 rfl ?_
      refine hW_get H2 rfl he rfl rfl rfl ?_
      by_cases h0 : 0 ≤ sT S' 15 14 p
      · have hD : mDlv S' p = true := decide_eq_true h0
        rw [hD] at hc
        refine zW_f rfl rfl (fun q => by have := (I_lt0 r14).mp q; omega) ?_
        refine zW_p 3 rfl ?_
        rw [I_add]
        refine zW_p 3 rfl ?_
        refine hW_get H2 rfl he rfl rfl rfl ?_
        refine zW_f rfl rfl (fun q => by have := (I_lt0 r14).mp q; omega) ?_
        refine zW_p 1 rfl ?_
        refine hW_get H2 rfl he rfl rfl rfl ?_
        refine zW_p 1 rfl ?_
        refine hW_get H2 rfl he rfl rfl rfl ?_
        by_cases hle : sT S' 15 14 p ≤ sT S' 15 4 p
        · refine zW_f rfl rfl (fun q => by have := (I_lt r4 r14).mp q; omega) ?_
          refine zW_p 2 rfl ?_
          exact fin 1 _ (by unfold mInT; rw [decide_eq_true h0, decide_eq_true hle]; rfl) ⟨rfl, by rw [hc]; rfl, rfl, trivial⟩
        · refine zW_t rfl rfl ((I_lt r4 r14).mpr (by omega)) ?_
          refine zW_p 1 rfl ?_
          exact fin 0 _ (by unfold mInT; rw [decide_eq_true h0, decide_eq_false hle]; rfl) ⟨rfl, by rw [hc]; rfl, rfl, trivial⟩
      · have hD : mDlv S' p = false := decide_eq_false h0
        rw [hD] at hc
        refine zW_t rfl rfl ((I_lt0 r14).mpr (by omega)) ?_
        refine zW_p 2 rfl ?_
        rw [I_add]
        refine zW_p 3 rfl ?_
        refine hW_get H2 rfl he rfl rfl rfl ?_
        refine zW_t rfl rfl ((I_lt0 r14).mpr (by omega)) ?_
        refine zW_p 1 rfl ?_
        exact fin 0 _ (by unfold mInT; rw [decide_eq_false h0]; rfl) ⟨rfl, by rw [hc]; rfl, rfl, trivial⟩
    · rintro lv σ2 gh' S' H2 ⟨rfl, rfl, rfl, hk⟩
      rw [fa, idl_len]
      have hle1 : cntB (mDlv S') (sn S' 15) ≤ sn S' 15 := cntB_le
      generalize cntB (mDlv S') (sn S' 15) = n at hle1 ⊢
      have hle2 : cntB (mInT S') (sn S' 15) ≤ sn S' 15 := cntB_le
      generalize cntB (mInT S') (sn S' 15) = m at hle2 ⊢
      have k2 : kc σ σ2 1 4 := k1.trans (kc.of hk)
      refine zW_p 2 rfl ?_
      by_cases h0 : n = 0
      · rw [if_pos h0, if_pos h0]
        refine zW_f rfl rfl (fun q => q ((I_eq0 ⟨by omega, by omega⟩).mpr (by omega))) ?_
        obtain ⟨σ3, g3, H3, k3⟩ := M_fails (v := 1) H2 ha ⟨by decide, by decide⟩
        refine zW_p 2 rfl ?_
        refine wV rfl rfl rfl rfl rfl rfl rfl (H2.rc ha rfl rfl) g3 (by omega) ?_
        refine zW_p 3 rfl ?_
        exact wW_ret rfl rfl rfl rfl ⟨rfl, H3, (k2.trans (kc.of k3)).mono (by omega) (by omega)⟩
      · rw [if_neg h0, if_neg h0]
        have hn0 : Int32.ofInt (n : Int) ≠ 0 := fun q => h0 (by have := (I_eq0 ⟨by omega, by omega⟩).mp q; omega)
        refine zW_t rfl rfl hn0 ?_
        obtain ⟨σ3, g3, H3, k3⟩ := M_fails (v := 0) H2 ha ⟨by decide, by decide⟩
        refine zW_p 1 rfl ?_
        refine wV rfl rfl rfl rfl rfl rfl rfl (H2.rc ha rfl rfl) g3 (by omega) ?_
        refine zW_p 5 rfl ?_
        refine zW_fdiv rfl (zf_ok (by omega) (by omega) (by omega)) ?_
        exact wW_ret rfl rfl rfl rfl ⟨rfl, H3, (k2.trans (kc.of k3)).mono (by omega) (by omega)⟩
  obtain ⟨r, σ', h1, rfl, h2, h3⟩ := main
  exact ⟨σ', h1, h2, h3⟩
def mBz (S : hS) (m : Nat) : Int := sT S 12 10 m + if sT S 12 6 m = 111 then sT S 11 8 0 - sT S 12 8 m else 0
def mBzN (S : hS) (p : Nat) : Int := ((List.range p).map (mBz S)).sum
def meanI (x : Int) (n : Nat) : UInt64 := FP.ddiv (FP.i2d (Int32.ofInt x)) (FP.i2d (Int32.ofInt n))
theorem M_meanBusy (H : hRep g w0 σ gh S J) (hF : mFix S) (hM : mMach S) (hs : 0 ≤ mBzN S (sn S 12) ∧ mBzN S (sn S 12) < 1000000) (ha : hat gh S 11 0 a) :
    ∃ σ' : zS, zEnd g 3 260 [.ref a] σ (.inl (some (.double (if sn S 12 = 0 then FP.dconst0 else meanI (mBzN S (sn S 12)) (sn S 12))))) σ' ∧ hRep g w0 σ' gh (mt S (if sn S 12 = 0 then 1 else 0)) J ∧ kc σ σ' 2 10 := by
  have hFx := hF
  obtain ⟨f0, f1, f2, f3, f4, f5, f6, f7, f8, f9, fa, fb, fc, fd, fe⟩ := hF
  have main : zW g 3 260 0 (lv_args 0 [.ref a]) [] σ (fun r σ' => r = (.inl (some (.double (if sn S 12 = 0 then FP.dconst0 else meanI (mBzN S (sn S 12)) (sn S 12))))) ∧ hRep g w0 σ' gh (mt S (if sn S 12 = 0 then 1 else 0)) J ∧ kc σ σ' 2 10) := by
    refine zW_p 3 rfl ?_
    refine hW_getr (j := 0) H rfl ha rfl rfl rfl f1 (fun b1 hb1 => ?_)
    refine hW_iter H rfl rfl rfl hb1 rfl rfl rfl (by omega) (fun σ1 it hJ H1 k1 => ?_)
    refine zW_p 1 rfl ?_
    refine zW_lv ((2, .ref it) :: [(0, .ref a), (1, iv (mBzN S 0))]) rfl ⟨rfl, rfl, rfl, trivial⟩ ?_
    refine hW_loop (c := 30) (i := 0) (b := b1) (n := 12) (xs := sE S 30 0) (mc := Int32.ofInt (sM S 30 0)) (fun p lv κ gh' S' => lv = [(0, .ref a), (1, iv (mBzN S p))] ∧ gh' = gh ∧ S' = S ∧ κ = σ1.2) hJ rfl rfl rfl (fun _ => rfl) rfl rfl rfl (fun _ => rfl) (fun _ => rfl) rfl rfl rfl (by omega) ?_ ?_ ?_ _ _ _ _ H1 ⟨rfl, rfl, rfl, rfl⟩
    · rintro p lv κ gh' S' ⟨rfl, rfl, rfl, hk⟩
      exact ⟨hb1, rfl, rfl⟩
    · rintro p y lv σ2 gh' S' J2 e hp hy ⟨rfl, rfl, rfl, hk⟩ H2 hd he hback
      rw [f7, idl_len] at hp
      rw [f7, idl_at hp] at hy
      obtain rfl : p = y := by have := Option.some.inj hy; omega
      have rs : rg (sT S' 12 6 p) := by rcases hM p hp with e | e | e <;> rw [e] <;> constructor <;> decide
      have fin : ∀ (v : Int) (lv : zp_L), v = (if sT S' 12 6 p = 111 then sT S' 11 8 0 - sT S' 12 8 p else 0) → lvok [(0, .ref a), (2, .ref it)] lv → zW g 3 260 56 lv [iv v, iv (sT S' 12 10 p), iv (mBzN S' p)] σ2 (fun r σ' => r = (.inl (some (.double (if sn S' 12 = 0 then FP.dconst0 else meanI (mBzN S' (sn S' 12)) (sn S' 12))))) ∧ hRep g w0 σ' gh' (mt S' (if sn S' 12 = 0 then 1 else 0)) J ∧ kc σ σ' 2 10) := by
        intro v lv hv hlv
        refine zW_ly hlv rfl ?_
        refine zW_p 1 rfl ?_
        rw [I_add]
        refine zW_p 1 rfl ?_
        rw [I_add]
        refine zW_p 2 rfl ?_
        have hsum : mBzN S' (p + 1) = mBzN S' p + (sT S' 12 10 p + v) := by rw [hv]; exact sum_succ
        refine zW_lv ((2, .ref it) :: [(0, .ref a), (1, iv (mBzN S' (p + 1)))]) rfl ⟨rfl, rfl, by rw [hsum]; rfl, trivial⟩ ?_
        exact hback _ σ2 _ _ H2 ⟨rfl, rfl, rfl, hk⟩
      refine hW_cast H2 rfl he rfl rfl rfl ?_
      refine zW_p 3 rfl ?_
      refine hW_get H2 rfl he rfl rfl rfl ?_
      refine zW_p 1 rfl ?_
      refine hW_get H2 rfl he rfl rfl rfl ?_
      refine zW_p 1 rfl ?_
      by_cases h7 : sT S' 12 6 p = 111
      · refine zW_f rfl rfl (fun q => q ((I_eq rs (by constructor <;> decide)).2 h7)) ?_
        refine zW_p 1 rfl ?_
        refine hW_get H2 rfl ha rfl rfl rfl ?_
        refine zW_p 1 rfl ?_
        refine hW_get H2 rfl he rfl rfl rfl ?_
        refine zW_p 1 rfl ?_
        rw [I_sub]
        refine zW_p 1 rfl ?_
        exact fin _ _ (by rw [if_pos h7]) ⟨rfl, rfl, trivial⟩
      · refine zW_t rfl rfl (fun q => h7 ((I_eq rs (by constructor <;> decide)).1 q)) ?_
        refine zW_p 1 rfl ?_
        exact fin 0 _ (by rw [if_neg h7]) ⟨rfl, rfl, trivial⟩
    · rintro lv σ2 gh' S' H2 ⟨rfl, rfl, rfl, hk⟩
      rw [f7, idl_len]
      have k2 : kc σ σ2 1 4 := k1.trans (kc.of hk)
      refine zW_p 2 rfl ?_
      refine hW_getr (j := 0) H2 rfl ha rfl rfl rfl f1 (fun b2 hb2 => ?_)
      refine hW_isEmpty H2 rfl rfl rfl hb2 rfl rfl rfl (by omega) ?_
      rw [f7, idl_len]
      by_cases h0 : sn S' 12 = 0
      · rw [if_pos h0, if_pos h0]
        refine zW_p 3 rfl ?_
        obtain ⟨σ3, g3, H3, k3⟩ := M_fails (v := 1) H2 ha ⟨by decide, by decide⟩
        refine wV rfl rfl rfl rfl rfl rfl rfl (H2.rc ha rfl rfl) g3 (by omega) ?_
        refine zW_p 3 rfl ?_
        exact wW_ret rfl rfl rfl rfl ⟨rfl, H3, (k2.trans (kc.of k3)).mono (by omega) (by omega)⟩
      · rw [if_neg h0, if_neg h0]
        refine zW_p 2 rfl ?_
        obtain ⟨σ3, g3, H3, k3⟩ := M_fails (v := 0) H2 ha ⟨by decide, by decide⟩
        refine wV rfl rfl rfl rfl rfl rfl rfl (H2.rc ha rfl rfl) g3 (by omega) ?_
        refine zW_p 4 rfl ?_
        refine hW_getr (j := 0) H3 rfl (show hat gh' (sset S' 11 0 0 0) 11 0 a from ha) rfl rfl rfl (by rw [sT_set, if_neg (by omega)]; exact f1) (fun b3 hb3 => ?_)
        refine hW_size H3 rfl rfl rfl hb3 rfl rfl rfl (by omega) ?_
        rw [show sE (sset S' 11 0 0 0) 30 0 = idl (sn S' 12) from f7, idl_len]
        refine zW_p 1 rfl ?_
        refine zW_ddiv rfl (zd_okI hs.1 hs.2 (by omega) (by omega)) ?_
        exact wW_ret rfl rfl rfl rfl ⟨rfl, H3, (k2.trans (kc.of k3)).mono (by omega) (by omega)⟩
  obtain ⟨r, σ', h1, rfl, h2, h3⟩ := main
  exact ⟨σ', h1, h2, h3⟩
end ZMSH
