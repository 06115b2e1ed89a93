/-! THE MODEL: sources -/
set_option maxRecDepth 100000
def mSrcT (s : mEst) (m l : Nat) : mEst := if tHeld (mh s.1) (mch s.1) 100 l = true then (s.1, s.2.1 + tN (mch s.1) 100 l, s.2.2 + 4 * tN (mch s.1) 100 l) else (ssE s.1 42 m (sE s.1 42 m ++ [(l : Int)]), s.2.1 + tN (mch s.1) 100 l + 1, s.2.2 + 4 * tN (mch s.1) 100 l + (2 * (sE s.1 42 m).length + 12))
def mSrcStep (o m : Nat) (s : mEst) (l : Nat) : mEst := if sT s.1 14 1 l = sT s.1 15 1 o ∧ (l : Int) ≠ sT s.1 15 12 o then mSrcT s m l else s
def mSrc0 (S : hS) (o : Nat) : mEst := if sT S 15 12 o < 0 then (snw S 42 [], 2, 7) else mSrcT (snw S 42 [], 2, 7) (sn S 42) (sT S 15 12 o).toNat
def mSrcN (S : hS) (o p : Nat) : mEst := (List.range p).foldl (mSrcStep o (sn S 42)) (mSrc0 S o)
def mSrc (S : hS) (o : Nat) : mEst := mSrcN S o (sn S 14)
theorem mSrcN_succ {S : hS} {o n : Nat} : mSrcN S o (n + 1) = mSrcStep o (sn S 42) (mSrcN S o n) n := by
  unfold mSrcN
  rw [List.range_succ, List.foldl_append]
  rfl
/-- what it keeps: all but the new list -/
def mSrcI (S T : hS) : Prop := (∀ c, c ≠ 42 → sn T c = sn S c) ∧ sn T 42 = sn S 42 + 1 ∧ (∀ c k i, c ≠ 42 → sT T c k i = sT S c k i) ∧ (∀ c i, c ≠ 42 → sE T c i = sE S c i) ∧ (∀ c i, c ≠ 42 → sM T c i = sM S c i)
theorem mSrcI.le {S T : hS} (h : mSrcI S T) (c : Nat) : sn S c ≤ sn T c := by
  by_cases e : c = 42
  · rw [e, h.2.1]; omega
  · rw [h.1 c e]; exact Nat.le_refl _
theorem mSrcI.ch {S T : hS} (h : mSrcI S T) : mch T = mch S := by
  funext i
  unfold mch
  rw [h.2.2.1 14 6 i (by decide), h.2.2.2.1 41 _ (by decide)]
theorem mSrcI.h {S T : hS} (h : mSrcI S T) : mh T = mh S := by
  funext i
  unfold mh
  rw [h.2.2.1 14 5 i (by decide)]
theorem mSrcI.w {S T : hS} (h : mSrcI S T) (hW : mW S) : mW T := fun i hi => by
  rw [h.1 14 (by decide)] at hi
  rw [h.2.2.1 14 5 i (by decide), h.2.2.1 14 6 i (by decide), h.2.2.2.1 41 _ (by decide)]
  exact hW i hi
theorem mSrcI_0 {S : hS} : mSrcI S (snw S 42 []) := ⟨fun c h => by rw [sn_w, if_neg h], by rw [sn_w, if_pos rfl], fun c k i h => by rw [sT_w, if_neg (fun e => h e.1)], fun c i h => by rw [sE_w, if_neg (fun e => h e.1)], fun c i h => by rw [sM_w, if_neg (fun e => h e.1)]⟩
theorem mSrcI_T {S : hS} {s : mEst} {m l : Nat} (h : mSrcI S s.1) : mSrcI S (mSrcT s m l).1 := by
  unfold mSrcT
  split
  · exact h
  · obtain ⟨h1, h2, h3, h4, h5⟩ := h
    exact ⟨h1, h2, h3, fun c i hc => by show sE (ssE s.1 42 m _) c i = _; rw [sE_ssE, if_neg (fun e => hc e.1)]; exact h4 c i hc, fun c i hc => by show sM (ssE s.1 42 m _) c i = _; rw [sM_ssE, if_neg (fun e => hc e.1)]; exact h5 c i hc⟩
theorem mSrcT_len {s : mEst} {m l : Nat} : (sE (mSrcT s m l).1 42 m).length ≤ (sE s.1 42 m).length + 1 := by
  unfold mSrcT
  split
  · exact Nat.le_succ _
  · show (sE (ssE s.1 42 m _) 42 m).length ≤ _
    rw [sE_ssE, if_pos ⟨rfl, rfl⟩, List.length_append]
    simp
section ZMSR
variable {g : zG} {w0 : hG} {σ : zS} {gh : Nat → Nat → Nat} {S T : hS} {J : zw_W} {a b o m mb l lb : Nat} {Q : Option Value ⊕ String → zS → Prop}
/-- a lot that isn't held is added: from the load of the lot at pc to the join behind the add -/
theorem M_sources (H : hRep g w0 σ gh S J) (hF : mFix S) (hW : mW S) (ha : hat gh S 11 0 a) (hb : hat gh S 15 o b) (hp1 : rg (sT S 15 1 o)) (hp2 : ∀ l : Nat, l < sn S 14 → rg (sT S 14 1 l)) :
    ∃ (σ' : zS) (mb : Nat), zEnd g 104 245 [.ref a, .ref b] σ (.inl (some (.ref mb))) σ' ∧ ∃ ghx, gext S gh ghx ∧ hRep g w0 σ' ghx (mSrc S o).1 J ∧ hat ghx (mSrc S o).1 42 (sn S 42) mb ∧ mSrcI S (mSrc S o).1 ∧ (sE (mSrc S o).1 42 (sn S 42)).length ≤ 1 + sn S 14 ∧ kc σ σ' (mSrc S o).2.1 (mSrc S o).2.2 := by
  obtain ⟨f0, f1, f2, f3, f4, f5, f6, f7, f8, f9, fa, fb, fc, fd, fe⟩ := hF
  have main : zW g 104 245 0 (lv_args 0 [.ref a, .ref b]) [] σ (fun r σ' => ∃ mb : Nat, r = .inl (some (.ref mb)) ∧ ∃ ghx, gext S gh ghx ∧ hRep g w0 σ' ghx (mSrc S o).1 J ∧ hat ghx (mSrc S o).1 42 (sn S 42) mb ∧ mSrcI S (mSrc S o).1 ∧ (sE (mSrc S o).1 42 (sn S 42)).length ≤ 1 + sn S 14 ∧ kc σ σ' (mSrc S o).2.1 (mSrc S o).2.2) := by
    generalize hQQ : (fun (r : Option Value ⊕ String) (σ' : zS) => ∃ mb : Nat, r = .inl (some (.ref mb)) ∧ ∃ ghx, gext S gh ghx ∧ hRep g w0 σ' ghx (mSrc S o).1 J ∧ hat ghx (mSrc S o).1 42 (sn S 42) mb ∧ mSrcI S (mSrc S o).1 ∧ (sE (mSrc S o).1 42 (sn S 42)).length ≤ 1 + sn S 14 ∧ kc σ σ' (mSrc S o).2.1 (mSrc S o).2.2) = QQ
    refine hW_newL 42 H rfl rfl rfl rfl rfl rfl rfl rfl rfl (fun _ => rfl) (by omega) (fun σ1 mb H1 hm1 k1 => ?_)
    have x1 : gext S gh (ghw gh S 42 mb) := gext_w gext_rfl (fun _ => Nat.le_refl _)
    have hlen0 : (sE (snw S 42 []) 42 (sn S 42)).length = 0 := by rw [sE_w, if_pos ⟨rfl, rfl⟩]; rfl
    generalize ghw gh S 42 mb = g1 at H1 hm1 x1
    have I0 : mSrcI S (snw S 42 []) := mSrcI_0
    have hb1 : hat g1 (snw S 42 []) 15 o b := x1.hat (fun c => I0.le c) hb
    -- behind the first lot
    have rest : ∀ (σ2 : zS) (lv : zp_L), hRep g w0 σ2 g1 (mSrc0 S o).1 J → mSrcI S (mSrc0 S o).1 → (sE (mSrc0 S o).1 42 (sn S 42)).length ≤ 1 → hat g1 (mSrc0 S o).1 42 (sn S 42) mb → ∀ (m0 s0 : Nat), kd σ.2 σ2.2 m0 s0 → m0 + 1 ≤ (mSrc0 S o).2.1 → s0 + 4 ≤ (mSrc0 S o).2.2 → lvok [(0, .ref a), (1, .ref b), (2, .ref mb)] lv → zW g 104 245 42 lv [] σ2 QQ := by
      intro σ2 lv H2 hi hlen hm2 m0 s0 hk hm0 hs0 hlv
      have ha2 : hat g1 (mSrc0 S o).1 11 0 a := ⟨by rw [hi.1 11 (by decide)]; exact ha.1, (x1 11 0 ha.1).trans ha.2⟩
      have hb2 : hat g1 (mSrc0 S o).1 15 o b := ⟨by rw [hi.1 15 (by decide)]; exact hb.1, (x1 15 o hb.1).trans hb.2⟩
      refine zW_ly hlv rfl ?_
      refine zW_p 1 rfl ?_
      refine hW_getr (j := 0) H2 rfl ha2 rfl rfl rfl (by rw [hi.2.2.1 11 3 0 (by decide)]; exact f3) (fun b0 hb0 => ?_)
      refine hW_iter H2 rfl rfl rfl hb0 rfl rfl rfl (by omega) (fun σ3 it hJ H3 k3 => ?_)
      refine zW_p 1 rfl ?_
      refine zW_lv ((4, .ref it) :: [(0, .ref a), (1, .ref b), (2, .ref mb)]) rfl ⟨rfl, rfl, rfl, rfl, trivial⟩ ?_
      refine hW_loop (c := 32) (i := 0) (b := b0) (n := 14) (xs := sE S 32 0) (mc := Int32.ofInt (sM (mSrc0 S o).1 32 0)) (fun p lv κ gh' S' => lv = [(0, .ref a), (1, .ref b), (2, .ref mb)] ∧ gh' = g1 ∧ S' = (mSrcN S o p).1 ∧ mSrcI S S' ∧ (sE S' 42 (sn S 42)).length ≤ 1 + p ∧ kd σ.2 κ (mSrcN S o p).2.1 (mSrcN S o p).2.2) hJ rfl rfl rfl (fun _ => rfl) rfl rfl rfl (fun _ => rfl) (fun _ => rfl) rfl rfl rfl (by omega) ?_ ?_ ?_ _ _ _ _ H3 ⟨rfl, rfl, rfl, hi, hlen, (kd.trans hk k3.kd).mono hm0 hs0⟩
      · rintro p lv κ gh' S' ⟨rfl, rfl, hS', hi', hl', hk'⟩
        exact ⟨⟨by rw [hi'.1 32 (by decide), ← hi.1 32 (by decide)]; exact hb0.1, hb0.2⟩, hi'.2.2.2.1 32 0 (by decide), by rw [hi'.2.2.2.2 32 0 (by decide), ← hi.2.2.2.2 32 0 (by decide)]⟩
      · rintro p y lv σ4 gh' S' J2 e hp hy ⟨rfl, rfl, hS', hi', hl', hk'⟩ H4 hd he hback
        rw [f9, idl_len] at hp
        rw [f9, idl_at hp] at hy
        obtain rfl : p = y := by have := Option.some.inj hy; omega
        have hs : mSrcN S o (p + 1) = mSrcStep o (sn S 42) (mSrcN S o p) p := mSrcN_succ
        generalize hL : mSrcN S o p = L at hS' hk' hs
        obtain ⟨T, ct, sl⟩ := L
        simp only at hS' hk'
        subst hS'
        unfold mSrcStep at hs
        simp only at hs
        rw [hi'.2.2.1 14 1 p (by decide), hi'.2.2.1 15 1 o (by decide), hi'.2.2.1 15 12 o (by decide)] at hs
        have hbx : hat gh' S' 15 o b := ⟨by rw [hi'.1 15 (by decide)]; exact hb.1, (x1 15 o hb.1).trans hb.2⟩
        have hmx : hat gh' S' 42 (sn S 42) mb := ⟨by rw [hi'.2.1]; omega, hm1.2⟩
        have hWT : mW S' := hi'.w hW
        have skip : ∀ lv : zp_L, ¬ (sT S 14 1 p = sT S 15 1 o ∧ (p : Int) ≠ sT S 15 12 o) → lvok [(0, .ref a), (1, .ref b), (2, .ref mb), (4, .ref it)] lv → zW g 104 245 115 lv [] σ4 QQ := by
          intro lv hno hlv
          rw [if_neg hno] at hs
          refine zW_ly hlv rfl ?_
          refine zW_p 3 rfl ?_
          refine zW_lv ((4, .ref it) :: [(0, .ref a), (1, .ref b), (2, .ref mb)]) rfl ⟨rfl, rfl, rfl, rfl, trivial⟩ ?_
          exact hback _ σ4 _ _ H4 ⟨rfl, rfl, by rw [hs], hi', by omega, by rw [hs]; exact hk'⟩
        have take : ∀ lv : zp_L, (sT S 14 1 p = sT S 15 1 o ∧ (p : Int) ≠ sT S 15 12 o) → lvok [(0, .ref a), (1, .ref b), (2, .ref mb), (4, .ref it), (5, .ref e)] lv → zW g 104 245 94 lv [] σ4 QQ := by
          intro lv hyes hlv
          rw [if_pos hyes] at hs
          have hi2 := mSrcI_T (m := sn S 42) (l := p) (s := (S', ct, sl)) hi'
          have hl2 := mSrcT_len (s := (S', ct, sl)) (m := sn S 42) (l := p)
          simp only at hi2 hl2
          rw [← hs] at hi2 hl2
          unfold mSrcT at hs
          simp only at hs
          refine zW_ly hlv rfl ?_
          refine zW_p 1 rfl ?_
          obtain ⟨σ5, g5, H5, k5⟩ := M_isHeld 100 (by omega) H4 he hWT
          refine wV rfl rfl rfl rfl rfl rfl rfl (H4.rc he rfl rfl) g5 (by omega) ?_
          cases hh : tHeld (mh S') (mch S') 100 p with
          | true =>
            rw [hh, if_pos rfl] at hs
            refine zW_p 4 rfl ?_
            refine zW_lv ((4, .ref it) :: [(0, .ref a), (1, .ref b), (2, .ref mb)]) rfl ⟨rfl, rfl, rfl, rfl, trivial⟩ ?_
            exact hback _ σ5 _ _ H5 ⟨rfl, rfl, by rw [hs], hi', by omega, by rw [hs]; exact kd.trans hk' k5.kd⟩
          | false =>
            rw [hh, if_neg (by decide)] at hs
            refine zW_p 3 rfl ?_
            refine hW_add (x := (p : Int)) H5 rfl rfl rfl hmx rfl rfl rfl (elrepR he) (alvR he.1) (by omega) rfl (by omega) (fun σ6 H6 k6 => ?_)
            refine zW_p 5 rfl ?_
            refine zW_lv ((4, .ref it) :: [(0, .ref a), (1, .ref b), (2, .ref mb)]) rfl ⟨rfl, rfl, rfl, rfl, trivial⟩ ?_
            refine hback _ σ6 _ _ (by exact H6) ⟨rfl, rfl, by rw [hs], ?_, ?_, ?_⟩
            · rw [hs] at hi2; exact hi2
            · rw [hs] at hl2
              simp only at hl2
              omega
            · rw [hs]
              exact (kd.trans (kd.trans hk' k5.kd) k6.kd)
        have rp : rg (sT S 14 1 p) := hp2 p hp
        refine hW_cast H4 rfl he rfl rfl rfl ?_
        refine zW_p 2 rfl ?_
        refine hW_get H4 rfl he rfl rfl rfl ?_
        rw [hi'.2.2.1 14 1 p (by decide)]
        refine zW_p 1 rfl ?_
        refine hW_get H4 rfl hbx rfl rfl rfl ?_
        rw [hi'.2.2.1 15 1 o (by decide)]
        by_cases e1 : sT S 14 1 p = sT S 15 1 o
        · refine zW_f rfl rfl (fun q => q (by rw [e1])) ?_
          refine zW_p 2 rfl ?_
          by_cases e13 : sT S 15 12 o < 0
          · refine hW_getn H4 rfl hbx rfl rfl rfl (by rw [hi'.2.2.1 15 12 o (by decide)]; exact e13) ?_
            refine zW_p 1 rfl ?_
            exact take _ ⟨e1, by omega⟩ ⟨rfl, rfl, rfl, rfl, rfl, trivial⟩
          · have hl13 : sT S 15 12 o = ((sT S 15 12 o).toNat : Nat) := (Int.toNat_of_nonneg (by omega)).symm
            refine hW_getr (j := (sT S 15 12 o).toNat) H4 rfl hbx rfl rfl rfl (by rw [hi'.2.2.1 15 12 o (by decide)]; exact hl13) (fun b4 hb4 => ?_)
            by_cases e4 : p = (sT S 15 12 o).toNat
            · refine zW_t rfl rfl (by rw [← he.2, ← hb4.2, ← e4]) ?_
              exact skip _ (fun q => q.2 (by omega)) ⟨rfl, rfl, rfl, rfl, trivial⟩
            · refine zW_f rfl rfl (fun q => e4 (H4.inj he.1 hb4.1 (by rw [he.2, hb4.2, q])).2) ?_
              exact take _ ⟨e1, by omega⟩ ⟨rfl, rfl, rfl, rfl, rfl, trivial⟩
        · refine zW_t rfl rfl (fun q => e1 ((I_eq rp hp1).1 q)) ?_
          exact skip _ (fun q => e1 q.1) ⟨rfl, rfl, rfl, rfl, trivial⟩
      · rintro lv σ4 gh' S' H4 ⟨rfl, rfl, hS', hi', hl', hk'⟩
        rw [f9, idl_len] at hS' hl' hk'
        have hE : (mSrcN S o (sn S 14)) = mSrc S o := rfl
        rw [hE] at hS' hk'
        subst hS'
        refine zW_p 1 rfl ?_
        refine wW_ret rfl rfl rfl rfl ?_
        rw [← hQQ]
        exact ⟨mb, rfl, gh', x1, H4, ⟨by rw [hi'.2.1]; omega, hm1.2⟩, hi', hl', hk'.kc⟩
    refine zW_p 2 rfl ?_
    by_cases e13 : sT S 15 12 o < 0
    · have eD0 : mSrc0 S o = (snw S 42 [], 2, 7) := by unfold mSrc0; rw [if_pos e13]
      refine hW_getn H1 rfl hb1 rfl rfl rfl (by rw [I0.2.2.1 15 12 o (by decide)]; exact e13) ?_
      refine zW_p 3 rfl ?_
      exact rest σ1 _ (by rw [eD0]; exact H1) (by rw [eD0]; exact I0) (by rw [eD0]; show (sE (snw S 42 []) 42 (sn S 42)).length ≤ 1; omega) (by rw [eD0]; exact hm1) 1 3 k1.kd (by rw [eD0]; exact Nat.le_refl _) (by rw [eD0]; exact Nat.le_refl _) ⟨rfl, rfl, rfl, trivial⟩
    · obtain ⟨q, hq13⟩ : ∃ q : Nat, sT S 15 12 o = q := ⟨(sT S 15 12 o).toNat, (Int.toNat_of_nonneg (by omega)).symm⟩
      have eD0 : mSrc0 S o = mSrcT (snw S 42 [], 2, 7) (sn S 42) q := by unfold mSrc0; rw [if_neg e13, hq13, Int.toNat_natCast]
      have hq1 : sT (snw S 42 []) 15 12 o = (q : Nat) := by rw [I0.2.2.1 15 12 o (by decide)]; exact hq13
      refine hW_getr (j := q) H1 rfl hb1 rfl rfl rfl hq1 (fun b2 hb2 => ?_)
      have hql : q < sn S 14 := by have := hb2.1; rw [I0.1 14 (by decide)] at this; exact this
      refine zW_p 2 rfl ?_
      refine hW_getr (j := q) H1 rfl hb1 rfl rfl rfl hq1 (fun b3 hb3 => ?_)
      obtain ⟨σ5, g5, H5, k5⟩ := M_isHeld 100 (by omega) H1 hb3 (I0.w hW)
      refine wV rfl rfl rfl rfl rfl rfl rfl (H1.rc hb3 rfl rfl) g5 (by omega) ?_
      cases hh : tHeld (mh (snw S 42 [])) (mch (snw S 42 [])) 100 q with
      | true =>
        have eD1 : mSrc0 S o = (snw S 42 [], 2 + tN (mch (snw S 42 [])) 100 q, 7 + 4 * tN (mch (snw S 42 [])) 100 q) := by rw [eD0]; unfold mSrcT; simp only; rw [hh, if_pos rfl]
        refine zW_p 3 rfl ?_
        exact rest σ5 _ (by rw [eD1]; exact H5) (by rw [eD1]; exact I0) (by rw [eD1]; show (sE (snw S 42 []) 42 (sn S 42)).length ≤ 1; omega) (by rw [eD1]; exact hm1) (1 + tN (mch (snw S 42 [])) 100 q) (3 + 4 * tN (mch (snw S 42 [])) 100 q) (kd.trans k1.kd k5.kd) (by rw [eD1]; show _ ≤ 2 + _; omega) (by rw [eD1]; show _ ≤ 7 + _; omega) ⟨rfl, rfl, rfl, trivial⟩
      | false =>
        have eD1 : mSrc0 S o = (ssE (snw S 42 []) 42 (sn S 42) (sE (snw S 42 []) 42 (sn S 42) ++ [(q : Int)]), 2 + tN (mch (snw S 42 [])) 100 q + 1, 7 + 4 * tN (mch (snw S 42 [])) 100 q + (2 * (sE (snw S 42 []) 42 (sn S 42)).length + 12)) := by rw [eD0]; unfold mSrcT; simp only; rw [hh, if_neg (by decide)]
        have hi2 := mSrcI_T (m := sn S 42) (l := q) (s := (snw S 42 [], 2, 7)) I0
        rw [← eD0] at hi2
        have hl2 := mSrcT_len (s := (snw S 42 [], 2, 7)) (m := sn S 42) (l := q)
        rw [← eD0] at hl2
        simp only at hl2
        refine zW_p 3 rfl ?_
        refine hW_getr (j := q) H5 rfl hb1 rfl rfl rfl hq1 (fun b4 hb4 => ?_)
        refine hW_add (x := (q : Int)) H5 rfl rfl rfl hm1 rfl rfl rfl (elrepR hb4) (alvR hb4.1) (by omega) rfl (by omega) (fun σ6 H6 k6 => ?_)
        refine zW_p 4 rfl ?_
        exact rest σ6 _ (by rw [eD1]; exact H6) hi2 (by omega) (by rw [eD1]; exact hm1) _ _ (kd.trans (kd.trans k1.kd k5.kd) k6.kd) (by rw [eD1]; show _ ≤ 2 + _ + 1; omega) (by rw [eD1]; show _ ≤ 7 + _ + _; omega) ⟨rfl, rfl, rfl, trivial⟩
  obtain ⟨r, σ', h1, mb, rfl, h2⟩ := main
  exact ⟨σ', mb, h1, h2⟩
end ZMSR
