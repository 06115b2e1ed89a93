/-! Foundrymark: areCostsRight, isSound -/
set_option maxRecDepth 100000
def fSumL (S : hS) (p : Nat) : Int := sT S 0 9 0 + ((List.range p).map (fun l => sT S 6 6 l)).sum
def fCoO (z : Nat → Nat) (S : hS) (o : Nat) : Int := (if fUw z S o = true then sT S 8 10 o else 0) + ((sE S 27 (fDelL S o)).map (fun t => sT S 7 2 t.toNat)).sum
def fSumO (z : Nat → Nat) (S : hS) (p : Nat) : Int := fSumL S (sn S 6) + ((List.range p).map (fCoO z S)).sum
theorem fSumL_succ {S : hS} {n : Nat} : fSumL S (n + 1) = fSumL S n + sT S 6 6 n := by
  unfold fSumL
  rw [List.range_succ, List.map_append, List.sum_append]
  simp
  omega
theorem fSumO_succ {z : Nat → Nat} {S : hS} {n : Nat} : fSumO z S (n + 1) = fSumO z S n + fCoO z S n := by
  unfold fSumO
  rw [List.range_succ, List.map_append, List.sum_append]
  simp
  omega
section ZCO2
variable {g : zG} {w0 : hG} {z : Nat → Nat} {σ : zS} {gh : Nat → Nat → Nat} {S : hS} {J : zw_W} {a b o : Nat}
theorem zl_cmp_eq {x : Int64} : lg_cmp x x = 0 := by
  unfold lg_cmp
  rw [if_neg (show ¬ x > x from fun h => Int64.lt_irrefl h), if_pos rfl]
theorem F_areCostsRight (H : hRep g w0 σ gh S J) (C : hCon g w0 z) (hF : fFix S) (hO : fOrd z S) (ha : hat gh S 0 0 a) (hR : fSumO z S (sn S 8) = sT S 0 7 0 + sT S 0 8 0) :
    ∃ σ' : zS, zEnd g 104 32 [.ref a] σ (.inl (some (iv 1))) σ' ∧ hRep g w0 σ' gh S J ∧ kc σ σ' (2 + sn S 8) (8 + 4 * sn S 8) := by
  have hFx := hF
  obtain ⟨f0, f1, f2, f3, f4, f5, f6, f7, f8, f9, fa, fb, fc, fd⟩ := hF
  have main : zW g 104 32 0 (lv_args 0 [.ref a]) [] σ (fun r σ' => r = .inl (some (iv 1)) ∧ hRep g w0 σ' gh S J ∧ kc σ σ' (2 + sn S 8) (8 + 4 * sn S 8)) := by
    refine zW_p 1 rfl ?_
    refine hW_get H rfl ha rfl rfl rfl ?_
    refine zW_p 2 rfl ?_
    refine hW_getr (j := 0) H rfl ha rfl rfl rfl f3 (fun b0 hb0 => ?_)
    refine hW_iter H rfl rfl rfl hb0 rfl rfl rfl (by omega) (fun σ1 it hJ H1 k1 => ?_)
    refine zW_p 1 rfl ?_
    have e0 : fSumL S 0 = sT S 0 9 0 := by unfold fSumL; simp
    refine zW_lv ((3, .ref it) :: [(0, .ref a), (1, .long (Int64.ofInt (fSumL S 0)))]) rfl ⟨rfl, rfl, by rw [e0]; rfl, trivial⟩ ?_
    refine hW_loop (c := 22) (i := 0) (b := b0) (n := 6) (xs := sE S 22 0) (mc := Int32.ofInt (sM S 22 0)) (fun p lv κ gh' S' => lv = [(0, .ref a), (1, .long (Int64.ofInt (fSumL S p)))] ∧ gh' = gh ∧ S' = S ∧ κ = σ1.2) hJ rfl rfl rfl (fun _ => rfl) rfl rfl rfl (fun _ => rfl) (fun _ => rfl) rfl rfl rfl (by omega) ?_ ?_ ?_ _ _ _ _ H1 ⟨rfl, rfl, rfl, rfl⟩
    · rintro p lv κ gh' S' ⟨rfl, rfl, rfl, hk⟩
      exact ⟨hb0, rfl, rfl⟩
    · rintro p y lv σ2 gh' S' J2 e hp hy ⟨rfl, rfl, rfl, hk⟩ H2 hd he hback
      rw [f7, idl_len] at hp
      rw [f7, idl_at hp] at hy
      obtain rfl : p = y := by have := Option.some.inj hy; omega
      refine hW_cast H2 rfl he rfl rfl rfl ?_
      refine zW_p 3 rfl ?_
      refine hW_get H2 rfl he rfl rfl rfl ?_
      refine zW_p 1 rfl ?_
      rw [L_add]
      refine zW_p 2 rfl ?_
      refine zW_lv ((3, .ref it) :: [(0, .ref a), (1, .long (Int64.ofInt (fSumL S' (p + 1))))]) rfl ⟨rfl, rfl, by rw [fSumL_succ]; rfl, trivial⟩ ?_
      exact hback _ σ2 _ _ H2 ⟨rfl, rfl, rfl, hk⟩
    · rintro lv σ2 gh' S' H2 ⟨rfl, rfl, rfl, hk⟩
      rw [f7, idl_len]
      have k2 : kc σ σ2 1 4 := k1.trans (kc.of hk)
      refine zW_p 1 rfl ?_
      refine hW_getr (j := 0) H2 rfl ha rfl rfl rfl f4 (fun b1 hb1 => ?_)
      refine hW_iter H2 rfl rfl rfl hb1 rfl rfl rfl (by omega) (fun σ3 it2 hJ2 H3 k3 => ?_)
      refine zW_p 1 rfl ?_
      have e1 : fSumO z S' 0 = fSumL S' (sn S' 6) := by unfold fSumO; simp
      refine zW_lv ((3, .ref it2) :: [(0, .ref a), (1, .long (Int64.ofInt (fSumO z S' 0)))]) rfl ⟨rfl, rfl, by rw [e1]; rfl, trivial⟩ ?_
      refine hW_loop (c := 23) (i := 0) (b := b1) (n := 8) (xs := sE S' 23 0) (mc := Int32.ofInt (sM S' 23 0)) (fun p lv κ gh2 S2 => lv = [(0, .ref a), (1, .long (Int64.ofInt (fSumO z S' p)))] ∧ gh2 = gh' ∧ S2 = S' ∧ kd σ3.2 κ p (4 * p)) hJ2 rfl rfl rfl (fun _ => rfl) rfl rfl rfl (fun _ => rfl) (fun _ => rfl) rfl rfl rfl (by omega) ?_ ?_ ?_ _ _ _ _ H3 ⟨rfl, rfl, rfl, kd.rfl'⟩
      · rintro p lv κ gh2 S2 ⟨rfl, rfl, rfl, hk2⟩
        exact ⟨hb1, rfl, rfl⟩
      · rintro p y lv σ4 gh2 S2 J3 e hp hy ⟨rfl, rfl, rfl, hk2⟩ H4 hd he hback
        rw [f8, idl_len] at hp
        rw [f8, idl_at hp] at hy
        obtain rfl : p = y := by have := Option.some.inj hy; omega
        obtain ⟨o1, o2, o3, s, s6, hs⟩ := hO p hp
        have h2 := fStg_z (z := z) (t := 2) C s6 (by decide) hs
        have h3 := fStg_z (z := z) (t := 3) C s6 (by decide) hs
        have h6 : sT S2 8 6 p = (fDelL S2 p : Nat) := (Int.toNat_of_nonneg o3).symm
        have eU : fUw z S2 p = (decide (s = 2) || decide (s = 3)) := by unfold fUw; rw [h2, h3]
        have fin : ∀ (v : Int) (lv : zp_L), v = (if fUw z S2 p = true then sT S2 8 10 p else 0) → lvok [(0, .ref a), (3, .ref it2), (4, .ref e)] lv → zW g 104 32 93 lv [.long (Int64.ofInt v), .long (Int64.ofInt (fSumO z S2 p))] σ4 (fun r σ' => r = .inl (some (iv 1)) ∧ hRep g w0 σ' gh2 S2 J ∧ kc σ σ' (2 + sn S2 8) (8 + 4 * sn S2 8)) := by
          intro v lv hv hlv
          refine zW_ly hlv rfl ?_
          refine zW_p 1 rfl ?_
          rw [L_add]
          refine zW_p 3 rfl ?_
          refine hW_getr (j := fDelL S2 p) H4 rfl he rfl rfl rfl h6 (fun b4 hb4 => ?_)
          obtain ⟨σ5, g5, H5, k5⟩ := F_costOfL H4 hb4
          refine wS rfl rfl rfl rfl rfl rfl rfl rfl rfl g5 (by omega) ?_
          refine zW_p 1 rfl ?_
          rw [L_add]
          refine zW_p 2 rfl ?_
          refine zW_lv ((3, .ref it2) :: [(0, .ref a), (1, .long (Int64.ofInt (fSumO z S2 (p + 1))))]) rfl ⟨rfl, rfl, ?_, trivial⟩ ?_
          · rw [fSumO_succ]
            unfold fCoO
            rw [← hv, ← Int.add_assoc]
            rfl
          · exact hback _ σ5 _ _ H5 ⟨rfl, rfl, rfl, (kd.trans hk2 k5.kd).mono (by omega) (by omega)⟩
        refine hW_cast H4 rfl he rfl rfl rfl ?_
        refine zW_p 3 rfl ?_
        refine hW_get H4 rfl he rfl rfl rfl ?_
        rw [hs, ← convC]
        refine wV rfl rfl rfl rfl rfl rfl rfl (C.rcS H4 s6) (F_underWay H4 C s6) (by omega) ?_
        rw [← eU]
        cases hu : fUw z S2 p with
        | true =>
          refine zW_p 2 rfl ?_
          refine hW_get H4 rfl he rfl rfl rfl ?_
          refine zW_p 1 rfl ?_
          exact fin _ _ (by rw [hu]; rfl) ⟨rfl, rfl, rfl, trivial⟩
        | false =>
          refine zW_p 2 rfl ?_
          exact fin 0 _ (by rw [hu]; rfl) ⟨rfl, rfl, rfl, trivial⟩
      · rintro lv σ4 gh2 S2 H4 ⟨rfl, rfl, rfl, hk2⟩
        rw [f8, idl_len] at hk2 ⊢
        rw [hR]
        refine zW_p 2 rfl ?_
        refine hW_get H4 rfl ha rfl rfl rfl ?_
        refine zW_p 1 rfl ?_
        refine hW_get H4 rfl ha rfl rfl rfl ?_
        refine zW_p 1 rfl ?_
        rw [L_add]
        refine zW_p 1 rfl ?_
        rw [zl_cmp_eq]
        refine zW_p 3 rfl ?_
        exact zW_reti rfl rfl rfl ⟨rfl, H4, ((k2.trans k3).trans hk2.kc).mono (by omega) (by omega)⟩
  obtain ⟨r, σ', h1, rfl, h2, h3⟩ := main
  exact ⟨σ', h1, h2, h3⟩
/-- what isSound's two sums cost -/
def fBackW (S : hS) (p : Nat) : Nat := ((List.range p).map (fun o => 2 + (fRc S o).2)).sum
def fBack (S : hS) (p : Nat) : Int := ((List.range p).map (fun o => (fRc S o).1.sum)).sum
def fForW (S : hS) (p : Nat) : Nat := ((List.range p).map (fun l => (cntP (fInO S l) (sn S 8)).2)).sum
def fFor_ (S : hS) (p : Nat) : Int := ((List.range p).map (fun l => ((cntP (fInO S l) (sn S 8)).1 : Int))).sum
theorem sum_succ {f : Nat → Int} {n : Nat} : ((List.range (n + 1)).map f).sum = ((List.range n).map f).sum + f n := by
  rw [List.range_succ, List.map_append, List.sum_append]
  simp
theorem sumN_succ {f : Nat → Nat} {n : Nat} : ((List.range (n + 1)).map f).sum = ((List.range n).map f).sum + f n := by
  rw [List.range_succ, List.map_append, List.sum_append]
  simp
theorem fEq.rc {S S' : hS} (h : fEq S S') (o : Nat) : fRc S' o = fRc S o := by
  unfold fRc fRch
  rw [h.dl o, h.2.2.2.1 27 _ (by decide) (by decide), h.ch, h.lotF, h.1 6 (by decide) (by decide)]
theorem fEq.inO {S S' : hS} (h : fEq S S') (x : Nat) : fInO S' x = fInO S x := by
  funext o
  unfold fInO fInQ
  rw [h.dl o, h.2.2.2.1 27 _ (by decide) (by decide), h.ch, h.lotF]
theorem F_isSound (H : hRep g w0 σ gh S J) (C : hCon g w0 z) (hF : fFix S) (hW : fW S) (hT : fTk S) (hN : fLn S) (hO : fOrd z S) (ha : hat gh S 0 0 a) (hR : ∀ l : Nat, l < sn S 6 → fPok z S l) (hR2 : fSumO z S (sn S 8) = sT S 0 7 0 + sT S 0 8 0) (hB : fBack S (sn S 8) = fFor_ S (sn S 6)) :
    ∃ σ' : zS, zEnd g 108 7 [.ref a] σ (.inl (some (iv 1))) σ' ∧ ∃ ghx S', fEq S S' ∧ gext S gh ghx ∧ hRep g w0 σ' ghx S' J ∧ kc σ σ' (6 + 3 * sn S 8 + fBackW S (sn S 8) + fForW S (sn S 6) + fPwalk S (sn S 6)) (30 + sn S 6 + 12 * sn S 8 + sn S 6 * sn S 8 + 4 * fBackW S (sn S 8) + 4 * fForW S (sn S 6) + 4 * fPwalk S (sn S 6)) := by
  have hFx := hF
  obtain ⟨f0, f1, f2, f3, f4, f5, f6, f7, f8, f9, fa, fb, fc, fd⟩ := hF
  have main : zW g 108 7 0 (lv_args 0 [.ref a]) [] σ (fun r σ' => r = .inl (some (iv 1)) ∧ ∃ ghx S', fEq S S' ∧ gext S gh ghx ∧ hRep g w0 σ' ghx S' J ∧ kc σ σ' (6 + 3 * sn S 8 + fBackW S (sn S 8) + fForW S (sn S 6) + fPwalk S (sn S 6)) (30 + sn S 6 + 12 * sn S 8 + sn S 6 * sn S 8 + 4 * fBackW S (sn S 8) + 4 * fForW S (sn S 6) + 4 * fPwalk S (sn S 6))) := by
    generalize hQQ : (fun (r : Option Value ⊕ String) (σ' : zS) => r = .inl (some (iv 1)) ∧ ∃ ghx S', fEq S S' ∧ gext S gh ghx ∧ hRep g w0 σ' ghx S' J ∧ kc σ σ' (6 + 3 * sn S 8 + fBackW S (sn S 8) + fForW S (sn S 6) + fPwalk S (sn S 6)) (30 + sn S 6 + 12 * sn S 8 + sn S 6 * sn S 8 + 4 * fBackW S (sn S 8) + 4 * fForW S (sn S 6) + 4 * fPwalk S (sn S 6))) = QQ
    refine zW_p 3 rfl ?_
    refine hW_getr (j := 0) H rfl ha rfl rfl rfl f4 (fun b0 hb0 => ?_)
    refine hW_iter H rfl rfl rfl hb0 rfl rfl rfl (by omega) (fun σ1 it hJ H1 k1 => ?_)
    refine zW_p 1 rfl ?_
    refine zW_lv ((2, .ref it) :: [(0, .ref a), (1, iv (fBack S 0))]) rfl ⟨rfl, rfl, rfl, trivial⟩ ?_
    refine hW_loop (c := 23) (i := 0) (b := b0) (n := 8) (xs := sE S 23 0) (mc := Int32.ofInt (sM S 23 0)) (fun p lv κ gh' S' => lv = [(0, .ref a), (1, iv (fBack S p))] ∧ gext S gh gh' ∧ fEq S S' ∧ kd σ1.2 κ (fBackW S p) (4 * fBackW S p + sn S 6 * p)) hJ rfl rfl rfl (fun _ => rfl) rfl rfl rfl (fun _ => rfl) (fun _ => rfl) rfl rfl rfl (by omega) ?_ ?_ ?_ _ _ _ _ H1 ⟨rfl, gext_rfl, fEq.rfl', kd.rfl'⟩
    · rintro p lv κ gh' S' ⟨rfl, hx, hq, hk⟩
      exact ⟨hx.hat (fun c => hq.le c) hb0, hq.2.2.2.1 23 0 (by decide) (by decide), by rw [hq.2.2.2.2.1 23 0 (by decide) (by decide)]⟩
    · rintro p y lv σ2 gh' S' J2 e hp hy ⟨rfl, hx, hq, hk⟩ H2 hd he hback
      rw [f8, idl_len] at hp
      rw [f8, idl_at hp] at hy
      obtain rfl : p = y := by have := Option.some.inj hy; omega
      have ha' : hat gh' S' 0 0 a := hx.hat (fun c => hq.le c) ha
      have hO' := hq.ord hO
      obtain ⟨σ3, g3, ghx, x3, H3, k3⟩ := F_lotsInIt H2 (hq.fix hFx) (hq.w hW) (hq.tk hT) (hq.ln hN) ha' he (hO' p (by rw [hq.1 8 (by decide) (by decide)]; exact hp)).2.2.1
      rw [hq.rc p] at g3 k3
      rw [hq.1 6 (by decide) (by decide)] at k3
      refine hW_cast H2 rfl he rfl rfl rfl ?_
      refine zW_p 4 rfl ?_
      refine wV rfl rfl rfl rfl rfl rfl rfl (H2.rc ha' rfl rfl) g3 (by omega) ?_
      refine zW_p 1 rfl ?_
      rw [I_add]
      refine zW_p 2 rfl ?_
      refine zW_lv ((2, .ref it) :: [(0, .ref a), (1, iv (fBack S (p + 1)))]) rfl ⟨rfl, rfl, by unfold fBack; rw [sum_succ]; rfl, trivial⟩ ?_
      refine hback _ σ3 ghx _ H3 ⟨rfl, gext.trans hx x3 (fun c => hq.le c), hq.trans fEq_49, ?_⟩
      have eW : fBackW S (p + 1) = fBackW S p + (2 + (fRc S p).2) := sumN_succ
      rw [eW, Nat.mul_succ]
      exact (kd.trans hk k3.kd).mono (by omega) (by omega)
    · rintro lv σ2 gh' S' H2 ⟨rfl, hx, hq, hk⟩
      rw [f8, idl_len] at hk ⊢
      have ha' : hat gh' S' 0 0 a := hx.hat (fun c => hq.le c) ha
      have hF' := hq.fix hFx
      have hW' := hq.w hW
      have hT' := hq.tk hT
      have hO' := hq.ord hO
      have hn6 : sn S' 6 = sn S 6 := hq.1 6 (by decide) (by decide)
      have hn8 : sn S' 8 = sn S 8 := hq.1 8 (by decide) (by decide)
      have h02 : sT S' 0 2 0 = (0 : Nat) := by rw [hq.2.2.1 0 2 0 (by decide) (by decide)]; exact f3
      have h22 : sE S' 22 0 = idl (sn S 6) := by rw [hq.2.2.2.1 22 0 (by decide) (by decide)]; exact f7
      have k2 : kc σ σ2 (1 + fBackW S (sn S 8)) (4 + 4 * fBackW S (sn S 8) + sn S 6 * sn S 8) := (k1.trans hk.kc).mono (by omega) (by omega)
      -- forward
      have loop : ∀ (q p : Nat) (σ3 : zS), p + q = sn S 6 → hRep g w0 σ3 gh' S' J → kd σ2.2 σ3.2 (fForW S p) (4 * fForW S p) → zW g 108 7 44 [(0, .ref a), (1, iv (fBack S (sn S 8))), (2, iv (fFor_ S p)), (3, iv p)] [] σ3 QQ := by
        intro q
        induction q with
        | zero =>
          intro p σ3 hp H3 hk3
          have hp' : p = sn S 6 := by omega
          subst hp'
          refine zW_p 2 rfl ?_
          refine hW_getr (j := 0) H3 rfl ha' rfl rfl rfl h02 (fun b1 hb1 => ?_)
          refine hW_size H3 rfl rfl rfl hb1 rfl rfl rfl (by omega) ?_
          rw [h22, idl_len]
          refine zW_t rfl rfl ((I_le ⟨by omega, by omega⟩ ⟨by omega, by omega⟩).mpr (by omega)) ?_
          rw [hB]
          refine zW_p 2 rfl ?_
          refine zW_f rfl rfl (fun q => q rfl) ?_
          refine zW_p 1 rfl ?_
          obtain ⟨σ4, g4, ghy, T, q4, x4, H4, k4⟩ := F_arePiecesRight H3 C hF' hW' hT' (hq.ln hN) hO' ha' (fun l hl => by
            rw [hn6] at hl
            have := hR l hl
            unfold fPok at this ⊢
            rw [hq.2.2.1 6 2 l (by decide) (by decide), hq.2.2.1 6 4 l (by decide) (by decide), hq.2.2.1 6 5 l (by decide) (by decide), hq.h, hq.ch, hq.gone, hn8]
            exact this)
          have ePw : ∀ p, fPwalk S' p = fPwalk S p := fun p => by
            unfold fPwalk
            rw [hq.ch]
            congr 1
            exact List.map_congr_left (fun l _ => by rw [hq.2.2.1 6 5 l (by decide) (by decide)])
          rw [hn6, hn8, ePw] at k4
          refine wV rfl rfl rfl rfl rfl rfl rfl (H3.rc ha' rfl rfl) g4 (by omega) ?_
          have qq := hq.trans q4
          have x5 : gext S gh ghy := gext.trans hx x4 (fun c => hq.le c)
          have ha4 : hat ghy T 0 0 a := x5.hat (fun c => qq.le c) ha
          refine zW_p 2 rfl ?_
          have eSO : fSumO z T (sn T 8) = sT T 0 7 0 + sT T 0 8 0 := by
            rw [qq.2.2.1 0 7 0 (by decide) (by decide), qq.2.2.1 0 8 0 (by decide) (by decide), ← hR2, qq.1 8 (by decide) (by decide)]
            unfold fSumO fSumL fCoO fUw
            rw [qq.1 6 (by decide) (by decide), qq.2.2.1 0 9 0 (by decide) (by decide)]
            congr 2
            · congr 1
              exact List.map_congr_left (fun l _ => qq.2.2.1 6 6 l (by decide) (by decide))
            · congr 1
              funext o
              rw [qq.stg o 2, qq.stg o 3, qq.dl o, qq.2.2.2.1 27 _ (by decide) (by decide), qq.2.2.1 8 10 o (by decide) (by decide)]
              congr 2
              exact List.map_congr_left (fun t _ => qq.2.2.1 7 2 _ (by decide) (by decide))
          obtain ⟨σ5, g5, H5, k5⟩ := F_areCostsRight H4 C (qq.fix hFx) (qq.ord hO) ha4 eSO
          rw [qq.1 8 (by decide) (by decide)] at k5
          refine wV rfl rfl rfl rfl rfl rfl rfl (H4.rc ha4 rfl rfl) g5 (by omega) ?_
          refine zW_p 3 rfl ?_
          refine zW_reti rfl rfl rfl ?_
          rw [← hQQ]
          exact ⟨rfl, ghy, T, qq, x5, H5, ((((k2.trans hk3.kc).trans k4).trans k5).mono (by omega) (by omega))⟩
        | succ q ih =>
          intro p σ3 hp H3 hk3
          refine zW_p 2 rfl ?_
          refine hW_getr (j := 0) H3 rfl ha' rfl rfl rfl h02 (fun b1 hb1 => ?_)
          refine hW_size H3 rfl rfl rfl hb1 rfl rfl rfl (by omega) ?_
          rw [h22, idl_len]
          refine zW_f rfl rfl (fun e => by have := (I_le ⟨by omega, by omega⟩ ⟨by omega, by omega⟩).mp e; omega) ?_
          obtain ⟨σ4, g4, H4, k4⟩ := F_touched (z := z) (x := p) H3 hF' hW' hT' hO' ha' (by omega)
          rw [hq.inO, hn8] at g4 k4
          refine zW_p 3 rfl ?_
          refine wV rfl rfl rfl rfl rfl rfl rfl (H3.rc ha' rfl rfl) g4 (by omega) ?_
          refine zW_p 1 rfl ?_
          rw [I_add]
          refine zW_p 1 rfl ?_
          refine zW_p 1 rfl ?_
          rw [I_add]
          refine zW_p 1 rfl ?_
          refine zW_lv [(0, .ref a), (1, iv (fBack S (sn S 8))), (2, iv (fFor_ S (p + 1))), (3, iv ((p + 1 : Nat) : Int))] rfl ⟨rfl, rfl, by unfold fFor_; rw [sum_succ]; rfl, rfl, trivial⟩ ?_
          refine ih (p + 1) σ4 (by omega) H4 ?_
          have eW : fForW S (p + 1) = fForW S p + (cntP (fInO S p) (sn S 8)).2 := sumN_succ
          rw [eW]
          exact (kd.trans hk3 k4.kd).mono (by omega) (by omega)
      refine zW_p 4 rfl ?_
      refine zW_lv [(0, .ref a), (1, iv (fBack S (sn S 8))), (2, iv (fFor_ S 0)), (3, iv (0 : Nat))] rfl ⟨rfl, rfl, rfl, rfl, trivial⟩ ?_
      exact loop (sn S 6) 0 σ2 (by omega) H2 kd.rfl'
  obtain ⟨r, σ', h1, rfl, h2⟩ := main
  exact ⟨σ', h1, h2⟩
end ZCO2
