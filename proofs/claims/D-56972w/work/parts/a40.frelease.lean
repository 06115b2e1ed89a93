/-! Foundrymark: release -/
set_option maxRecDepth 100000
def fRelStep (o : Nat) (S : hS) (t : Int) : hS := sset (fGive (fUnres S t) t.toNat) 8 10 o (sT S 8 10 o + fCost (fUnres S t) t.toNat)
def fRelN (S : hS) (o p : Nat) : hS := ((sE S 26 (fOL S o)).take p).foldl (fRelStep o) S
theorem fRel_sn {S : hS} {o p c : Nat} : sn (fRelN S o p) c = sn S c := fold_keep (f := fRelStep o) (fun S => sn S c) (fun _ _ => rfl) _ S
theorem fRel_sE {S : hS} {o p c i : Nat} : sE (fRelN S o p) c i = sE S c i := fold_keep (f := fRelStep o) (fun S => sE S c i) (fun _ _ => rfl) _ S
theorem fRel_sM {S : hS} {o p c i : Nat} : sM (fRelN S o p) c i = sM S c i := fold_keep (f := fRelStep o) (fun S => sM S c i) (fun _ _ => rfl) _ S
theorem fRel_sT {S : hS} {o p c k i : Nat} (h : ¬ (c = 6 ∧ (k = 4 ∨ k = 5 ∨ k = 6))) (h7 : ¬ (c = 7 ∧ k = 2)) (h2 : ¬ (c = 8 ∧ k = 10 ∧ i = o)) : sT (fRelN S o p) c k i = sT S c k i := fold_keep (f := fRelStep o) (fun S => sT S c k i) (fun S t => by
  unfold fRelStep fGive fUnres
  rw [sT_set, if_neg h2, sT_set, if_neg (by omega), sT_set, if_neg (by omega), sT_set, if_neg (by omega), sT_set, if_neg (by omega)]) _ S
def fRelU (T : hS) (o : Nat) : hS := fRelN T o (sE T 26 (fOL T o)).length
def fRelQ (T : hS) (o : Nat) : hS := sset T 8 8 o (sT T 8 2 o)
noncomputable def fRelZ (z : Nat → Nat) (T : hS) (o : Nat) : hS := fBeginN z (fGoOn z (fRelQ T o) o) (sn (fGoOn z (fRelQ T o) o) 1)
def fAhead (z : Nat → Nat) (S : hS) (o : Nat) : Bool := fStg z S o 0 || fStg z S o 1
def fRelT (z : Nat → Nat) (S : hS) (o : Nat) : fAst := if fStg z S o 0 = true then fRA z S o else (S, true, 0, 0)
def fRelOk (z : Nat → Nat) (T : hS) (o : Nat) : Prop := fTk T ∧ 0 ≤ sT T 8 5 o ∧ (∀ (p : Nat) (t : Int), (sE T 26 (fOL T o))[p]? = some t → fGok (fUnres (fRelN T o p) t) t.toNat) ∧ fGoOk (fRelQ (fRelU T o) o) o ∧ fFix (fGoOn z (fRelQ (fRelU T o) o) o) ∧ fJI (fGoOn z (fRelQ (fRelU T o) o) o)
section ZFR
variable {g : zG} {w0 : hG} {z : Nat → Nat} {σ : zS} {gh : Nat → Nat → Nat} {S T : hS} {J : zw_W} {a b o : Nat} {lv : zp_L} {Q : Option Value ⊕ String → zS → Prop}
theorem F_relX (H : hRep g w0 σ gh T J) (hT : fTk T) (h5 : 0 ≤ sT T 8 5 o) (hb : hat gh T 8 o b)
    (hG : ∀ (p : Nat) (t : Int), (sE T 26 (fOL T o))[p]? = some t → fGok (fUnres (fRelN T o p) t) t.toNat) (hlv : lvok [(0, .ref a), (2, .ref b)] lv)
    (hQ : ∀ (σ' : zS) (lv' : zp_L), hRep g w0 σ' gh (fRelU T o) J → kc σ σ' 1 4 → lvok [(0, .ref a), (2, .ref b)] lv' → zW g 110 122 140 lv' [] σ' Q) :
    zW g 110 122 74 lv [] σ Q := by
  have hm : sT T 8 5 o = (fOL T o : Nat) := (Int.toNat_of_nonneg h5).symm
  refine zW_ly hlv rfl ?_
  refine zW_p 1 rfl ?_
  refine hW_getr H rfl hb rfl rfl rfl hm (fun b1 hb1 => ?_)
  refine hW_iter H rfl rfl rfl hb1 rfl rfl rfl (by omega) (fun σ1 it hJ H1 k1 => ?_)
  refine zW_p 1 rfl ?_
  refine zW_lv ((4, .ref it) :: [(0, .ref a), (2, .ref b)]) rfl ⟨rfl, rfl, rfl, trivial⟩ ?_
  refine hW_loop (c := 26) (i := fOL T o) (b := b1) (n := 7) (xs := sE T 26 (fOL T o)) (mc := Int32.ofInt (sM T 26 (fOL T o))) (fun p lv κ gh' S' => lv = [(0, .ref a), (2, .ref b)] ∧ gh' = gh ∧ S' = fRelN T o p ∧ κ = σ1.2) hJ rfl rfl rfl (fun _ => rfl) rfl rfl rfl (fun _ => rfl) (fun _ => rfl) rfl rfl rfl (by omega) ?_ ?_ ?_ _ _ _ _ H1 ⟨rfl, rfl, rfl, rfl⟩
  · rintro p lv κ gh' S' ⟨rfl, rfl, rfl, rfl⟩
    exact ⟨⟨by rw [fRel_sn]; exact hb1.1, hb1.2⟩, fRel_sE, by rw [fRel_sM]⟩
  · rintro p y lv σ2 gh' S' J2 e hp hy ⟨rfl, rfl, rfl, hk⟩ H2 hd he hback
    have hy0 : y < sn T 7 := by have := he.1; rw [fRel_sn] at this; exact this
    obtain ⟨x, hx⟩ : ∃ x : Nat, sT T 7 0 y = x := ⟨(sT T 7 0 y).toNat, (Int.toNat_of_nonneg (hT y hy0)).symm⟩
    have hx' : sT (fRelN T o p) 7 0 y = (x : Nat) := by rw [fRel_sT (by omega) (by omega) (by omega)]; exact hx
    have hgk := hG p _ hy
    simp only [Int.toNat_natCast] at hgk
    have hnx : fRelN T o (p + 1) = fRelStep o (fRelN T o p) (y : Int) := by
      unfold fRelN
      rw [take_snoc hy, List.foldl_append]
      rfl
    refine hW_cast H2 rfl he rfl rfl rfl ?_
    refine zW_p 2 rfl ?_
    refine hW_getr (j := x) H2 rfl he rfl rfl rfl hx' (fun b2 hb2 => ?_)
    refine zW_p 1 rfl ?_
    refine hW_get H2 rfl hb2 rfl rfl rfl ?_
    refine zW_p 1 rfl ?_
    refine hW_get H2 rfl he rfl rfl rfl ?_
    refine zW_p 1 rfl ?_
    rw [I_sub]
    refine hW_put (v := sT (fRelN T o p) 6 5 x - sT (fRelN T o p) 7 1 y) H2 rfl hb2 rfl rfl rfl (Or.inl rfl) rfl rfl rfl alv0 (fun e => absurd e (by decide)) (fun σ3 H3 e3 => ?_)
    have eU : sset (fRelN T o p) 6 5 x (sT (fRelN T o p) 6 5 x - sT (fRelN T o p) 7 1 y) = fUnres (fRelN T o p) (y : Int) := by
      unfold fUnres
      rw [Int.toNat_natCast, hx', Int.toNat_natCast]
    rw [eU] at H3
    have tU : ∀ c k i, ¬ (c = 6 ∧ k = 5) → sT (fUnres (fRelN T o p) (y : Int)) c k i = sT (fRelN T o p) c k i := fun c k i h => by
      unfold fUnres
      rw [sT_set, if_neg (fun e => h ⟨e.1, e.2.1⟩)]
    have heU : hat gh' (fUnres (fRelN T o p) (y : Int)) 7 y e := he
    have hbU : hat gh' (fUnres (fRelN T o p) (y : Int)) 8 o b := ⟨by show o < sn (fRelN T o p) 8; rw [fRel_sn]; exact hb.1, hb.2⟩
    have hTU : fTk (fUnres (fRelN T o p) (y : Int)) := fun t ht => by
      rw [tU 7 0 t (by omega), fRel_sT (by omega) (by omega) (by omega)]
      exact hT t (by have ht' : t < sn (fRelN T o p) 7 := ht; rw [fRel_sn] at ht'; exact ht')
    refine zW_p 2 rfl ?_
    refine hW_get H3 rfl hbU rfl rfl rfl ?_
    rw [tU 8 10 o (by omega)]
    refine zW_p 1 rfl ?_
    obtain ⟨σ4, g4, H4, k4⟩ := F_give H3 hTU heU hgk
    refine wS rfl rfl rfl rfl rfl rfl rfl rfl rfl g4 (by omega) ?_
    refine zW_p 1 rfl ?_
    rw [L_add]
    refine hW_put (v := sT (fRelN T o p) 8 10 o + fCost (fUnres (fRelN T o p) (y : Int)) y) H4 rfl (show hat gh' _ 8 o b from hbU) rfl rfl rfl (Or.inl rfl) rfl rfl rfl alv1 (fun _ => Or.inl (by decide)) (fun σ5 H5 e5 => ?_)
    refine zW_p 1 rfl ?_
    refine zW_lv ((4, .ref it) :: [(0, .ref a), (2, .ref b)]) rfl ⟨rfl, rfl, rfl, trivial⟩ ?_
    refine hback _ σ5 _ _ H5 ⟨rfl, rfl, ?_, ?_⟩
    · rw [hnx]
      unfold fRelStep
      rw [Int.toNat_natCast]
    · obtain ⟨u1, u2, u3, u4⟩ := k4
      rw [e5, ← hk, ← e3]
      exact Prod.ext (by omega) (by omega)
  · rintro lv σ2 gh' S' H2 ⟨rfl, rfl, rfl, hk⟩
    exact hQ σ2 _ H2 (k1.trans (kc.of hk)) ⟨rfl, rfl, trivial⟩
theorem F_relGo (H : hRep g w0 σ gh T J) (C : hCon g w0 z) (hR : fRelOk z T o) (ha : hat gh T 0 0 a) (hb : hat gh T 8 o b) (hlv : lvok [(0, .ref a), (2, .ref b)] lv)
    (hQ : ∀ (σ' : zS) (ghx : Nat → Nat → Nat), gext T gh ghx → hRep g w0 σ' ghx (fRelZ z (fRelU T o) o) J → (∀ c, sn T c ≤ sn (fRelZ z (fRelU T o) o) c) → kc σ σ' 4 308 → Q (.inl (some (iv 1))) σ') :
    zW g 110 122 74 lv [] σ Q := by
  obtain ⟨r1, r2, r3, r4, r5, r6⟩ := hR
  refine F_relX H r1 r2 hb r3 hlv (fun σ1 lv1 H1 k1 hl1 => ?_)
  have hn : ∀ c, sn (fRelU T o) c = sn T c := fun c => fRel_sn
  have ha1 : hat gh (fRelU T o) 0 0 a := ⟨by rw [hn]; exact ha.1, ha.2⟩
  have hb1 : hat gh (fRelU T o) 8 o b := ⟨by rw [hn]; exact hb.1, hb.2⟩
  refine zW_ly hl1 rfl ?_
  refine zW_p 2 rfl ?_
  refine hW_get H1 rfl hb1 rfl rfl rfl ?_
  refine hW_put (v := sT (fRelU T o) 8 2 o) H1 rfl hb1 rfl rfl rfl (Or.inl rfl) rfl rfl rfl alv0 (fun _ => Or.inl (by decide)) (fun σ2 H2 e2 => ?_)
  have H2' : hRep g w0 σ2 gh (fRelQ (fRelU T o) o) J := H2
  have ha2 : hat gh (fRelQ (fRelU T o) o) 0 0 a := ha1
  have hb2 : hat gh (fRelQ (fRelU T o) o) 8 o b := hb1
  obtain ⟨σ3, g3, ghx, x3, H3, k3⟩ := F_goOnK (z := z) H2' C ha2 hb2 r4
  refine zW_p 2 rfl ?_
  refine wV rfl rfl rfl rfl rfl rfl rfl (H2'.rc ha2 rfl rfl) g3 (by omega) ?_
  have ha3 : hat ghx (fGoOn z (fRelQ (fRelU T o) o) o) 0 0 a := x3.hat (fun c => fGoOn_le) ha2
  obtain ⟨σ4, g4, H4, k4, i1, i2, i3⟩ := F_beginAll (z := z) H3 C r5 r6 ha3
  refine zW_p 1 rfl ?_
  refine wV rfl rfl rfl rfl rfl rfl rfl (H3.rc ha3 rfl rfl) g4 (by omega) ?_
  refine zW_p 1 rfl ?_
  refine zW_reti rfl rfl rfl (hQ σ4 ghx (fun c i hi => x3 c i (by show i < sn (fRelU T o) c; rw [hn]; exact hi)) H4 (fun c => ?_) ((((k1.trans (kc.of e2)).trans k3).trans k4).mono (by omega) (by omega)))
  show sn T c ≤ sn (fBeginN z _ _) c
  rw [i3 c]
  refine Nat.le_trans ?_ fGoOn_le
  show sn T c ≤ sn (fRelU T o) c
  rw [hn]
  exact Nat.le_refl _
theorem F_release (H : hRep g w0 σ gh S J) (C : hCon g w0 z) (hF : fFix S) (hW : fW S) (hA : fAv S) (hT : fTk S) (hP : fPart S) (hC : fCmp S) (hO : fOrd z S) (hQ : fOq S o) (hN : fStg z S o 0 = true → fSep S (fOL S o) ∧ sE S 26 (fOL S o) = []) (ha : hat gh S 0 0 a) (ho : o < sn S 8)
    (hX : (fMadeO S o && fAhead z S o) = true → (fRelT z S o).2.1 = true → fRelOk z (fRelT z S o).1 o) :
    zM g 110 122 [.ref a, iv o] σ (fun r σ' => ((fMadeO S o && fAhead z S o) = false ∧ r = .inr "java/lang/UnsupportedOperationException" ∧ hRep g w0 σ' gh S J ∧ kc σ σ' 1 6) ∨
      ((fMadeO S o && fAhead z S o) = true ∧ (fRelT z S o).2.1 = false ∧ r = .inl (some (iv 0)) ∧ ∃ ghx, gext S gh ghx ∧ hRep g w0 σ' ghx (fRelT z S o).1 J ∧ kc σ σ' (fRelT z S o).2.2.1 (fRelT z S o).2.2.2) ∨
      ((fMadeO S o && fAhead z S o) = true ∧ (fRelT z S o).2.1 = true ∧ r = .inl (some (iv 1)) ∧ ∃ ghx, gext S gh ghx ∧ hRep g w0 σ' ghx (fRelZ z (fRelU (fRelT z S o).1 o) o) J ∧ kc σ σ' ((fRelT z S o).2.2.1 + 4) ((fRelT z S o).2.2.2 + 308))) := by
  obtain ⟨b, hb, g1⟩ := F_theOrder H hF ha ho
  obtain ⟨o1, o2, o3, s, s6, hs⟩ := hO o ho
  have hy : sT S 8 1 o = ((sT S 8 1 o).toNat : Nat) := (Int.toNat_of_nonneg o1).symm
  have hst0 := fStg_z (z := z) (t := 0) C s6 (by decide) hs
  have hst1 := fStg_z (z := z) (t := 1) C s6 (by decide) hs
  refine zW_p 2 rfl ?_
  refine wV rfl rfl rfl rfl rfl rfl rfl (H.rc ha rfl rfl) g1 (by omega) ?_
  refine zW_p 2 rfl ?_
  refine hW_get H rfl hb rfl rfl rfl ?_
  rw [hs, ← convC]
  generalize hQQ : (fun (r : Option Value ⊕ String) (σ' : zS) => ((fMadeO S o && fAhead z S o) = false ∧ r = .inr "java/lang/UnsupportedOperationException" ∧ hRep g w0 σ' gh S J ∧ kc σ σ' 1 6) ∨
      ((fMadeO S o && fAhead z S o) = true ∧ (fRelT z S o).2.1 = false ∧ r = .inl (some (iv 0)) ∧ ∃ ghx, gext S gh ghx ∧ hRep g w0 σ' ghx (fRelT z S o).1 J ∧ kc σ σ' (fRelT z S o).2.2.1 (fRelT z S o).2.2.2) ∨
      ((fMadeO S o && fAhead z S o) = true ∧ (fRelT z S o).2.1 = true ∧ r = .inl (some (iv 1)) ∧ ∃ ghx, gext S gh ghx ∧ hRep g w0 σ' ghx (fRelZ z (fRelU (fRelT z S o).1 o) o) J ∧ kc σ σ' ((fRelT z S o).2.2.1 + 4) ((fRelT z S o).2.2.2 + 308))) = QQ
  -- behind the check
  have go : ∀ lv : zp_L, (fMadeO S o && fAhead z S o) = true → lvok [(0, .ref a), (2, .ref b)] lv → zW g 110 122 54 lv [] σ QQ := by
    intro lv hok hlv
    have hX' := hX hok
    refine zW_ly hlv rfl ?_
    have hmd : (sT S 8 1 o).toNat % 2 = 0 := of_decide_eq_true (Bool.and_eq_true_iff.mp hok).1
    refine zW_p 1 rfl ?_
    refine hW_get H rfl hb rfl rfl rfl ?_
    rw [hs, ← convC]
    refine aW_stat rfl rfl (C.1 0 (by decide)).1 ?_
    by_cases e0 : s = 0
    · subst e0
      have h0 : fStg z S o 0 = true := by rw [hst0]; rfl
      obtain ⟨n1, n2⟩ := hN h0
      have eT : fRelT z S o = fRA z S o := by unfold fRelT; rw [if_pos h0]
      rw [eT] at hX' hQQ
      refine zW_f rfl rfl (fun q => q rfl) ?_
      refine zW_p 2 rfl ?_
      obtain ⟨r, σ2, g2, rfl, ghx, x2, H2, k2, hi2⟩ := F_reserveAll H C hF hW hA hT hP hC hQ hmd n1 n2 ha hb
      refine wV rfl rfl rfl rfl rfl rfl rfl (H.rc ha rfl rfl) g2 (by omega) ?_
      cases hh : (fRA z S o).2.1 with
      | true =>
        refine zW_p 1 rfl ?_
        have hle : ∀ c, sn S c ≤ sn (fRA z S o).1 c := fun c => by
          unfold fRA at hh ⊢
          split
          · show sn S c ≤ sn (fRAN S o (fComps S o).length).1 c
            exact hi2.le c
          · rename_i hn
            rw [if_neg hn] at hh
            cases hh
        refine F_relGo H2 C (hX' hh) (x2.hat hle ha) (x2.hat hle hb) ⟨rfl, rfl, trivial⟩ (fun σ4 ghy x4 H4 l4 k4 => ?_)
        rw [← hQQ]
        exact Or.inr (Or.inr ⟨hok, hh, rfl, ghy, gext.trans x2 x4 hle, H4, k2.trans k4⟩)
      | false =>
        refine zW_p 2 rfl ?_
        refine zW_reti rfl rfl rfl ?_
        rw [← hQQ]
        exact Or.inr (Or.inl ⟨hok, hh, rfl, ghx, x2, H2, k2⟩)
    · have h0 : fStg z S o 0 = false := by rw [hst0, decide_eq_false e0]
      have eT : fRelT z S o = (S, true, 0, 0) := by unfold fRelT; rw [h0]; rfl
      rw [eT] at hX' hQQ
      refine zW_t rfl rfl (fun q => e0 (C.inj (by omega) (by decide) q)) ?_
      refine F_relGo H C (hX' rfl) ha hb ⟨rfl, rfl, trivial⟩ (fun σ4 ghy x4 H4 l4 k4 => ?_)
      rw [← hQQ]
      exact Or.inr (Or.inr ⟨hok, rfl, rfl, ghy, x4, H4, k4.mono (by omega) (by omega)⟩)
  have bad : ∀ lv : zp_L, (fMadeO S o && fAhead z S o) = false → zW g 110 122 50 lv [] σ QQ := by
    intro lv h
    obtain ⟨σ1, q1, q2, q3⟩ := F_reqF66 H
    refine zW_p 1 rfl ?_
    refine wST rfl rfl rfl rfl rfl rfl rfl rfl rfl q1 (by omega) rfl ?_
    rw [← hQQ]
    exact Or.inl ⟨h, rfl, q2, q3⟩
  have mid : ∀ (lv : zp_L), lvok [(0, .ref a), (2, .ref b), (3, iv (bi (fAhead z S o)))] lv → zW g 110 122 32 lv [] σ QQ := by
    intro lv hlv
    refine zW_ly hlv rfl ?_
    refine zW_p 1 rfl ?_
    refine hW_getp H rfl hb rfl rfl rfl hy (fun b1 hb1 => ?_)
    by_cases e : (sT S 8 1 o).toNat % 2 = 0
    · have hmd : fMadeO S o = true := decide_eq_true e
      rw [e] at hb1
      refine hW_inst H rfl hb1 rfl rfl rfl (Or.inl rfl) ?_
      cases hA2 : fAhead z S o with
      | true =>
        refine zW_p 5 rfl ?_
        refine wS rfl rfl rfl rfl rfl rfl rfl rfl rfl F_reqT66 (by omega) ?_
        exact go _ (by rw [hmd, hA2]; rfl) ⟨rfl, rfl, trivial⟩
      | false =>
        refine zW_p 3 rfl ?_
        exact bad _ (by rw [hA2, Bool.and_false])
    · rw [show (sT S 8 1 o).toNat % 2 = 1 by omega] at hb1
      refine hW_inst H rfl hb1 rfl rfl rfl (Or.inr ⟨_, rfl⟩) ?_
      refine zW_p 1 rfl ?_
      exact bad _ (by unfold fMadeO; rw [decide_eq_false e, Bool.false_and])
  refine aW_stat rfl rfl (C.1 0 (by decide)).1 ?_
  by_cases e0 : s = 0
  · subst e0
    refine zW_t rfl rfl rfl ?_
    refine zW_p 3 rfl ?_
    exact mid _ ⟨rfl, rfl, by unfold fAhead; rw [hst0]; rfl, trivial⟩
  · refine zW_f rfl rfl (fun q => e0 (C.inj (by omega) (by decide) q)) ?_
    refine zW_p 1 rfl ?_
    refine hW_get H rfl hb rfl rfl rfl ?_
    rw [hs, ← convC]
    refine aW_stat rfl rfl (C.1 1 (by decide)).1 ?_
    by_cases e1 : s = 1
    · subst e1
      refine zW_f rfl rfl (fun q => q rfl) ?_
      refine zW_p 3 rfl ?_
      exact mid _ ⟨rfl, rfl, by unfold fAhead; rw [hst0, hst1]; rfl, trivial⟩
    · refine zW_t rfl rfl (fun q => e1 (C.inj (by omega) (by decide) q)) ?_
      refine zW_p 2 rfl ?_
      exact mid _ ⟨rfl, rfl, by unfold fAhead; rw [hst0, hst1, decide_eq_false e0, decide_eq_false e1]; rfl, trivial⟩
end ZFR
