/-! Foundrymark: deliver -/
set_option maxRecDepth 100000
def fPlanStep (m : Nat) (s : fRst) (l : Nat) : fRst := (fPlanS s.1 m l (fPlanT s.1 l s.2.1), s.2.1 - fPlanT s.1 l s.2.1, s.2.2.1 + fPlanC s.1 l (fPlanT s.1 l s.2.1), s.2.2.2 + fPlanB s.1 m l (fPlanT s.1 l s.2.1))
def fDlStep (o m : Nat) (s : fRst) (l : Nat) : fRst := if sT s.1 6 1 l = sT s.1 8 1 o ∧ (l : Int) ≠ sT s.1 8 13 o then fPlanStep m s l else s
def fDl0 (S : hS) (o : Nat) : fRst := if sT S 8 13 o < 0 then (snw S 27 [], sT S 8 2 o, 2, 7) else fPlanStep (sn S 27) (snw S 27 [], sT S 8 2 o, 2, 7) (sT S 8 13 o).toNat
def fDlN (S : hS) (o p : Nat) : fRst := (List.range p).foldl (fDlStep o (sn S 27)) (fDl0 S o)
theorem fDlN_succ {S : hS} {o n : Nat} : fDlN S o (n + 1) = fDlStep o (sn S 27) (fDlN S o n) n := by
  unfold fDlN
  rw [List.range_succ, List.foldl_append]
  rfl
def fGvN (T : hS) (m p : Nat) : hS := ((sE T 27 m).take p).foldl (fun S t => fGive S t.toNat) T
theorem fGv_sn {T : hS} {m p c : Nat} : sn (fGvN T m p) c = sn T c := fold_keep (f := fun S (t : Int) => fGive S t.toNat) (fun S => sn S c) (fun _ _ => rfl) _ T
theorem fGv_sE {T : hS} {m p c i : Nat} : sE (fGvN T m p) c i = sE T c i := fold_keep (f := fun S (t : Int) => fGive S t.toNat) (fun S => sE S c i) (fun _ _ => rfl) _ T
theorem fGv_sM {T : hS} {m p c i : Nat} : sM (fGvN T m p) c i = sM T c i := fold_keep (f := fun S (t : Int) => fGive S t.toNat) (fun S => sM S c i) (fun _ _ => rfl) _ T
theorem fGv_sT {T : hS} {m p c k i : Nat} (h : ¬ (c = 6 ∧ (k = 4 ∨ k = 6))) (h7 : ¬ (c = 7 ∧ k = 2)) : sT (fGvN T m p) c k i = sT T c k i := fold_keep (f := fun S (t : Int) => fGive S t.toNat) (fun S => sT S c k i) (fun S t => by
  show sT (fGive S t.toNat) c k i = _
  unfold fGive
  rw [sT_set, if_neg (by omega), sT_set, if_neg (by omega), sT_set, if_neg (by omega)]) _ T
def fDelOk (z : Nat → Nat) (S : hS) (o : Nat) : Bool := (decide ((sT S 8 1 o).toNat % 2 = 1) && fStg z S o 0) || fStg z S o 4
def fDlU (T : hS) (m : Nat) : hS := fGvN T m (sE T 27 m).length
def fDlZ (z : Nat → Nat) (T : hS) (o m : Nat) : hS := sset (sset (ssE (fDlU T m) 27 (fDelL T o) (sE T 27 m)) 8 12 o (sT T 0 6 0)) 8 7 o (z 5 : Nat)
section ZDL
variable {g : zG} {w0 : hG} {z : Nat → Nat} {σ : zS} {gh : Nat → Nat → Nat} {S T : hS} {J : zw_W} {a b o m l lb mb : Nat} {t pt n : Int} {lv : zp_L} {Q : Option Value ⊕ String → zS → Prop}
/-- the loop that gives -/
theorem F_dlGive (H : hRep g w0 σ gh T J) (hT : fTk T) (hm : hat gh T 27 m mb) (hG : ∀ (p : Nat) (t : Int), (sE T 27 m)[p]? = some t → fGok (fGvN T m p) t.toNat) (hlv : lvok [(0, .ref a), (2, .ref b), (4, .ref mb)] lv)
    (hQ : ∀ (σ' : zS) (lv' : zp_L), hRep g w0 σ' gh (fDlU T m) J → kc σ σ' 1 4 → lvok [(0, .ref a), (2, .ref b), (4, .ref mb)] lv' → zW g 106 162 208 lv' [] σ' Q) :
    zW g 106 162 170 lv [] σ Q := by
  refine zW_ly hlv rfl ?_
  refine zW_p 1 rfl ?_
  refine hW_iter H rfl rfl rfl hm rfl rfl rfl (by omega) (fun σ1 it hJ H1 k1 => ?_)
  refine zW_p 1 rfl ?_
  refine zW_lv ((6, .ref it) :: [(0, .ref a), (2, .ref b), (4, .ref mb)]) rfl ⟨rfl, rfl, rfl, rfl, trivial⟩ ?_
  refine hW_loop (c := 27) (i := m) (b := mb) (n := 7) (xs := sE T 27 m) (mc := Int32.ofInt (sM T 27 m)) (fun p lv κ gh' S' => lv = [(0, .ref a), (2, .ref b), (4, .ref mb)] ∧ gh' = gh ∧ S' = fGvN T m p ∧ κ = σ1.2) hJ rfl rfl rfl (fun _ => rfl) rfl rfl rfl (fun _ => rfl) (fun _ => rfl) rfl rfl rfl (by omega) ?_ ?_ ?_ _ _ _ _ H1 ⟨rfl, rfl, rfl, rfl⟩
  · rintro p lv κ gh' S' ⟨rfl, rfl, rfl, rfl⟩
    exact ⟨⟨by rw [fGv_sn]; exact hm.1, hm.2⟩, fGv_sE, by rw [fGv_sM]⟩
  · rintro p y lv σ2 gh' S' J2 e hp hy ⟨rfl, rfl, rfl, hk⟩ H2 hd he hback
    have hgk := hG p _ hy
    simp only [Int.toNat_natCast] at hgk
    have hnx : fGvN T m (p + 1) = fGive (fGvN T m p) y := by
      unfold fGvN
      rw [take_snoc hy, List.foldl_append]
      simp only [List.foldl_cons, List.foldl_nil, Int.toNat_natCast]
    have hTU : fTk (fGvN T m p) := fun t ht => by
      rw [fGv_sn] at ht
      rw [fGv_sT (by omega) (by omega)]
      exact hT t ht
    refine hW_cast H2 rfl he rfl rfl rfl ?_
    refine zW_p 2 rfl ?_
    obtain ⟨σ4, g4, H4, k4⟩ := F_give H2 hTU he hgk
    refine wS rfl rfl rfl rfl rfl rfl rfl rfl rfl g4 (by omega) ?_
    refine zW_p 2 rfl ?_
    refine zW_lv ((6, .ref it) :: [(0, .ref a), (2, .ref b), (4, .ref mb)]) rfl ⟨rfl, rfl, rfl, rfl, trivial⟩ ?_
    refine hback _ σ4 _ _ H4 ⟨rfl, rfl, hnx.symm, ?_⟩
    obtain ⟨u1, u2, u3, u4⟩ := k4
    rw [← hk]
    exact Prod.ext (by omega) (by omega)
  · rintro lv σ2 gh' S' H2 ⟨rfl, rfl, rfl, hk⟩
    exact hQ σ2 _ H2 (k1.trans (kc.of hk)) ⟨rfl, rfl, rfl, trivial⟩
/-- behind the plan, if all is there -/
theorem F_dlGo (H : hRep g w0 σ gh T J) (C : hCon g w0 z) (hT : fTk T) (ha : hat gh T 0 0 a) (hb : hat gh T 8 o b) (hm : hat gh T 27 m mb) (h6 : 0 ≤ sT T 8 6 o) (hne : m ≠ fDelL T o) (hemp : sE T 27 (fDelL T o) = []) (hpos : sE T 27 m ≠ []) (hlen : (sE T 27 m).length ≤ 1000) (hG : ∀ (p : Nat) (t : Int), (sE T 27 m)[p]? = some t → fGok (fGvN T m p) t.toNat) (hlv : lvok [(0, .ref a), (2, .ref b), (4, .ref mb)] lv)
    (hQ : ∀ (σ' : zS), hRep g w0 σ' gh (fDlZ z T o m) J → kc σ σ' 3 (3 * (sE T 27 m).length + 14) → Q (.inl (some (iv 1))) σ') :
    zW g 106 162 170 lv [] σ Q := by
  refine F_dlGive H hT hm hG hlv (fun σ1 lv1 H1 k1 hl1 => ?_)
  have hn : ∀ c, sn (fDlU T m) c = sn T c := fun c => fGv_sn
  have ha1 : hat gh (fDlU T m) 0 0 a := ⟨by rw [hn]; exact ha.1, ha.2⟩
  have hb1 : hat gh (fDlU T m) 8 o b := ⟨by rw [hn]; exact hb.1, hb.2⟩
  have hm1 : hat gh (fDlU T m) 27 m mb := ⟨by rw [hn]; exact hm.1, hm.2⟩
  have hE1 : ∀ i, sE (fDlU T m) 27 i = sE T 27 i := fun i => fGv_sE
  have hT1 : ∀ c k i, ¬ (c = 6 ∧ (k = 4 ∨ k = 6)) → ¬ (c = 7 ∧ k = 2) → sT (fDlU T m) c k i = sT T c k i := fun c k i h h7 => fGv_sT h h7
  have hd : sT T 8 6 o = (fDelL T o : Nat) := (Int.toNat_of_nonneg h6).symm
  refine zW_ly hl1 rfl ?_
  refine zW_p 1 rfl ?_
  refine hW_getr (j := fDelL T o) H1 rfl hb1 rfl rfl rfl (by rw [hT1 8 6 o (by omega) (by omega)]; exact hd) (fun b2 hb2 => ?_)
  refine zW_p 1 rfl ?_
  refine hW_addAllG H1 rfl rfl rfl hb2 rfl rfl hm1 rfl rfl rfl rfl (by rw [hE1]; exact hemp) (by rw [hE1]; exact hpos) (by rw [hE1]; omega) ?_ rfl (by omega) (fun σ2 H2 k2 => ?_)
  · intro e
    have := (H1.inj hb2.1 hm1.1 (by rw [hb2.2, hm1.2, e])).2
    exact hne this.symm
  rw [hE1] at H2 k2
  have hnow : sT (ssE (fDlU T m) 27 (fDelL T o) (sE T 27 m)) 0 6 0 = sT T 0 6 0 := hT1 0 6 0 (by omega) (by omega)
  refine zW_p 3 rfl ?_
  refine hW_get H2 rfl (show hat gh (ssE (fDlU T m) 27 (fDelL T o) (sE T 27 m)) 0 0 a from ha1) rfl rfl rfl ?_
  rw [hnow]
  refine hW_put (v := sT T 0 6 0) H2 rfl (show hat gh (ssE (fDlU T m) 27 (fDelL T o) (sE T 27 m)) 8 o b from hb1) rfl rfl rfl (Or.inl rfl) rfl rfl rfl alv0 (fun _ => Or.inl (by decide)) (fun σ3 H3 e3 => ?_)
  refine zW_p 1 rfl ?_
  refine aW_stat rfl rfl (C.1 5 (by decide)).1 ?_
  refine hW_put (v := (z 5 : Nat)) H3 rfl (show hat gh (sset (ssE (fDlU T m) 27 (fDelL T o) (sE T 27 m)) 8 12 o (sT T 0 6 0)) 8 o b from hb1) rfl rfl rfl (Or.inl rfl) rfl rfl convC alv4 (fun _ => Or.inl (by decide)) (fun σ4 H4 e4 => ?_)
  refine zW_p 1 rfl ?_
  exact zW_reti rfl rfl rfl (hQ σ4 H4 ((((k1.trans k2).trans (kc.of e3)).trans (kc.of e4)).mono (by omega) (by omega)))
end ZDL
