/-! Foundrymark: promise, withdraw -/
set_option maxRecDepth 100000
/-- where an order's stage is, by number -/
def fStg (z : Nat → Nat) (S : hS) (o s : Nat) : Bool := decide (sT S 8 7 o = (z s : Nat))
def fMadeO (S : hS) (o : Nat) : Bool := decide ((sT S 8 1 o).toNat % 2 = 0)
def fWdSum (S : hS) (o p : Nat) : Int := (((sE S 26 (fOL S o)).take p).map (fun t => sT S 7 1 t.toNat)).sum
section ZPW
variable {g : zG} {w0 : hG} {z : Nat → Nat} {σ : zS} {gh : Nat → Nat → Nat} {S T : hS} {J : zw_W} {a b o : Nat}
theorem fStg_z (C : hCon g w0 z) {s t : Nat} (hs : s < 6) (ht : t < 6) (h : sT S 8 7 o = (z s : Nat)) : fStg z S o t = decide (s = t) := by
  unfold fStg
  rw [h]
  by_cases e : s = t
  · rw [e]; rw [decide_eq_true rfl, decide_eq_true rfl]
  · rw [decide_eq_false e]
    exact decide_eq_false (fun q => e (C.inj (by omega) (by omega) (by exact_mod_cast q)))
theorem F_promise (H : hRep g w0 σ gh S J) (C : hCon g w0 z) (hF : fFix S) (hW : fW S) (hA : fAv S) (hT : fTk S) (hP : fPart S) (hC : fCmp S) (hO : fOrd z S) (hQ : fOq S o) (hN : fStg z S o 0 = true → fSep S (fOL S o) ∧ sE S 26 (fOL S o) = []) (ha : hat gh S 0 0 a) (ho : o < sn S 8) :
    zM g 108 110 [.ref a, iv o] σ (fun r σ' => ((fMadeO S o && fStg z S o 0) = false ∧ r = .inr "java/lang/UnsupportedOperationException" ∧ hRep g w0 σ' gh S J ∧ kc σ σ' 1 6) ∨ ((fMadeO S o && fStg z S o 0) = true ∧ r = .inl (some (iv (bi (fRA z S o).2.1))) ∧ ∃ ghx, gext S gh ghx ∧ hRep g w0 σ' ghx (fRA z S o).1 J ∧ kc σ σ' (fRA z S o).2.2.1 (fRA z S o).2.2.2 ∧ fResI S (fRAN S o (fComps S o).length).1 (fOL S o))) := by
  obtain ⟨b, hb, g1⟩ := F_theOrder H hF ha ho
  obtain ⟨o1, o2, o3, s, s6, hs⟩ := hO o ho
  have hy : sT S 8 1 o = ((sT S 8 1 o).toNat : Nat) := (Int.toNat_of_nonneg o1).symm
  have hst := fStg_z (z := z) (t := 0) C s6 (by decide) hs
  refine zW_p 2 rfl ?_
  refine wV rfl rfl rfl rfl rfl rfl rfl (H.rc ha rfl rfl) g1 (by omega) ?_
  have bad : ∀ lv : zp_L, (fMadeO S o && fStg z S o 0) = false → zW g 108 110 30 lv [] σ (fun r σ' => ((fMadeO S o && fStg z S o 0) = false ∧ r = .inr "java/lang/UnsupportedOperationException" ∧ hRep g w0 σ' gh S J ∧ kc σ σ' 1 6) ∨ ((fMadeO S o && fStg z S o 0) = true ∧ r = .inl (some (iv (bi (fRA z S o).2.1))) ∧ ∃ ghx, gext S gh ghx ∧ hRep g w0 σ' ghx (fRA z S o).1 J ∧ kc σ σ' (fRA z S o).2.2.1 (fRA z S o).2.2.2 ∧ fResI S (fRAN S o (fComps S o).length).1 (fOL S o))) := by
    intro lv h
    obtain ⟨σ1, q1, q2, q3⟩ := F_reqF66 H
    refine zW_p 1 rfl ?_
    exact wST rfl rfl rfl rfl rfl rfl rfl rfl rfl q1 (by omega) rfl (Or.inl ⟨h, rfl, q2, q3⟩)
  refine zW_p 2 rfl ?_
  refine hW_getp H rfl hb rfl rfl rfl hy (fun b1 hb1 => ?_)
  by_cases e : (sT S 8 1 o).toNat % 2 = 0
  · have hmd : fMadeO S o = true := decide_eq_true e
    rw [e] at hb1
    refine hW_inst H rfl hb1 rfl rfl rfl (Or.inl rfl) ?_
    refine zW_p 2 rfl ?_
    refine hW_get H rfl hb rfl rfl rfl ?_
    rw [hs, ← convC]
    refine aW_stat rfl rfl (C.1 0 (by decide)).1 ?_
    by_cases e0 : s = 0
    · subst e0
      have h0 : fStg z S o 0 = true := by rw [hst]; rfl
      obtain ⟨n1, n2⟩ := hN h0
      refine zW_f rfl rfl (fun q => q rfl) ?_
      refine zW_p 2 rfl ?_
      refine wS rfl rfl rfl rfl rfl rfl rfl rfl rfl F_reqT66 (by omega) ?_
      refine zW_p 2 rfl ?_
      obtain ⟨r, σ2, g2, rfl, ghx, x2, H2, k2, hi2⟩ := F_reserveAll H C hF hW hA hT hP hC hQ e n1 n2 ha hb
      refine wV rfl rfl rfl rfl rfl rfl rfl (H.rc ha rfl rfl) g2 (by omega) ?_
      exact zW_reti rfl rfl (by cases (fRA z S o).2.1 <;> rfl) (Or.inr ⟨by rw [hmd, h0]; rfl, rfl, ghx, x2, H2, k2, hi2⟩)
    · refine zW_t rfl rfl (fun q => e0 (C.inj (by omega) (by decide) q)) ?_
      exact bad _ (by rw [hst, decide_eq_false e0, Bool.and_false])
  · rw [show (sT S 8 1 o).toNat % 2 = 1 by omega] at hb1
    refine hW_inst H rfl hb1 rfl rfl rfl (Or.inr ⟨_, rfl⟩) ?_
    refine zW_p 1 rfl ?_
    exact bad _ (by unfold fMadeO; rw [decide_eq_false e, Bool.false_and])
theorem F_withdraw (H : hRep g w0 σ gh S J) (C : hCon g w0 z) (hF : fFix S) (hT : fTk S) (hO : fOrd z S) (ha : hat gh S 0 0 a) (ho : o < sn S 8) :
    zM g 6 120 [.ref a, iv o] σ (fun r σ' => (fStg z S o 1 = false ∧ r = .inr "java/lang/UnsupportedOperationException" ∧ hRep g w0 σ' gh S J ∧ kc σ σ' 1 6) ∨ (fStg z S o 1 = true ∧ r = .inl (some (iv (fWdSum S o (sE S 26 (fOL S o)).length))) ∧ hRep g w0 σ' gh (sset (fTakeBack S o) 8 7 o (z 0 : Nat)) J ∧ kc σ σ' 2 8)) := by
  obtain ⟨b, hb, g1⟩ := F_theOrder H hF ha ho
  obtain ⟨o1, o2, o3, s, s6, hs⟩ := hO o ho
  have hst := fStg_z (z := z) (t := 1) C s6 (by decide) hs
  have hm : sT S 8 5 o = (fOL S o : Nat) := (Int.toNat_of_nonneg o2).symm
  refine zW_p 2 rfl ?_
  refine wV rfl rfl rfl rfl rfl rfl rfl (H.rc ha rfl rfl) g1 (by omega) ?_
  refine zW_p 2 rfl ?_
  refine hW_get H rfl hb rfl rfl rfl ?_
  rw [hs, ← convC]
  refine aW_stat rfl rfl (C.1 1 (by decide)).1 ?_
  by_cases e1 : s = 1
  · subst e1
    have h1 : fStg z S o 1 = true := by rw [hst]; rfl
    refine zW_f rfl rfl (fun q => q rfl) ?_
    refine zW_p 2 rfl ?_
    refine wS rfl rfl rfl rfl rfl rfl rfl rfl rfl F_reqT66 (by omega) ?_
    refine zW_p 3 rfl ?_
    refine hW_getr H rfl hb rfl rfl rfl hm (fun b1 hb1 => ?_)
    refine hW_iter H rfl rfl rfl hb1 rfl rfl rfl (by omega) (fun σ1 it hJ H1 k1 => ?_)
    refine zW_p 1 rfl ?_
    refine zW_lv ((4, .ref it) :: [(0, .ref a), (2, .ref b), (3, iv (fWdSum S o 0))]) rfl ⟨rfl, rfl, rfl, rfl, trivial⟩ ?_
    refine hW_loop (c := 26) (i := fOL S o) (b := b1) (n := 7) (xs := sE S 26 (fOL S o)) (mc := Int32.ofInt (sM S 26 (fOL S o))) (fun p lv κ gh' S' => lv = [(0, .ref a), (2, .ref b), (3, iv (fWdSum S o p))] ∧ gh' = gh ∧ S' = S ∧ κ = σ1.2) hJ rfl rfl rfl (fun _ => rfl) rfl rfl rfl (fun _ => rfl) (fun _ => rfl) rfl rfl rfl (by omega) ?_ ?_ ?_ _ _ _ _ H1 ⟨rfl, rfl, rfl, rfl⟩
    · rintro p lv κ gh' S' ⟨rfl, rfl, rfl, rfl⟩
      exact ⟨hb1, rfl, rfl⟩
    · rintro p y lv σ2 gh' S' J2 e hp hy ⟨rfl, rfl, rfl, hk⟩ H2 hd he hback
      refine hW_cast H2 rfl he rfl rfl rfl ?_
      refine zW_p 3 rfl ?_
      refine hW_get H2 rfl he rfl rfl rfl ?_
      refine zW_p 1 rfl ?_
      rw [I_add]
      refine zW_p 2 rfl ?_
      have hsum : fWdSum S' o (p + 1) = fWdSum S' o p + sT S' 7 1 y := by
        unfold fWdSum
        rw [take_snoc hy, List.map_append, List.sum_append]
        simp
      refine zW_lv ((4, .ref it) :: [(0, .ref a), (2, .ref b), (3, iv (fWdSum S' o (p + 1)))]) rfl ⟨rfl, rfl, rfl, by rw [hsum]; rfl, trivial⟩ ?_
      exact hback _ σ2 _ _ H2 ⟨rfl, rfl, rfl, hk⟩
    · rintro lv σ2 gh' S' H2 ⟨rfl, rfl, rfl, hk⟩
      refine zW_p 2 rfl ?_
      obtain ⟨σ3, g3, H3, k3⟩ := F_takeBack (a := a) H2 hT hb o2
      refine wV rfl rfl rfl rfl rfl rfl rfl (H2.rc ha rfl rfl) g3 (by omega) ?_
      refine zW_p 1 rfl ?_
      refine aW_stat rfl rfl (C.1 0 (by decide)).1 ?_
      have hb3 : hat gh' (fTakeBack S' o) 8 o b := ⟨by rw [fTB_sn]; exact hb.1, hb.2⟩
      refine hW_put (v := (z 0 : Nat)) H3 rfl hb3 rfl rfl rfl (Or.inl rfl) rfl rfl convC alv4 (fun _ => Or.inl (by decide)) (fun σ4 H4 e4 => ?_)
      refine zW_p 1 rfl ?_
      exact zW_reti rfl rfl rfl (Or.inr ⟨h1, rfl, H4, (((k1.trans (kc.of hk)).trans k3).trans (kc.of e4)).mono (by omega) (by omega)⟩)
  · refine zW_t rfl rfl (fun q => e1 (C.inj (by omega) (by decide) q)) ?_
    obtain ⟨σ1, q1, q2, q3⟩ := F_reqF66 H
    refine zW_p 1 rfl ?_
    exact wST rfl rfl rfl rfl rfl rfl rfl rfl rfl q1 (by omega) rfl (Or.inl ⟨by rw [hst, decide_eq_false e1], rfl, q2, q3⟩)
end ZPW
