/-! ORDERS asked, scrapped: both classes; the model's withdraw and promise -/
set_option maxRecDepth 100000
def fDelL (S : hS) (o : Nat) : Nat := (sT S 8 6 o).toNat
def fDelSum (S : hS) (o p : Nat) : Int := (((sE S 27 (fDelL S o)).take p).map (fun t => sT S 7 2 t.toNat)).sum
/-- the number of a throw: 1 no such order, 2 not now, 0 neither -/
def mC2 (S : hS) (v : Int) (ok : Bool) : Int := if ¬ (0 ≤ v ∧ v < sn S 15) then 1 else if ok = true then 0 else 2
section ZOQ
variable {g : zG} {w0 : hG} {z : Nat → Nat} {σ : zS} {gh : Nat → Nat → Nat} {S T : hS} {J : zw_W} {a b o : Nat} {v : Int}
theorem F_stateOf (H : hRep g w0 σ gh S J) (C : hCon g w0 z) (hF : fFix S) (hO : fOrd z S) (ha : hat gh S 0 0 a) (ho : o < sn S 8) : ∃ s : Nat, s < 6 ∧ sT S 8 7 o = (z s : Nat) ∧ zEnd g 4 168 [.ref a, iv o] σ (.inl (some (iv (stL s)))) σ := by
  obtain ⟨b, hb, g1⟩ := F_theOrder H hF ha ho
  obtain ⟨o1, o2, o3, s, s6, hs⟩ := hO o ho
  refine ⟨s, s6, hs, zEnd_of ?_⟩
  refine zW_p 2 rfl ?_
  refine wV rfl rfl rfl rfl rfl rfl rfl (H.rc ha rfl rfl) g1 (by omega) ?_
  refine hW_get H rfl hb rfl rfl rfl ?_
  rw [hs, ← convC]
  refine aW_const (C.none H (by omega)) rfl rfl (C.1 s s6).2.1 ?_
  exact zW_reti rfl rfl (by rcases (show s = 0 ∨ s = 1 ∨ s = 2 ∨ s = 3 ∨ s = 4 ∨ s = 5 by omega) with rfl | rfl | rfl | rfl | rfl | rfl <;> rfl) ⟨rfl, rfl⟩
theorem F_lotOf (H : hRep g w0 σ gh S J) (hF : fFix S) (ha : hat gh S 0 0 a) (ho : o < sn S 8) : ∃ σ' : zS, zEnd g 4 170 [.ref a, iv o] σ (if 0 ≤ sT S 8 13 o then .inl (some (iv (sT S 6 0 (sT S 8 13 o).toNat))) else .inr "java/util/NoSuchElementException") σ' ∧ hRep g w0 σ' gh S J ∧ kc σ σ' 1 6 := by
  obtain ⟨b, hb, g1⟩ := F_theOrder H hF ha ho
  have main : zW g 4 170 0 (lv_args 0 [.ref a, iv o]) [] σ (fun r σ' => r = (if 0 ≤ sT S 8 13 o then .inl (some (iv (sT S 6 0 (sT S 8 13 o).toNat))) else .inr "java/util/NoSuchElementException") ∧ hRep g w0 σ' gh S J ∧ kc σ σ' 1 6) := by
    refine zW_p 2 rfl ?_
    refine wV rfl rfl rfl rfl rfl rfl rfl (H.rc ha rfl rfl) g1 (by omega) ?_
    refine zW_p 2 rfl ?_
    by_cases h : 0 ≤ sT S 8 13 o
    · rw [if_pos h]
      have hl : sT S 8 13 o = ((sT S 8 13 o).toNat : Nat) := (Int.toNat_of_nonneg h).symm
      refine hW_getr H rfl hb rfl rfl rfl hl (fun b1 hb1 => ?_)
      refine zW_p 3 rfl ?_
      refine wS rfl rfl rfl rfl rfl rfl rfl rfl rfl F_reqT171 (by omega) ?_
      refine zW_p 1 rfl ?_
      refine hW_getr H rfl hb rfl rfl rfl hl (fun b2 hb2 => ?_)
      refine hW_get H rfl hb2 rfl rfl rfl ?_
      exact zW_reti rfl rfl rfl ⟨rfl, H, (kc.rfl').mono (by omega) (by omega)⟩
    · rw [if_neg h]
      refine hW_getn H rfl hb rfl rfl rfl (by omega) ?_
      refine zW_p 2 rfl ?_
      obtain ⟨σ1, q1, q2, q3⟩ := F_reqF171 H
      exact wST rfl rfl rfl rfl rfl rfl rfl rfl rfl q1 (by omega) rfl ⟨rfl, q2, q3⟩
  obtain ⟨r, σ', h1, rfl, h2⟩ := main
  exact ⟨σ', h1, h2⟩
def fDone (z : Nat → Nat) (S : hS) (o : Nat) : Bool := decide ((sT S 8 1 o).toNat % 2 = 0) && (fStg z S o 4 || fStg z S o 5)
theorem F_finishedAt (H : hRep g w0 σ gh S J) (C : hCon g w0 z) (hF : fFix S) (hO : fOrd z S) (ha : hat gh S 0 0 a) (ho : o < sn S 8) : ∃ σ' : zS, zEnd g 4 173 [.ref a, iv o] σ (if fDone z S o = true then .inl (some (iv (sT S 8 11 o))) else .inr "java/util/NoSuchElementException") σ' ∧ hRep g w0 σ' gh S J ∧ kc σ σ' 1 6 := by
  obtain ⟨b, hb, g1⟩ := F_theOrder H hF ha ho
  obtain ⟨o1, o2, o3, s, s6, hs⟩ := hO o ho
  have h4 := fStg_z (z := z) (t := 4) C s6 (by decide) hs
  have h5 := fStg_z (z := z) (t := 5) C s6 (by decide) hs
  have hy : sT S 8 1 o = ((sT S 8 1 o).toNat : Nat) := (Int.toNat_of_nonneg o1).symm
  have main : zW g 4 173 0 (lv_args 0 [.ref a, iv o]) [] σ (fun r σ' => r = (if fDone z S o = true then .inl (some (iv (sT S 8 11 o))) else .inr "java/util/NoSuchElementException") ∧ hRep g w0 σ' gh S J ∧ kc σ σ' 1 6) := by
    refine zW_p 2 rfl ?_
    refine wV rfl rfl rfl rfl rfl rfl rfl (H.rc ha rfl rfl) g1 (by omega) ?_
    have bad : ∀ lv : zp_L, fDone z S o = false → zW g 4 173 40 lv [] σ (fun r σ' => r = (if fDone z S o = true then .inl (some (iv (sT S 8 11 o))) else .inr "java/util/NoSuchElementException") ∧ hRep g w0 σ' gh S J ∧ kc σ σ' 1 6) := by
      intro lv h
      rw [h, if_neg (by decide)]
      obtain ⟨σ1, q1, q2, q3⟩ := F_reqF171 H
      refine zW_p 1 rfl ?_
      exact wST rfl rfl rfl rfl rfl rfl rfl rfl rfl q1 (by omega) rfl ⟨rfl, q2, q3⟩
    have good : ∀ lv : zp_L, fDone z S o = true → lvok [(2, .ref b)] lv → zW g 4 173 36 lv [] σ (fun r σ' => r = (if fDone z S o = true then .inl (some (iv (sT S 8 11 o))) else .inr "java/util/NoSuchElementException") ∧ hRep g w0 σ' gh S J ∧ kc σ σ' 1 6) := by
      intro lv h hlv
      refine zW_ly hlv rfl ?_
      rw [h, if_pos rfl]
      refine zW_p 2 rfl ?_
      refine wS rfl rfl rfl rfl rfl rfl rfl rfl rfl F_reqT171 (by omega) ?_
      refine zW_p 1 rfl ?_
      refine hW_get H rfl hb rfl rfl rfl ?_
      exact zW_reti rfl rfl rfl ⟨rfl, H, (kc.rfl').mono (by omega) (by omega)⟩
    refine zW_p 2 rfl ?_
    refine hW_getp H rfl hb rfl rfl rfl hy (fun b1 hb1 => ?_)
    by_cases e : (sT S 8 1 o).toNat % 2 = 0
    · rw [e] at hb1
      refine hW_inst H rfl hb1 rfl rfl rfl (Or.inl rfl) ?_
      refine zW_p 2 rfl ?_
      refine hW_get H rfl hb rfl rfl rfl ?_
      rw [hs, ← convC]
      refine aW_stat rfl rfl (C.1 4 (by decide)).1 ?_
      by_cases e4 : s = 4
      · subst e4
        refine zW_t rfl rfl rfl ?_
        exact good _ (by unfold fDone; rw [decide_eq_true e, h4]; rfl) ⟨rfl, trivial⟩
      · refine zW_f rfl rfl (fun q => e4 (C.inj (by omega) (by decide) q)) ?_
        refine zW_p 1 rfl ?_
        refine hW_get H rfl hb rfl rfl rfl ?_
        rw [hs, ← convC]
        refine aW_stat rfl rfl (C.1 5 (by decide)).1 ?_
        by_cases e5 : s = 5
        · subst e5
          refine zW_f rfl rfl (fun q => q rfl) ?_
          exact good _ (by unfold fDone; rw [decide_eq_true e, h5]; simp) ⟨rfl, trivial⟩
        · refine zW_t rfl rfl (fun q => e5 (C.inj (by omega) (by decide) q)) ?_
          exact bad _ (by unfold fDone; rw [h4, h5, decide_eq_false e4, decide_eq_false e5]; simp)
    · rw [show (sT S 8 1 o).toNat % 2 = 1 by omega] at hb1
      refine hW_inst H rfl hb1 rfl rfl rfl (Or.inr ⟨_, rfl⟩) ?_
      refine zW_p 1 rfl ?_
      exact bad _ (by unfold fDone; rw [decide_eq_false e]; rfl)
  obtain ⟨r, σ', h1, rfl, h2⟩ := main
  exact ⟨σ', h1, h2⟩
theorem F_costOfL {i : Nat} (H : hRep g w0 σ gh S J) (hb : hat gh S 27 i b) : ∃ σ' : zS, zEnd g 3 34 [.ref b] σ (.inl (some (.long (Int64.ofInt ((sE S 27 i).map (fun t => sT S 7 2 t.toNat)).sum)))) σ' ∧ hRep g w0 σ' gh S J ∧ kc σ σ' 1 4 := by
  have main : zW g 3 34 0 (lv_args 0 [.ref b]) [] σ (fun r σ' => r = .inl (some (.long (Int64.ofInt ((sE S 27 i).map (fun t => sT S 7 2 t.toNat)).sum))) ∧ hRep g w0 σ' gh S J ∧ kc σ σ' 1 4) := by
    refine zW_p 3 rfl ?_
    refine hW_iter H rfl rfl rfl hb rfl rfl rfl (by omega) (fun σ1 it hJ H1 k1 => ?_)
    refine zW_p 1 rfl ?_
    refine zW_lv ((3, .ref it) :: [(1, .long (Int64.ofInt (((sE S 27 i).take 0).map (fun t => sT S 7 2 t.toNat)).sum))]) rfl ⟨rfl, rfl, trivial⟩ ?_
    refine hW_loop (c := 27) (i := i) (b := b) (n := 7) (xs := sE S 27 i) (mc := Int32.ofInt (sM S 27 i)) (fun p lv κ gh' S' => lv = [(1, .long (Int64.ofInt (((sE S 27 i).take p).map (fun t => sT S 7 2 t.toNat)).sum))] ∧ gh' = gh ∧ S' = S ∧ κ = σ1.2) hJ rfl rfl rfl (fun _ => rfl) rfl rfl rfl (fun _ => rfl) (fun _ => rfl) rfl rfl rfl (by omega) ?_ ?_ ?_ _ _ _ _ H1 ⟨rfl, rfl, rfl, rfl⟩
    · rintro p lv κ gh' S' ⟨rfl, rfl, rfl, rfl⟩
      exact ⟨hb, rfl, rfl⟩
    · rintro p y lv σ2 gh' S' J2 e hp hy ⟨rfl, rfl, rfl, hk⟩ H2 hd he hback
      refine hW_cast H2 rfl he rfl rfl rfl ?_
      refine zW_p 3 rfl ?_
      refine hW_get H2 rfl he rfl rfl rfl ?_
      refine zW_p 1 rfl ?_
      rw [L_add]
      refine zW_p 2 rfl ?_
      have hsum : (((sE S' 27 i).take (p + 1)).map (fun t => sT S' 7 2 t.toNat)).sum = (((sE S' 27 i).take p).map (fun t => sT S' 7 2 t.toNat)).sum + sT S' 7 2 y := by
        rw [take_snoc hy, List.map_append, List.sum_append]
        simp
      refine zW_lv ((3, .ref it) :: [(1, .long (Int64.ofInt (((sE S' 27 i).take (p + 1)).map (fun t => sT S' 7 2 t.toNat)).sum))]) rfl ⟨rfl, by rw [hsum]; rfl, trivial⟩ ?_
      exact hback _ σ2 _ _ H2 ⟨rfl, rfl, rfl, hk⟩
    · rintro lv σ2 gh' S' H2 ⟨rfl, rfl, rfl, hk⟩
      rw [List.take_length]
      refine zW_p 1 rfl ?_
      exact wW_ret rfl rfl rfl rfl ⟨rfl, H2, (k1.trans (kc.of hk)).mono (by omega) (by omega)⟩
  obtain ⟨r, σ', h1, rfl, h2⟩ := main
  exact ⟨σ', h1, h2⟩
theorem F_deliveredCost (H : hRep g w0 σ gh S J) (C : hCon g w0 z) (hF : fFix S) (hO : fOrd z S) (ha : hat gh S 0 0 a) (ho : o < sn S 8) : ∃ σ' : zS, zEnd g 4 186 [.ref a, iv o] σ (if fStg z S o 5 = true then .inl (some (.long (Int64.ofInt ((sE S 27 (fDelL S o)).map (fun t => sT S 7 2 t.toNat)).sum))) else .inr "java/util/NoSuchElementException") σ' ∧ hRep g w0 σ' gh S J ∧ kc σ σ' 1 6 := by
  obtain ⟨b, hb, g1⟩ := F_theOrder H hF ha ho
  obtain ⟨o1, o2, o3, s, s6, hs⟩ := hO o ho
  have h5 := fStg_z (z := z) (t := 5) C s6 (by decide) hs
  have main : zW g 4 186 0 (lv_args 0 [.ref a, iv o]) [] σ (fun r σ' => r = (if fStg z S o 5 = true then .inl (some (.long (Int64.ofInt ((sE S 27 (fDelL S o)).map (fun t => sT S 7 2 t.toNat)).sum))) else .inr "java/util/NoSuchElementException") ∧ hRep g w0 σ' gh S J ∧ kc σ σ' 1 6) := by
    refine zW_p 2 rfl ?_
    refine wV rfl rfl rfl rfl rfl rfl rfl (H.rc ha rfl rfl) g1 (by omega) ?_
    refine zW_p 2 rfl ?_
    refine hW_get H rfl hb rfl rfl rfl ?_
    rw [hs, ← convC]
    refine aW_stat rfl rfl (C.1 5 (by decide)).1 ?_
    by_cases e5 : s = 5
    · subst e5
      rw [h5, if_pos (show decide (5 = 5) = true from rfl)]
      refine zW_f rfl rfl (fun q => q rfl) ?_
      refine zW_p 2 rfl ?_
      refine wS rfl rfl rfl rfl rfl rfl rfl rfl rfl F_reqT171 (by omega) ?_
      refine zW_p 1 rfl ?_
      have hdl : sT S 8 6 o = (fDelL S o : Nat) := (Int.toNat_of_nonneg o3).symm
      refine hW_getr H rfl hb rfl rfl rfl hdl (fun b1 hb1 => ?_)
      obtain ⟨σ1, g2, H2, k2⟩ := F_costOfL H hb1
      refine wS rfl rfl rfl rfl rfl rfl rfl rfl rfl g2 (by omega) ?_
      exact wW_ret rfl rfl rfl rfl ⟨rfl, H2, k2.mono (by omega) (by omega)⟩
    · rw [h5, decide_eq_false e5, if_neg (by decide)]
      refine zW_t rfl rfl (fun q => e5 (C.inj (by omega) (by decide) q)) ?_
      obtain ⟨σ1, q1, q2, q3⟩ := F_reqF171 H
      refine zW_p 1 rfl ?_
      exact wST rfl rfl rfl rfl rfl rfl rfl rfl rfl q1 (by omega) rfl ⟨rfl, q2, q3⟩
  obtain ⟨r, σ', h1, rfl, h2⟩ := main
  exact ⟨σ', h1, h2⟩
theorem F_underWay (H : hRep g w0 σ gh S J) (C : hCon g w0 z) {s : Nat} (hs : s < 6) : zEnd g 0 33 [.ref (z s)] σ (.inl (some (iv (bi (decide (s = 2) || decide (s = 3)))))) σ := by
  refine zEnd_of ?_
  refine zW_p 1 rfl ?_
  refine aW_stat rfl rfl (C.1 2 (by decide)).1 ?_
  by_cases e2 : s = 2
  · subst e2
    refine zW_t rfl rfl rfl ?_
    refine zW_p 2 rfl ?_
    exact zW_reti rfl rfl rfl ⟨rfl, rfl⟩
  · rw [decide_eq_false e2, Bool.false_or]
    refine zW_f rfl rfl (fun q => e2 (C.inj (by omega) (by decide) q)) ?_
    refine zW_p 1 rfl ?_
    refine aW_stat rfl rfl (C.1 3 (by decide)).1 ?_
    by_cases e3 : s = 3
    · subst e3
      refine zW_f rfl rfl (fun q => q rfl) ?_
      refine zW_p 2 rfl ?_
      exact zW_reti rfl rfl rfl ⟨rfl, rfl⟩
    · rw [decide_eq_false e3]
      refine zW_t rfl rfl (fun q => e3 (C.inj (by omega) (by decide) q)) ?_
      refine zW_p 1 rfl ?_
      exact zW_reti rfl rfl rfl ⟨rfl, rfl⟩
def fUw (z : Nat → Nat) (S : hS) (o : Nat) : Bool := fStg z S o 2 || fStg z S o 3
def fScrapCode (z : Nat → Nat) (S : hS) (o : Nat) (n : Int) : Nat := if fUw z S o = false then 2 else if ¬ (1 ≤ n ∧ n ≤ sT S 8 8 o) then 3 else 0
theorem F_scrap {n : Int} (H : hRep g w0 σ gh S J) (C : hCon g w0 z) (hF : fFix S) (hO : fOrd z S) (ha : hat gh S 0 0 a) (ho : o < sn S 8) (hn : rg n) (h8 : rg (sT S 8 8 o)) :
    ∃ σ' : zS, zEnd g 4 156 [.ref a, iv o, iv n] σ (if fScrapCode z S o n = 0 then .inl (some (iv (sT S 8 8 o - n))) else .inr (fEx4 (fScrapCode z S o n))) σ' ∧ hRep g w0 σ' gh (if fScrapCode z S o n = 0 then sset S 8 8 o (sT S 8 8 o - n) else S) J ∧ kc σ σ' 1 6 := by
  obtain ⟨b, hb, g1⟩ := F_theOrder H hF ha ho
  obtain ⟨o1, o2, o3, s, s6, hs⟩ := hO o ho
  have h2 := fStg_z (z := z) (t := 2) C s6 (by decide) hs
  have h3 := fStg_z (z := z) (t := 3) C s6 (by decide) hs
  have main : zW g 4 156 0 (lv_args 0 [.ref a, iv o, iv n]) [] σ (fun r σ' => r = (if fScrapCode z S o n = 0 then .inl (some (iv (sT S 8 8 o - n))) else .inr (fEx4 (fScrapCode z S o n))) ∧ hRep g w0 σ' gh (if fScrapCode z S o n = 0 then sset S 8 8 o (sT S 8 8 o - n) else S) J ∧ kc σ σ' 1 6) := by
    refine zW_p 2 rfl ?_
    refine wV rfl rfl rfl rfl rfl rfl rfl (H.rc ha rfl rfl) g1 (by omega) ?_
    refine zW_p 2 rfl ?_
    refine hW_get H rfl hb rfl rfl rfl ?_
    rw [hs, ← convC]
    have eU : fUw z S o = (decide (s = 2) || decide (s = 3)) := by unfold fUw; rw [h2, h3]
    refine wV rfl rfl rfl rfl rfl rfl rfl (C.rcS H s6) (F_underWay H C s6) (by omega) ?_
    rw [← eU]
    cases hu : fUw z S o with
    | false =>
      have hc : fScrapCode z S o n = 2 := by unfold fScrapCode; rw [if_pos hu]
      rw [hc, if_neg (by decide), if_neg (by decide)]
      obtain ⟨σ1, q1, q2, q3⟩ := F_reqF66 H
      exact wST rfl rfl rfl rfl rfl rfl rfl rfl rfl q1 (by omega) rfl ⟨rfl, q2, q3⟩
    | true =>
      refine wS rfl rfl rfl rfl rfl rfl rfl rfl rfl F_reqT66 (by omega) ?_
      refine zW_p 3 rfl ?_
      refine hW_get H rfl hb rfl rfl rfl ?_
      refine wS rfl rfl rfl rfl rfl rfl rfl rfl rfl (F_between (lo := 1) (hi := sT S 8 8 o) hn ⟨by decide, by decide⟩ h8) (by omega) ?_
      by_cases c1 : 1 ≤ n ∧ n ≤ sT S 8 8 o
      · have hc : fScrapCode z S o n = 0 := by unfold fScrapCode; rw [if_neg (by rw [hu]; decide), if_neg (fun q => q c1)]
        rw [hc, if_pos rfl, if_pos rfl, decide_eq_true c1]
        refine wS rfl rfl rfl rfl rfl rfl rfl rfl rfl F_reqT37 (by omega) ?_
        refine zW_p 2 rfl ?_
        refine hW_get H rfl hb rfl rfl rfl ?_
        refine zW_p 2 rfl ?_
        rw [I_sub]
        refine hW_put (v := sT S 8 8 o - n) H rfl hb rfl rfl rfl (Or.inl rfl) rfl rfl rfl alv0 (fun _ => Or.inl (by decide)) (fun σ1 H1 e1 => ?_)
        refine zW_p 1 rfl ?_
        refine hW_get H1 rfl hb rfl rfl rfl ?_
        rw [sT_set, if_pos ⟨rfl, rfl, rfl⟩]
        exact zW_reti rfl rfl rfl ⟨rfl, H1, (kc.of e1).mono (by omega) (by omega)⟩
      · have hc : fScrapCode z S o n = 3 := by unfold fScrapCode; rw [if_neg (by rw [hu]; decide), if_pos c1]
        rw [hc, if_neg (by decide), if_neg (by decide), decide_eq_false c1]
        obtain ⟨σ1, q1, q2, q3⟩ := F_reqF37 H
        exact wST rfl rfl rfl rfl rfl rfl rfl rfl rfl q1 (by omega) rfl ⟨rfl, q2, q3⟩
  obtain ⟨r, σ', h1, rfl, h2⟩ := main
  exact ⟨σ', h1, h2⟩
end ZOQ
