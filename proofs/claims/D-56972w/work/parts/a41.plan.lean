/-! Foundrymark: plan -/
set_option maxRecDepth 100000
def fTakeD (S : hS) (m l : Nat) (t : Int) : hS := ssE (kFTaken (snw S 7 []) (sn S 7) t l) 27 m (sE S 27 m ++ [(sn S 7 : Int)])
def fPlanT (S : hS) (l : Nat) (n : Int) : Int := if tHeld (fh S) (fch S) 100 l = false then imin n (sT S 6 4 l - sT S 6 5 l) else 0
def fPlanS (S : hS) (m l : Nat) (t : Int) : hS := if 0 < t then fTakeD S m l t else S
def fPlanC (S : hS) (l : Nat) (t : Int) : Nat := tN (fch S) 100 l + if 0 < t then 2 else 0
def fPlanB (S : hS) (m l : Nat) (t : Int) : Nat := 4 * tN (fch S) 100 l + if 0 < t then 2 * (sE S 27 m).length + 20 else 0
/-- what planning keeps: all but the list m and new takings -/
def fPlI (S T : hS) (m : Nat) : Prop := fW T ∧ fTk T ∧ (∀ c, c ≠ 7 → sn T c = sn S c) ∧ sn S 7 ≤ sn T 7 ∧ (∀ c i, c ≠ 7 → ¬ (c = 27 ∧ i = m) → sE T c i = sE S c i) ∧ (∀ c i, c ≠ 7 → c ≠ 27 → sM T c i = sM S c i) ∧ (∀ c k i, c ≠ 7 → sT T c k i = sT S c k i) ∧ (∀ k i, i < sn S 7 → sT T 7 k i = sT S 7 k i)
theorem fPlI.le {S T : hS} {m : Nat} (h : fPlI S T m) (c : Nat) : sn S c ≤ sn T c := by
  by_cases e : c = 7
  · rw [e]; exact h.2.2.2.1
  · rw [h.2.2.1 c e]; exact Nat.le_refl _
theorem fPlI.rfl' {S : hS} {m : Nat} (h1 : fW S) (h2 : fTk S) : fPlI S S m := ⟨h1, h2, fun _ _ => rfl, Nat.le_refl _, fun _ _ _ _ => rfl, fun _ _ _ _ => rfl, fun _ _ _ _ => rfl, fun _ _ _ => rfl⟩
section ZPL
variable {g : zG} {w0 : hG} {z : Nat → Nat} {σ : zS} {gh : Nat → Nat → Nat} {S T : hS} {J : zw_W} {a b o m l lb mb : Nat} {t pt n : Int}
theorem fTakeD_sn {c : Nat} : sn (fTakeD S m l t) c = if c = 7 then sn S 7 + 1 else sn S c := by
  unfold fTakeD kFTaken
  rw [sn_ssE, sn_set, sn_set, sn_w]
theorem fTakeD_sT {c k i : Nat} (h7 : c ≠ 7) : sT (fTakeD S m l t) c k i = sT S c k i := by
  unfold fTakeD kFTaken
  rw [sT_ssE, sT_set, if_neg (fun e => h7 e.1), sT_set, if_neg (fun e => h7 e.1), sT_w, if_neg (fun e => h7 e.1)]
theorem fTakeD_sT7 {k i : Nat} (hi : i < sn S 7) : sT (fTakeD S m l t) 7 k i = sT S 7 k i := by
  unfold fTakeD kFTaken
  rw [sT_ssE, sT_set, if_neg (by omega), sT_set, if_neg (by omega), sT_w, if_neg (fun e => by have := e.2; omega)]
theorem fTakeD_new0 : sT (fTakeD S m l t) 7 0 (sn S 7) = (l : Nat) := by
  unfold fTakeD kFTaken
  rw [sT_ssE, sT_set, if_neg (by omega), sT_set, if_pos ⟨rfl, rfl, rfl⟩]
theorem fTakeD_new1 : sT (fTakeD S m l t) 7 1 (sn S 7) = t := by
  unfold fTakeD kFTaken
  rw [sT_ssE, sT_set, if_pos ⟨rfl, rfl, rfl⟩]
theorem fTakeD_sE {c i : Nat} : sE (fTakeD S m l t) c i = if c = 27 ∧ i = m then sE S 27 m ++ [(sn S 7 : Int)] else if c = 7 ∧ i = sn S 7 then [] else sE S c i := by
  unfold fTakeD kFTaken
  rw [sE_ssE, sE_set, sE_set, sE_w]
theorem fTakeD_sM {c i : Nat} (h : c ≠ 27) (h7 : c ≠ 7) : sM (fTakeD S m l t) c i = sM S c i := by
  unfold fTakeD kFTaken
  rw [sM_ssE, if_neg (fun e => h e.1), sM_set, sM_set, sM_w, if_neg (fun e => h7 e.1)]
theorem fW_takeD (H : hRep g w0 σ gh S J) (hW : fW S) : fW (fTakeD S m l t) := by
  intro i hi
  rw [fTakeD_sn, if_neg (by decide)] at hi
  obtain ⟨w1, w2, w3⟩ := hW i hi
  rw [fTakeD_sT (by decide), fTakeD_sT (by decide), fTakeD_sE, if_neg (by omega), if_neg (by omega)]
  refine ⟨w1, w2, fun u hu => ?_⟩
  have hl := H.2.2.2.2.1 6 i 3 66 (by decide) hi rfl
  have h26 : (sT S 6 3 i).toNat < sn S 26 := ((hl w2).2 26 rfl)
  have hu0 := (w3 u hu).1
  have := ((H.2.2.2.2.2.1 26 _ (by decide) h26 u hu) hu0).2 7 rfl
  rw [fTakeD_sT7 this]
  exact w3 u hu
theorem fTk_takeD (hT : fTk S) : fTk (fTakeD S m l t) := by
  intro u hu
  rw [fTakeD_sn, if_pos rfl] at hu
  by_cases e : u = sn S 7
  · rw [e, fTakeD_new0]; omega
  · rw [fTakeD_sT7 (by omega)]
    exact hT u (by omega)
theorem fPlI_take (H : hRep g w0 σ gh T J) (h : fPlI S T m) : fPlI S (fTakeD T m l t) m := by
  obtain ⟨h1, h2, h3, h4, h5, h6, h7, h8⟩ := h
  refine ⟨fW_takeD H h1, fTk_takeD h2, fun c hc => by rw [fTakeD_sn, if_neg hc]; exact h3 c hc, by rw [fTakeD_sn, if_pos rfl]; omega, fun c i hc hi => ?_, fun c i hc h27 => ?_, fun c k i hc => ?_, fun k i hi => ?_⟩
  · rw [fTakeD_sE, if_neg hi, if_neg (fun e => hc e.1)]
    exact h5 c i hc hi
  · rw [fTakeD_sM h27 hc]
    exact h6 c i hc h27
  · rw [fTakeD_sT hc]
    exact h7 c k i hc
  · rw [fTakeD_sT7 (by omega)]
    exact h8 k i hi
theorem fPlI_plan (H : hRep g w0 σ gh T J) (h : fPlI S T m) : fPlI S (fPlanS T m l t) m := by
  unfold fPlanS
  split
  · exact fPlI_take H h
  · exact h
theorem F_plan (H : hRep g w0 σ gh S J) (hW : fW S) (hl : l < 100) (hv : 0 ≤ sT S 6 5 l ∧ sT S 6 5 l ≤ sT S 6 4 l ∧ sT S 6 4 l ≤ 500) (hb : hat gh S 6 l lb) (hm : hat gh S 27 m mb) (hn : 0 ≤ n ∧ n ≤ 900) (hlen : (sE S 27 m).length ≤ 1000) :
    ∃ σ' : zS, zEnd g 104 163 [.ref mb, .ref lb, iv n] σ (.inl (some (iv (n - fPlanT S l n)))) σ' ∧ ∃ ghx, gext S gh ghx ∧ hRep g w0 σ' ghx (fPlanS S m l (fPlanT S l n)) J ∧ kc σ σ' (fPlanC S l (fPlanT S l n)) (fPlanB S m l (fPlanT S l n)) := by
  have hthr : fPlanT S l n ≤ n ∧ -900 ≤ fPlanT S l n ∧ (0 < fPlanT S l n → fPlanT S l n ≤ 900) := by
    unfold fPlanT imin
    repeat' split
    all_goals omega
  have main : zW g 104 163 0 (lv_args 0 [.ref mb, .ref lb, iv n]) [] σ (fun r σ' => r = .inl (some (iv (n - fPlanT S l n))) ∧ ∃ ghx, gext S gh ghx ∧ hRep g w0 σ' ghx (fPlanS S m l (fPlanT S l n)) J ∧ kc σ σ' (fPlanC S l (fPlanT S l n)) (fPlanB S m l (fPlanT S l n))) := by
    have J1 : ∀ (th : Int) (σ3 : zS) (lv : zp_L), th = fPlanT S l n → hRep g w0 σ3 gh S J → kc σ σ3 (tN (fch S) 100 l) (4 * tN (fch S) 100 l) → lvok [(0, .ref mb), (1, .ref lb), (2, iv n)] lv → zW g 104 163 24 lv [iv th] σ3 (fun r σ' => r = .inl (some (iv (n - fPlanT S l n))) ∧ ∃ ghx, gext S gh ghx ∧ hRep g w0 σ' ghx (fPlanS S m l (fPlanT S l n)) J ∧ kc σ σ' (fPlanC S l (fPlanT S l n)) (fPlanB S m l (fPlanT S l n))) := by
      intro th σ3 lv hth H3 k3 hlv
      rw [← hth] at hthr ⊢
      refine zW_ly hlv rfl ?_
      refine zW_p 2 rfl ?_
      unfold fPlanS fPlanC fPlanB
      by_cases h0 : 0 < th
      · rw [if_pos h0, if_pos h0, if_pos h0]
        refine zW_f rfl rfl (fun q => by have := (I_le0 ⟨by omega, by omega⟩).mp q; omega) ?_
        refine zW_p 1 rfl ?_
        refine hW_new H3 rfl rfl rfl rfl rfl rfl (fun σ5 b6 H5 hb6 k5 => ?_)
        refine zW_p 3 rfl ?_
        have he5 : hat (ghw gh S 7 b6) (snw S 7 []) 6 l lb := hat.old hb
        obtain ⟨σ6, g6, ghx, x6, H6, k6⟩ := F_newTaken (q := th) H5 hb6 he5
        refine wI rfl rfl rfl rfl rfl rfl rfl rfl rfl g6 (by omega) ?_
        have hb6x : hat ghx (kFTaken (snw S 7 []) (sn S 7) th l) 7 (sn S 7) b6 := x6.hat (fun _ => Nat.le_refl _) hb6
        have hb5x : hat ghx (kFTaken (snw S 7 []) (sn S 7) th l) 27 m mb := x6.hat (fun _ => Nat.le_refl _) hm.old
        have eL : sE (kFTaken (snw S 7 []) (sn S 7) th l) 27 m = sE S 27 m := rfl
        refine hW_add (x := (sn S 7 : Int)) H6 rfl rfl rfl hb5x rfl rfl rfl (elrepR hb6x) (alvR hb6x.1) (by rw [eL]; omega) rfl (by omega) (fun σ7 H7 k7 => ?_)
        rw [eL] at H7 k7
        have H7' : hRep g w0 σ7 ghx (fTakeD S m l th) J := H7
        refine zW_p 4 rfl ?_
        rw [I_sub]
        have gx : gext S gh ghx := gext.trans (gext_w gext_rfl (fun _ => Nat.le_refl _)) x6 (fun c => sn_w_le (xs := []))
        refine zW_reti rfl rfl rfl ⟨rfl, ghx, gx, H7', ?_⟩
        exact (((k3.trans k5).trans k6).trans k7).mono (by omega) (by omega)
      · rw [if_neg h0, if_neg h0, if_neg h0]
        refine zW_t rfl rfl ((I_le0 ⟨by omega, by omega⟩).mpr (by omega)) ?_
        refine zW_p 3 rfl ?_
        rw [I_sub]
        exact zW_reti rfl rfl rfl ⟨rfl, gh, gext_rfl, H3, k3⟩
    refine zW_p 1 rfl ?_
    obtain ⟨σ3, g3, H3, k3⟩ := F_isHeld 100 hl H hb hW
    refine wV rfl rfl rfl rfl rfl rfl rfl (H.rc hb rfl rfl) g3 (by omega) ?_
    cases hh : tHeld (fh S) (fch S) 100 l with
    | true =>
      refine zW_p 3 rfl ?_
      exact J1 0 σ3 _ (by unfold fPlanT; rw [hh]; rfl) H3 k3 ⟨rfl, rfl, rfl, trivial⟩
    | false =>
      refine zW_p 2 rfl ?_
      refine hW_get H3 rfl hb rfl rfl rfl ?_
      refine zW_p 1 rfl ?_
      refine hW_get H3 rfl hb rfl rfl rfl ?_
      refine zW_p 1 rfl ?_
      rw [I_sub]
      refine zW_p 1 rfl ?_
      refine aW_minI rfl rfl (Nat.le_of_ble_eq_true rfl) ⟨by omega, by omega⟩ ⟨by omega, by omega⟩ ?_
      exact J1 _ σ3 _ (by unfold fPlanT; rw [if_pos hh]; rfl) H3 k3 ⟨rfl, rfl, rfl, trivial⟩
  obtain ⟨r, σ', h1, rfl, h2⟩ := main
  exact ⟨σ', h1, h2⟩
end ZPL
