/-! Foundrymark: arePiecesRight -/
set_option maxRecDepth 100000
def gadd (r : List Int) (l : Nat) (v : Int) : List Int := r.set l (r.getD l 0 + v)
def gTk (z : Nat → Nat) (S : hS) (o p : Nat) (r : List Int) : List Int := ((sE S 26 (fOL S o)).take p).foldl (fun r t => gadd r (fLotOf S t) (if fStg z S o 1 = true then 0 else sT S 7 1 t.toNat)) r
def gDl (S : hS) (o p : Nat) (r : List Int) : List Int := ((sE S 27 (fDelL S o)).take p).foldl (fun r t => gadd r (fLotOf S t) (sT S 7 1 t.toNat)) r
def fGoneO (z : Nat → Nat) (S : hS) (r : List Int) (o : Nat) : List Int := gDl S o (sE S 27 (fDelL S o)).length (gTk z S o (sE S 26 (fOL S o)).length r)
def fGone (z : Nat → Nat) (S : hS) (p : Nat) : List Int := (List.range p).foldl (fGoneO z S) (List.replicate (sn S 6) 0)
theorem gadd_len {r : List Int} {l : Nat} {v : Int} : (gadd r l v).length = r.length := List.length_set
theorem gTk_len {z : Nat → Nat} {S : hS} {o p : Nat} {r : List Int} : (gTk z S o p r).length = r.length := fold_keep (f := fun r (t : Int) => gadd r (fLotOf S t) (if fStg z S o 1 = true then 0 else sT S 7 1 t.toNat)) (fun r => r.length) (fun _ _ => gadd_len) _ r
theorem gDl_len {S : hS} {o p : Nat} {r : List Int} : (gDl S o p r).length = r.length := fold_keep (f := fun r (t : Int) => gadd r (fLotOf S t) (sT S 7 1 t.toNat)) (fun r => r.length) (fun _ _ => gadd_len) _ r
theorem fGone_len {z : Nat → Nat} {S : hS} : ∀ p : Nat, (fGone z S p).length = sn S 6 := fun p => by
  unfold fGone
  rw [show ((List.range p).foldl (fGoneO z S) (List.replicate (sn S 6) 0)).length = (List.replicate (sn S 6) (0 : Int)).length from fold_keep (f := fGoneO z S) (fun r => r.length) (fun _ _ => by unfold fGoneO; rw [gDl_len, gTk_len]) _ _]
  exact List.length_replicate
theorem fGone_succ {z : Nat → Nat} {S : hS} {n : Nat} : fGone z S (n + 1) = fGoneO z S (fGone z S n) n := by
  unfold fGone
  rw [List.range_succ, List.foldl_append]
  rfl
/-- all pieces of a lot are right -/
def fPok (z : Nat → Nat) (S : hS) (l : Nat) : Prop := sT S 6 2 l = sT S 6 4 l + (fGone z S (sn S 8)).getD l 0 ∧ (sT S 6 2 l ≤ 500 ∧ 0 ≤ sT S 6 2 l) ∧ (0 ≤ sT S 6 4 l ∧ sT S 6 4 l ≤ 500) ∧ (0 ≤ sT S 6 5 l ∧ sT S 6 5 l ≤ sT S 6 4 l) ∧ (0 < sT S 6 5 l → tHeld (fh S) (fch S) 100 l = false)
def fPwalk (S : hS) (p : Nat) : Nat := ((List.range p).map (fun l => if 0 < sT S 6 5 l then tN (fch S) 100 l else 0)).sum
theorem fPwalk_succ {S : hS} {n : Nat} : fPwalk S (n + 1) = fPwalk S n + if 0 < sT S 6 5 n then tN (fch S) 100 n else 0 := by
  unfold fPwalk
  rw [List.range_succ, List.map_append, List.sum_append]
  simp
/-- only what nobody asks for is new: arrays -/
def fEq (S S' : hS) : Prop := (∀ c, c ≠ 49 → c ≠ 46 → sn S' c = sn S c) ∧ (sn S 46 ≤ sn S' 46 ∧ sn S 49 ≤ sn S' 49) ∧ (∀ c k i, c ≠ 49 → c ≠ 46 → sT S' c k i = sT S c k i) ∧ (∀ c i, c ≠ 49 → c ≠ 46 → sE S' c i = sE S c i) ∧ (∀ c i, c ≠ 49 → c ≠ 46 → sM S' c i = sM S c i) ∧ ∀ i, i < sn S 46 → sE S' 46 i = sE S 46 i
theorem fEq.rfl' {S : hS} : fEq S S := ⟨fun _ _ _ => rfl, ⟨Nat.le_refl _, Nat.le_refl _⟩, fun _ _ _ _ _ => rfl, fun _ _ _ _ => rfl, fun _ _ _ _ => rfl, fun _ _ => rfl⟩
theorem fEq.trans {S T U : hS} (h : fEq S T) (k : fEq T U) : fEq S U := by
  obtain ⟨a1, ⟨a2, a3⟩, a4, a5, a6, a7⟩ := h
  obtain ⟨b1, ⟨b2, b3⟩, b4, b5, b6, b7⟩ := k
  exact ⟨fun c h1 h2 => (b1 c h1 h2).trans (a1 c h1 h2), ⟨by omega, by omega⟩, fun c k i h1 h2 => (b4 c k i h1 h2).trans (a4 c k i h1 h2), fun c i h1 h2 => (b5 c i h1 h2).trans (a5 c i h1 h2), fun c i h1 h2 => (b6 c i h1 h2).trans (a6 c i h1 h2), fun i hi => (b7 i (by omega)).trans (a7 i hi)⟩
theorem fEq.le {S S' : hS} (h : fEq S S') (c : Nat) : sn S c ≤ sn S' c := by
  by_cases h1 : c = 49
  · rw [h1]; exact h.2.1.2
  · by_cases h2 : c = 46
    · rw [h2]; exact h.2.1.1
    · rw [h.1 c h1 h2]; exact Nat.le_refl _
theorem fEq_49 {S : hS} {r r2 : List Int} : fEq S (ssA (snw S 49 r) 49 (sn S 49) r2) := by
  refine ⟨fun c h1 h2 => by rw [sn_ssA, sn_w, if_neg h1], ⟨by rw [sn_ssA, sn_w, if_neg (by decide)]; exact Nat.le_refl _, by rw [sn_ssA, sn_w, if_pos rfl]; omega⟩, fun c k i h1 h2 => by rw [sT_ssA, sT_w, if_neg (fun e => h1 e.1)], fun c i h1 h2 => by rw [sE_ssA, if_neg (fun e => h1 e.1), sE_w, if_neg (fun e => h1 e.1)], fun c i h1 h2 => by rw [sM_ssA, sM_w, if_neg (fun e => h1 e.1)], fun i hi => by rw [sE_ssA, if_neg (by omega), sE_w, if_neg (by omega)]⟩
theorem fEq_46 {S : hS} {r r2 : List Int} : fEq S (ssA (snw S 46 r) 46 (sn S 46) r2) := by
  refine ⟨fun c h1 h2 => by rw [sn_ssA, sn_w, if_neg h2], ⟨by rw [sn_ssA, sn_w, if_pos rfl]; omega, by rw [sn_ssA, sn_w, if_neg (by decide)]; exact Nat.le_refl _⟩, fun c k i h1 h2 => by rw [sT_ssA, sT_w, if_neg (fun e => h2 e.1)], fun c i h1 h2 => by rw [sE_ssA, if_neg (fun e => h2 e.1), sE_w, if_neg (fun e => h2 e.1)], fun c i h1 h2 => by rw [sM_ssA, sM_w, if_neg (fun e => h2 e.1)], fun i hi => by rw [sE_ssA, if_neg (by omega), sE_w, if_neg (by omega)]⟩
section ZFQ
variable {S S' : hS} {z : Nat → Nat}
theorem fEq.ch (h : fEq S S') : fch S' = fch S := by
  funext i
  unfold fch
  rw [h.2.2.1 6 3 i (by decide) (by decide), h.2.2.2.1 26 _ (by decide) (by decide)]
  exact List.map_congr_left (fun t _ => by rw [h.2.2.1 7 0 _ (by decide) (by decide)])
theorem fEq.h (h : fEq S S') : fh S' = fh S := by
  funext i
  unfold fh
  rw [h.2.2.1 6 7 i (by decide) (by decide)]
theorem fEq.ol (h : fEq S S') (o : Nat) : fOL S' o = fOL S o := by unfold fOL; rw [h.2.2.1 8 5 o (by decide) (by decide)]
theorem fEq.dl (h : fEq S S') (o : Nat) : fDelL S' o = fDelL S o := by unfold fDelL; rw [h.2.2.1 8 6 o (by decide) (by decide)]
theorem fEq.lot (h : fEq S S') (t : Int) : fLotOf S' t = fLotOf S t := by unfold fLotOf; rw [h.2.2.1 7 0 _ (by decide) (by decide)]
theorem fEq.lotF (h : fEq S S') : fLotOf S' = fLotOf S := funext (fun t => h.lot t)
theorem fEq.stg (h : fEq S S') (o s : Nat) : fStg z S' o s = fStg z S o s := by unfold fStg; rw [h.2.2.1 8 7 o (by decide) (by decide)]
theorem fEq.fix (h : fEq S S') (hF : fFix S) : fFix S' := by
  obtain ⟨f0, f1, f2, f3, f4, f5, f6, f7, f8, f9, fa, fb, fc, fd⟩ := hF
  have hT := fun c k i h1 h2 => h.2.2.1 c k i h1 h2
  have hE := fun c i h1 h2 => h.2.2.2.1 c i h1 h2
  have hn := fun c h1 h2 => h.1 c h1 h2
  exact ⟨by rw [hn 0 (by decide) (by decide)]; exact f0, by rw [hT 0 0 0 (by decide) (by decide)]; exact f1, by rw [hT 0 1 0 (by decide) (by decide)]; exact f2, by rw [hT 0 2 0 (by decide) (by decide)]; exact f3, by rw [hT 0 3 0 (by decide) (by decide)]; exact f4, by rw [hT 0 4 0 (by decide) (by decide)]; exact f5, by rw [hE 20 0 (by decide) (by decide), hn 1 (by decide) (by decide)]; exact f6, by rw [hE 22 0 (by decide) (by decide), hn 6 (by decide) (by decide)]; exact f7, by rw [hE 23 0 (by decide) (by decide), hn 8 (by decide) (by decide)]; exact f8, by rw [hn 1 (by decide) (by decide)]; exact f9, by rw [hn 6 (by decide) (by decide)]; exact fa, by rw [hn 8 (by decide) (by decide)]; exact fb, by rw [hE 21 0 (by decide) (by decide)]; exact fc, by rw [hE 21 0 (by decide) (by decide)]; exact fd⟩
theorem fEq.w (h : fEq S S') (hW : fW S) : fW S' := fW_of hW (h.1 6 (by decide) (by decide)) (fun i => h.2.2.1 6 7 i (by decide) (by decide)) (fun i => h.2.2.1 6 3 i (by decide) (by decide)) (fun m t ht => by rw [h.2.2.2.1 26 m (by decide) (by decide)] at ht; exact ht) (fun t => h.2.2.1 7 0 t (by decide) (by decide))
theorem fEq.tk (h : fEq S S') (hT : fTk S) : fTk S' := fun t ht => by
  rw [h.1 7 (by decide) (by decide)] at ht
  rw [h.2.2.1 7 0 t (by decide) (by decide)]
  exact hT t ht
theorem fEq.ln (h : fEq S S') (hN : fLn S) : fLn S' := fun i hi => by
  rw [h.1 6 (by decide) (by decide)] at hi
  rw [h.2.2.1 6 0 i (by decide) (by decide)]
  exact hN i hi
theorem fEq.ord (h : fEq S S') (hO : fOrd z S) : fOrd z S' := fun i hi => by
  rw [h.1 8 (by decide) (by decide)] at hi
  rw [h.2.2.1 8 1 i (by decide) (by decide), h.2.2.1 8 5 i (by decide) (by decide), h.2.2.1 8 6 i (by decide) (by decide), h.2.2.1 8 7 i (by decide) (by decide)]
  exact hO i hi
theorem fEq.gone (h : fEq S S') (p : Nat) : fGone z S' p = fGone z S p := by
  unfold fGone
  rw [h.1 6 (by decide) (by decide)]
  congr 1
  funext r o
  unfold fGoneO gDl gTk
  rw [h.ol o, h.dl o, h.2.2.2.1 26 _ (by decide) (by decide), h.2.2.2.1 27 _ (by decide) (by decide), h.lotF, h.stg o 1]
  have e : ∀ t : Int, sT S' 7 1 t.toNat = sT S 7 1 t.toNat := fun t => h.2.2.1 7 1 _ (by decide) (by decide)
  simp only [e]
end ZFQ
section ZPI
variable {g : zG} {w0 : hG} {z : Nat → Nat} {σ : zS} {gh : Nat → Nat → Nat} {S : hS} {J : zw_W} {a b o : Nat}
theorem F_arePiecesRight (H : hRep g w0 σ gh S J) (C : hCon g w0 z) (hF : fFix S) (hW : fW S) (hT : fTk S) (hN : fLn S) (hO : fOrd z S) (ha : hat gh S 0 0 a) (hR : ∀ l : Nat, l < sn S 6 → fPok z S l) :
    ∃ σ' : zS, zEnd g 104 30 [.ref a] σ (.inl (some (iv 1))) σ' ∧ ∃ ghx S', fEq S S' ∧ gext S gh ghx ∧ hRep g w0 σ' ghx S' J ∧ kc σ σ' (3 + 2 * sn S 8 + fPwalk S (sn S 6)) (sn S 6 + 8 + 8 * sn S 8 + 4 * fPwalk S (sn S 6)) := by
  have hFx := hF
  obtain ⟨f0, f1, f2, f3, f4, f5, f6, f7, f8, f9, fa, fb, fc, fd⟩ := hF
  have main : zW g 104 30 0 (lv_args 0 [.ref a]) [] σ (fun r σ' => r = .inl (some (iv 1)) ∧ ∃ ghx S', fEq S S' ∧ gext S gh ghx ∧ hRep g w0 σ' ghx S' J ∧ kc σ σ' (3 + 2 * sn S 8 + fPwalk S (sn S 6)) (sn S 6 + 8 + 8 * sn S 8 + 4 * fPwalk S (sn S 6))) := by
    refine zW_p 1 rfl ?_
    refine hW_getr (j := 0) H rfl ha rfl rfl rfl f3 (fun b0 hb0 => ?_)
    refine hW_size H rfl rfl rfl hb0 rfl rfl rfl (by omega) ?_
    rw [f7, idl_len]
    refine hW_newI H rfl (by omega) (fun σ1 rb H1 hrb k1 => ?_)
    generalize hQQ : (fun (r : Option Value ⊕ String) (σ' : zS) => r = .inl (some (iv 1)) ∧ ∃ ghx S', fEq S S' ∧ gext S gh ghx ∧ hRep g w0 σ' ghx S' J ∧ kc σ σ' (3 + 2 * sn S 8 + fPwalk S (sn S 6)) (sn S 6 + 8 + 8 * sn S 8 + 4 * fPwalk S (sn S 6))) = QQ
    generalize hX : snw S 46 (List.replicate (sn S 6) 0) = X at H1 hrb
    generalize hgx : ghw gh S 46 rb = gx at H1 hrb
    have x1 : gext S gh gx := by rw [← hgx]; exact gext_w gext_rfl (fun _ => Nat.le_refl _)
    have l1 : ∀ c, sn S c ≤ sn X c := fun c => by rw [← hX]; exact sn_w_le
    have hEq : ∀ r, fEq S (ssA X 46 (sn S 46) r) := fun r => by rw [← hX]; exact fEq_46
    have xT : ∀ c k i, c ≠ 46 → sT X c k i = sT S c k i := fun c k i h => by rw [← hX, sT_w, if_neg (fun e => h e.1)]
    have xE : ∀ c i, c ≠ 46 → sE X c i = sE S c i := fun c i h => by rw [← hX, sE_w, if_neg (fun e => h e.1)]
    have xn : ∀ c, c ≠ 46 → sn X c = sn S c := fun c h => by rw [← hX, sn_w, if_neg h]
    have hself : ssA X 46 (sn S 46) (List.replicate (sn S 6) 0) = X := by
      rw [← hX]
      unfold ssA snw
      refine Prod.ext rfl (Prod.ext rfl (Prod.ext ?_ rfl))
      funext c i
      show (if c = 46 ∧ i = sn S 46 then _ else (if c = 46 ∧ i = sn S 46 then _ else _)) = (if c = 46 ∧ i = sn S 46 then _ else _)
      split <;> rfl
    have ha1 : hat gx X 0 0 a := x1.hat l1 ha
    -- what the array holds
    have e46 : ∀ r, sE (ssA X 46 (sn S 46) r) 46 (sn S 46) = r := fun r => by rw [sE_ssA, if_pos ⟨rfl, rfl⟩]
    have hat' : ∀ (r : List Int) {c i b : Nat}, hat gx X c i b → hat gx (ssA X 46 (sn S 46) r) c i b := fun r c i b h => h
    have eE : ∀ r c i, c ≠ 46 → sE (ssA X 46 (sn S 46) r) c i = sE S c i := fun r c i h => by rw [sE_ssA, if_neg (fun e => h e.1)]; exact xE c i h
    refine zW_p 2 rfl ?_
    refine hW_getr (j := 0) H1 rfl ha1 rfl rfl rfl ((xT 0 3 0 (by decide)).trans f4) (fun b1 hb1 => ?_)
    refine hW_iter H1 rfl rfl rfl hb1 rfl rfl rfl (by omega) (fun σ2 it hJ H2 k2 => ?_)
    refine zW_p 1 rfl ?_
    refine zW_lv ((2, .ref it) :: [(0, .ref a), (1, .ref rb)]) rfl ⟨rfl, rfl, rfl, trivial⟩ ?_
    rw [← hself] at H2
    refine hW_loop (c := 23) (i := 0) (b := b1) (n := 8) (xs := sE S 23 0) (mc := Int32.ofInt (sM X 23 0)) (fun p lv κ gh' S' => lv = [(0, .ref a), (1, .ref rb)] ∧ gh' = gx ∧ S' = ssA X 46 (sn S 46) (fGone z S p) ∧ kd σ2.2 κ (2 * p) (8 * p)) hJ rfl rfl rfl (fun _ => rfl) rfl rfl rfl (fun _ => rfl) (fun _ => rfl) rfl rfl rfl (by omega) ?_ ?_ ?_ _ _ _ _ H2 ⟨rfl, rfl, rfl, kd.rfl'⟩
    · rintro p lv κ gh' S' ⟨rfl, rfl, rfl, hk⟩
      exact ⟨hb1, eE _ 23 0 (by decide), rfl⟩
    · rintro p y lv σ3 gh' S' J2 e hp hy ⟨rfl, rfl, rfl, hk⟩ H3 hd he hback
      rw [f8, idl_len] at hp
      rw [f8, idl_at hp] at hy
      obtain rfl : p = y := by have := Option.some.inj hy; omega
      obtain ⟨o1, o2, o3, s, s6, hs⟩ := hO p hp
      have hst1 := fStg_z (z := z) (t := 1) C s6 (by decide) hs
      have h5 : sT S 8 5 p = (fOL S p : Nat) := (Int.toNat_of_nonneg o2).symm
      have h6 : sT S 8 6 p = (fDelL S p : Nat) := (Int.toNat_of_nonneg o3).symm
      have hlen0 : (fGone z S p).length = sn S 6 := fGone_len p
      refine hW_cast H3 rfl he rfl rfl rfl ?_
      refine zW_p 2 rfl ?_
      refine hW_getr (j := fOL S p) H3 rfl he rfl rfl rfl ((xT 8 5 p (by decide)).trans h5) (fun b2 hb2 => ?_)
      refine hW_iter H3 rfl rfl rfl hb2 rfl rfl rfl (by omega) (fun σ4 it2 hJ2 H4 k4 => ?_)
      refine zW_p 1 rfl ?_
      refine zW_lv ((4, .ref it2) :: [(0, .ref a), (1, .ref rb), (2, .ref it), (3, .ref e)]) rfl ⟨rfl, rfl, rfl, rfl, rfl, trivial⟩ ?_
      refine hW_loop (c := 26) (i := fOL S p) (b := b2) (n := 7) (xs := sE S 26 (fOL S p)) (mc := Int32.ofInt (sM X 26 (fOL S p))) (fun q lv κ gh3 S' => lv = [(0, .ref a), (1, .ref rb), (2, .ref it), (3, .ref e)] ∧ gh3 = gh' ∧ S' = ssA X 46 (sn S 46) (gTk z S p q (fGone z S p)) ∧ κ = σ4.2) hJ2 rfl rfl rfl (fun _ => rfl) rfl rfl rfl (fun _ => rfl) (fun _ => rfl) rfl rfl rfl (by omega) ?_ ?_ ?_ _ _ _ _ H4 ⟨rfl, rfl, rfl, rfl⟩
      · rintro q lv κ gh'' S' ⟨rfl, rfl, rfl, hk'⟩
        exact ⟨hb2, eE _ 26 _ (by decide), rfl⟩
      · rintro q y lv σ5 gh'' S' J3 e2 hq hy2 ⟨rfl, rfl, rfl, hk'⟩ H5 hd2 he2 hback2
        have hy7 : y < sn S 7 := by have := he2.1; rw [sn_ssA, xn 7 (by decide)] at this; exact this
        obtain ⟨x, hx⟩ : ∃ x : Nat, sT S 7 0 y = x := ⟨(sT S 7 0 y).toNat, (Int.toNat_of_nonneg (hT y hy7)).symm⟩
        have hfl : fLotOf S (y : Int) = x := by unfold fLotOf; rw [Int.toNat_natCast, hx, Int.toNat_natCast]
        have hnx : gTk z S p (q + 1) (fGone z S p) = gadd (gTk z S p q (fGone z S p)) x (if fStg z S p 1 = true then 0 else sT S 7 1 y) := by
          unfold gTk
          rw [take_snoc hy2, List.foldl_append]
          simp only [List.foldl_cons, List.foldl_nil, Int.toNat_natCast]
          rw [hfl]
        generalize hr : gTk z S p q (fGone z S p) = r at H5 hnx he2
        have hrl : r.length = sn S 6 := by rw [← hr, gTk_len]; exact hlen0
        refine hW_cast H5 rfl he2 rfl rfl rfl ?_
        refine zW_p 3 rfl ?_
        refine hW_getr (j := x) H5 rfl he2 rfl rfl rfl ((xT 7 0 y (by decide)).trans hx) (fun b3 hb3 => ?_)
        have hx6 : x < sn S 6 := by have := hb3.1; rw [sn_ssA, xn 6 (by decide)] at this; exact this
        refine hW_get H5 rfl hb3 rfl rfl rfl ?_
        rw [show sT (ssA X 46 (sn S 46) r) 6 0 x = (x : Nat) from (xT 6 0 x (by decide)).trans (hN x hx6)]
        refine zW_p 1 rfl ?_
        have hrx : r[x]? = some (r.getD x 0) := getD_at (by omega)
        refine hW_iald (v := r.getD x 0) H5 rfl (show hat gh'' (ssA X 46 (sn S 46) r) 46 (sn S 46) rb from hrb) (by rw [e46]; exact hrx) (by omega) ?_
        have hep : hat gh'' (ssA X 46 (sn S 46) r) 8 p e := he
        have fin : ∀ (v : Int) (lv : zp_L), v = (if fStg z S p 1 = true then 0 else sT S 7 1 y) → lvok [(0, .ref a), (1, .ref rb), (2, .ref it), (3, .ref e), (4, .ref it2)] lv → zW g 104 30 98 lv [iv v, iv (r.getD x 0), iv x, .ref rb] σ5 QQ := by
          intro v lv hv hlv
          refine zW_ly hlv rfl ?_
          refine zW_p 1 rfl ?_
          rw [I_add]
          refine hW_iast (v := r.getD x 0 + v) H5 rfl (show hat gh'' (ssA X 46 (sn S 46) r) 46 (sn S 46) rb from hrb) (by rw [e46]; omega) (by rw [e46]; omega) (fun σ6 H6 e6 => ?_)
          rw [e46, ssA_ssA] at H6
          refine zW_p 1 rfl ?_
          refine zW_lv ((4, .ref it2) :: [(0, .ref a), (1, .ref rb), (2, .ref it), (3, .ref e)]) rfl ⟨rfl, rfl, rfl, rfl, rfl, trivial⟩ ?_
          refine hback2 _ σ6 _ _ H6 ⟨rfl, rfl, ?_, e6.trans hk'⟩
          rw [hnx, ← hv]
          rfl
        refine zW_p 1 rfl ?_
        refine hW_get H5 rfl hep rfl rfl rfl ?_
        rw [show sT (ssA X 46 (sn S 46) r) 8 7 p = (z s : Nat) from (xT 8 7 p (by decide)).trans hs, ← convC]
        refine aW_stat rfl rfl (C.1 1 (by decide)).1 ?_
        by_cases e1 : s = 1
        · subst e1
          refine zW_f rfl rfl (fun q => q rfl) ?_
          refine zW_p 2 rfl ?_
          exact fin 0 _ (by rw [hst1]; rfl) ⟨rfl, rfl, rfl, rfl, rfl, trivial⟩
        · refine zW_t rfl rfl (fun q => e1 (C.inj (by omega) (by decide) q)) ?_
          refine zW_p 1 rfl ?_
          refine hW_get H5 rfl he2 rfl rfl rfl ?_
          rw [show sT (ssA X 46 (sn S 46) r) 7 1 y = sT S 7 1 y from xT 7 1 y (by decide)]
          exact fin _ _ (by rw [hst1, decide_eq_false e1]; rfl) ⟨rfl, rfl, rfl, rfl, rfl, trivial⟩
      · rintro lv σ5 gh'' S' H5 ⟨rfl, rfl, rfl, hk'⟩
        generalize hr1 : gTk z S p (sE S 26 (fOL S p)).length (fGone z S p) = r1 at H5
        have hr1l : r1.length = sn S 6 := by rw [← hr1, gTk_len]; exact hlen0
        have hep : hat gh'' (ssA X 46 (sn S 46) r1) 8 p e := he
        refine zW_p 1 rfl ?_
        refine hW_getr (j := fDelL S p) H5 rfl hep rfl rfl rfl ((xT 8 6 p (by decide)).trans h6) (fun b4 hb4 => ?_)
        refine hW_iter H5 rfl rfl rfl hb4 rfl rfl rfl (by omega) (fun σ6 it3 hJ3 H6 k6 => ?_)
        refine zW_p 1 rfl ?_
        refine zW_lv ((4, .ref it3) :: [(0, .ref a), (1, .ref rb), (2, .ref it), (3, .ref e)]) rfl ⟨rfl, rfl, rfl, rfl, rfl, trivial⟩ ?_
        refine hW_loop (c := 27) (i := fDelL S p) (b := b4) (n := 7) (xs := sE S 27 (fDelL S p)) (mc := Int32.ofInt (sM X 27 (fDelL S p))) (fun q lv κ gh' S' => lv = [(0, .ref a), (1, .ref rb), (2, .ref it), (3, .ref e)] ∧ gh' = gh'' ∧ S' = ssA X 46 (sn S 46) (gDl S p q r1) ∧ κ = σ6.2) hJ3 rfl rfl rfl (fun _ => rfl) rfl rfl rfl (fun _ => rfl) (fun _ => rfl) rfl rfl rfl (by omega) ?_ ?_ ?_ _ _ _ _ H6 ⟨rfl, rfl, rfl, rfl⟩
        · rintro q lv κ gh3 S' ⟨rfl, rfl, rfl, hk3⟩
          exact ⟨hb4, eE _ 27 _ (by decide), rfl⟩
        · rintro q y lv σ7 gh3 S' J3 e2 hq hy2 ⟨rfl, rfl, rfl, hk3⟩ H7 hd2 he2 hback2
          have hy7 : y < sn S 7 := by have := he2.1; rw [sn_ssA, xn 7 (by decide)] at this; exact this
          obtain ⟨x, hx⟩ : ∃ x : Nat, sT S 7 0 y = x := ⟨(sT S 7 0 y).toNat, (Int.toNat_of_nonneg (hT y hy7)).symm⟩
          have hfl : fLotOf S (y : Int) = x := by unfold fLotOf; rw [Int.toNat_natCast, hx, Int.toNat_natCast]
          have hnx : gDl S p (q + 1) r1 = gadd (gDl S p q r1) x (sT S 7 1 y) := by
            unfold gDl
            rw [take_snoc hy2, List.foldl_append]
            simp only [List.foldl_cons, List.foldl_nil, Int.toNat_natCast]
            rw [hfl]
          generalize hr : gDl S p q r1 = r at H7 hnx he2
          have hrl : r.length = sn S 6 := by rw [← hr, gDl_len]; exact hr1l
          refine hW_cast H7 rfl he2 rfl rfl rfl ?_
          refine zW_p 3 rfl ?_
          refine hW_getr (j := x) H7 rfl he2 rfl rfl rfl ((xT 7 0 y (by decide)).trans hx) (fun b3 hb3 => ?_)
          have hx6 : x < sn S 6 := by have := hb3.1; rw [sn_ssA, xn 6 (by decide)] at this; exact this
          refine hW_get H7 rfl hb3 rfl rfl rfl ?_
          rw [show sT (ssA X 46 (sn S 46) r) 6 0 x = (x : Nat) from (xT 6 0 x (by decide)).trans (hN x hx6)]
          refine zW_p 1 rfl ?_
          have hrx : r[x]? = some (r.getD x 0) := getD_at (by omega)
          refine hW_iald (v := r.getD x 0) H7 rfl (show hat gh3 (ssA X 46 (sn S 46) r) 46 (sn S 46) rb from hrb) (by rw [e46]; exact hrx) (by omega) ?_
          refine zW_p 1 rfl ?_
          refine hW_get H7 rfl he2 rfl rfl rfl ?_
          rw [show sT (ssA X 46 (sn S 46) r) 7 1 y = sT S 7 1 y from xT 7 1 y (by decide)]
          refine zW_p 1 rfl ?_
          rw [I_add]
          refine hW_iast (v := r.getD x 0 + sT S 7 1 y) H7 rfl (show hat gh3 (ssA X 46 (sn S 46) r) 46 (sn S 46) rb from hrb) (by rw [e46]; omega) (by rw [e46]; omega) (fun σ8 H8 e8 => ?_)
          rw [e46, ssA_ssA] at H8
          refine zW_p 1 rfl ?_
          refine zW_lv ((4, .ref it3) :: [(0, .ref a), (1, .ref rb), (2, .ref it), (3, .ref e)]) rfl ⟨rfl, rfl, rfl, rfl, rfl, trivial⟩ ?_
          refine hback2 _ σ8 _ _ H8 ⟨rfl, rfl, ?_, e8.trans hk3⟩
          rw [hnx]
          rfl
        · rintro lv σ7 gh3 S' H7 ⟨rfl, rfl, rfl, hk3⟩
          refine zW_p 1 rfl ?_
          refine zW_lv ((2, .ref it) :: [(0, .ref a), (1, .ref rb)]) rfl ⟨rfl, rfl, rfl, trivial⟩ ?_
          refine hback _ σ7 _ _ H7 ⟨rfl, rfl, ?_, ?_⟩
          · rw [fGone_succ]
            unfold fGoneO
            rw [hr1]
          · have q1 := k4.kd
            have q2 := k6.kd
            rw [hk'] at q2
            rw [hk3]
            exact ((kd.trans hk q1).trans q2).mono (by omega) (by omega)
    · rintro lv σ3 gh' S' H3 ⟨rfl, rfl, rfl, hk⟩
      rw [f8, idl_len] at H3 hk
      generalize hr : fGone z S (sn S 8) = r at H3 hR
      have hrl : r.length = sn S 6 := by rw [← hr]; exact fGone_len _
      have hEq1 := hEq r
      refine zW_p 3 rfl ?_
      refine hW_getr (j := 0) H3 rfl (hat' r ha1) rfl rfl rfl ((xT 0 2 0 (by decide)).trans f3) (fun b2 hb2 => ?_)
      refine hW_iter H3 rfl rfl rfl hb2 rfl rfl rfl (by omega) (fun σ4 it2 hJ2 H4 k4 => ?_)
      refine zW_p 1 rfl ?_
      refine zW_lv ((3, .ref it2) :: [(1, .ref rb), (2, iv 1)]) rfl ⟨rfl, rfl, rfl, trivial⟩ ?_
      refine hW_loop (c := 22) (i := 0) (b := b2) (n := 6) (xs := sE S 22 0) (mc := Int32.ofInt (sM X 22 0)) (fun q lv κ gh2 S' => lv = [(1, .ref rb), (2, iv 1)] ∧ gh2 = gh' ∧ S' = ssA X 46 (sn S 46) r ∧ kd σ4.2 κ (fPwalk S q) (4 * fPwalk S q)) hJ2 rfl rfl rfl (fun _ => rfl) rfl rfl rfl (fun _ => rfl) (fun _ => rfl) rfl rfl rfl (by omega) ?_ ?_ ?_ _ _ _ _ H4 ⟨rfl, rfl, rfl, kd.rfl'⟩
      · rintro q lv κ gh2 S' ⟨rfl, rfl, rfl, hk2⟩
        exact ⟨hb2, eE _ 22 0 (by decide), rfl⟩
      · rintro q y lv σ5 gh2 S' J3 e hq hy ⟨rfl, rfl, rfl, hk2⟩ H5 hd he hback
        rw [f7, idl_len] at hq
        rw [f7, idl_at hq] at hy
        obtain rfl : q = y := by have := Option.some.inj hy; omega
        have hRq := hR q hq
        unfold fPok at hRq
        rw [hr] at hRq
        obtain ⟨r1, r2, r3, r4, r5⟩ := hRq
        have back : ∀ (σ6 : zS) (lv : zp_L), hRep g w0 σ6 gh2 (ssA X 46 (sn S 46) r) J3 → kd σ5.2 σ6.2 (if 0 < sT S 6 5 q then tN (fch S) 100 q else 0) (4 * (if 0 < sT S 6 5 q then tN (fch S) 100 q else 0)) → lvok [(1, .ref rb), (3, .ref it2)] lv → zW g 104 30 242 lv [] σ6 QQ := by
          intro σ6 lv H6 hk6 hlv
          refine zW_ly hlv rfl ?_
          refine zW_p 4 rfl ?_
          refine zW_lv ((3, .ref it2) :: [(1, .ref rb), (2, iv 1)]) rfl ⟨rfl, rfl, rfl, trivial⟩ ?_
          refine hback _ σ6 _ _ H6 ⟨rfl, rfl, rfl, ?_⟩
          rw [fPwalk_succ]
          exact (kd.trans hk2 hk6).mono (by omega) (by omega)
        have hrx : r[q]? = some (r.getD q 0) := getD_at (by omega)
        refine hW_cast H5 rfl he rfl rfl rfl ?_
        refine zW_p 4 rfl ?_
        refine hW_get H5 rfl he rfl rfl rfl ?_
        rw [show sT (ssA X 46 (sn S 46) r) 6 2 q = sT S 6 2 q from xT 6 2 q (by decide)]
        refine zW_p 1 rfl ?_
        refine hW_get H5 rfl he rfl rfl rfl ?_
        rw [show sT (ssA X 46 (sn S 46) r) 6 4 q = sT S 6 4 q from xT 6 4 q (by decide)]
        refine zW_p 2 rfl ?_
        refine hW_get H5 rfl he rfl rfl rfl ?_
        rw [show sT (ssA X 46 (sn S 46) r) 6 0 q = (q : Nat) from (xT 6 0 q (by decide)).trans (hN q hq)]
        refine hW_iald (v := r.getD q 0) H5 rfl (show hat gh2 (ssA X 46 (sn S 46) r) 46 (sn S 46) rb from hrb) (by rw [e46]; exact hrx) (by omega) ?_
        refine zW_p 1 rfl ?_
        rw [I_add, ← r1]
        refine zW_f rfl rfl (fun q => q rfl) ?_
        refine zW_p 1 rfl ?_
        refine hW_get H5 rfl he rfl rfl rfl ?_
        rw [show sT (ssA X 46 (sn S 46) r) 6 5 q = sT S 6 5 q from xT 6 5 q (by decide)]
        refine zW_p 1 rfl ?_
        refine hW_get H5 rfl he rfl rfl rfl ?_
        rw [show sT (ssA X 46 (sn S 46) r) 6 4 q = sT S 6 4 q from xT 6 4 q (by decide)]
        refine zW_f rfl rfl (fun q => by have := (I_lt ⟨by omega, by omega⟩ ⟨by omega, by omega⟩).mp q; omega) ?_
        refine zW_p 1 rfl ?_
        refine hW_get H5 rfl he rfl rfl rfl ?_
        rw [show sT (ssA X 46 (sn S 46) r) 6 5 q = sT S 6 5 q from xT 6 5 q (by decide)]
        by_cases h0 : 0 < sT S 6 5 q
        · refine zW_f rfl rfl (fun e => by have := (I_le0 ⟨by omega, by omega⟩).mp e; omega) ?_
          refine zW_p 1 rfl ?_
          obtain ⟨σ6, g6, H6, k6⟩ := F_isHeld 100 (by omega) H5 he (hEq1.w hW)
          rw [hEq1.h, hEq1.ch, r5 h0] at g6
          rw [hEq1.ch] at k6
          refine wV rfl rfl rfl rfl rfl rfl rfl (H5.rc he rfl rfl) g6 (by omega) ?_
          refine zW_p 1 rfl ?_
          exact back σ6 _ H6 (by rw [if_pos h0]; exact k6.kd) ⟨rfl, rfl, trivial⟩
        · refine zW_t rfl rfl ((I_le0 ⟨by omega, by omega⟩).mpr (by omega)) ?_
          exact back σ5 _ H5 (by rw [if_neg h0]; exact kd.rfl') ⟨rfl, rfl, trivial⟩
      · rintro lv σ5 gh2 S' H5 ⟨rfl, rfl, rfl, hk2⟩
        rw [f7, idl_len] at hk2
        refine zW_p 1 rfl ?_
        refine zW_reti rfl rfl rfl ?_
        rw [← hQQ]
        exact ⟨rfl, gh2, _, hEq1, x1, H5, ((((k1.trans k2).trans hk.kc).trans k4).trans hk2.kc).mono (by omega) (by omega)⟩
  obtain ⟨r, σ', h1, rfl, h2⟩ := main
  exact ⟨σ', h1, h2⟩
end ZPI
