/-! Foundrymark: reach, lotsInIt, lotsIn -/
set_option maxRecDepth 100000
/-- goes back from a lot; the marks, and how many were new -/
def tReach (ch : Nat → List Nat) : Nat → Nat → List Int × Nat → List Int × Nat
  | 0, _, s => s
  | n + 1, i, s => if s.1.getD i 0 = 0 then (ch i).foldl (fun s y => tReach ch n y s) (s.1.set i 1, s.2 + 1) else s
def r01 (r : List Int) : Prop := ∀ x ∈ r, x = 0 ∨ x = 1
theorem r01_set {r : List Int} {i : Nat} (h : r01 r) : r01 (r.set i 1) := fun x hx => by
  rcases List.mem_or_eq_of_mem_set hx with h1 | h1
  · exact h x h1
  · exact Or.inr h1
/-- what reach keeps -/
def rKeep (s s' : List Int × Nat) : Prop := s'.1.length = s.1.length ∧ (r01 s.1 → r01 s'.1) ∧ s.2 ≤ s'.2
theorem rKeep.rfl' {s : List Int × Nat} : rKeep s s := ⟨rfl, fun h => h, Nat.le_refl _⟩
theorem rKeep.trans {s t u : List Int × Nat} (h : rKeep s t) (h2 : rKeep t u) : rKeep s u := ⟨h2.1.trans h.1, fun q => h2.2.1 (h.2.1 q), Nat.le_trans h.2.2 h2.2.2⟩
theorem rKeep_fold {f : List Int × Nat → Nat → List Int × Nat} (hf : ∀ s y, rKeep s (f s y)) : ∀ (l : List Nat) (s : List Int × Nat), rKeep s (l.foldl f s)
  | [], _ => rKeep.rfl'
  | y :: l, s => by
    rw [List.foldl_cons]
    exact (hf s y).trans (rKeep_fold hf l _)
theorem tReach_keep (ch : Nat → List Nat) : ∀ (n i : Nat) (s : List Int × Nat), rKeep s (tReach ch n i s)
  | 0, _, _ => rKeep.rfl'
  | n + 1, i, s => by
    unfold tReach
    split
    · refine rKeep.trans (t := (s.1.set i 1, s.2 + 1)) ⟨List.length_set, r01_set, Nat.le_succ _⟩ ?_
      exact rKeep_fold (fun s y => tReach_keep ch n y s) _ _
    · exact rKeep.rfl'
/-- lots have their numbers -/
def fLn (S : hS) : Prop := ∀ i : Nat, i < sn S 6 → sT S 6 0 i = (i : Nat)
theorem ssA_ssA {S : hS} {c i : Nat} {r r2 : List Int} : ssA (ssA S c i r) c i r2 = ssA S c i r2 := by
  unfold ssA
  simp only
  congr 2
  refine Prod.ext ?_ rfl
  funext c' i'
  simp only
  split <;> rfl
section ZRE
variable {g : zG} {w0 : hG} {z : Nat → Nat}
theorem F_reach : ∀ (n : Nat) {i a q rb c : Nat} {σ : zS} {gh : Nat → Nat → Nat} {S : hS} {J : zw_W} {r : List Int}, i < n → hRep g w0 σ gh (ssA S 49 q r) J → hat gh S 6 i a → hat gh S 49 q rb → fW S → fLn S → r.length = sn S 6 → sn S 6 ≤ 100 → r01 r →
    ∃ σ' : zS, zEnd g (n + 2) 18 [.ref a, .ref rb] σ (.inl none) σ' ∧ hRep g w0 σ' gh (ssA S 49 q (tReach (fch S) n i (r, c)).1) J ∧ kc σ σ' ((tReach (fch S) n i (r, c)).2 - c) (4 * ((tReach (fch S) n i (r, c)).2 - c)) := by
  intro n
  induction n with
  | zero => intro i a q rb c σ gh S J r hi; omega
  | succ n ih =>
    intro i a q rb c σ gh S J r hi H ha hq hW hN hlen h100 h01
    obtain ⟨w1, w2, w3⟩ := hW i ha.1
    have hil : i < r.length := by rw [hlen]; exact ha.1
    have hri := List.getElem?_eq_getElem hil
    obtain ⟨m, hm⟩ : ∃ m : Nat, sT S 6 3 i = m := ⟨(sT S 6 3 i).toNat, (Int.toNat_of_nonneg w2).symm⟩
    rw [hm, Int.toNat_natCast] at w3
    have hch : fch S i = (sE S 26 m).map (fun t => (sT S 7 0 t.toNat).toNat) := by unfold fch; rw [hm]; rfl
    have hgd : r.getD i 0 = r[i] := by rw [List.getD_eq_getElem?_getD, hri]; rfl
    have main : zW g (n + 1 + 2) 18 0 (lv_args 0 [.ref a, .ref rb]) [] σ (fun o σ' => o = .inl none ∧ hRep g w0 σ' gh (ssA S 49 q (tReach (fch S) (n + 1) i (r, c)).1) J ∧ kc σ σ' ((tReach (fch S) (n + 1) i (r, c)).2 - c) (4 * ((tReach (fch S) (n + 1) i (r, c)).2 - c))) := by
      unfold tReach
      simp only
      rw [hgd]
      refine zW_p 2 rfl ?_
      refine hW_get H rfl (show hat gh (ssA S 49 q r) 6 i a from ha) rfl rfl rfl ?_
      rw [show sT (ssA S 49 q r) 6 0 i = (i : Nat) from hN i ha.1]
      have eq49 : ∀ r, sE (ssA S 49 q r) 49 q = r := fun r => by rw [sE_ssA, if_pos ⟨rfl, rfl⟩]
      refine hW_bald (v := r[i]) H rfl (show hat gh (ssA S 49 q r) 49 q rb from hq) (by rw [eq49]; exact hri) (by omega) ?_
      rcases h01 r[i] (List.getElem_mem hil) with h0 | h1
      · rw [h0, if_pos rfl]
        refine zW_p 3 rfl ?_
        refine hW_get H rfl (show hat gh (ssA S 49 q r) 6 i a from ha) rfl rfl rfl ?_
        rw [show sT (ssA S 49 q r) 6 0 i = (i : Nat) from hN i ha.1]
        refine zW_p 1 rfl ?_
        refine hW_bast (v := 1) H rfl (show hat gh (ssA S 49 q r) 49 q rb from hq) (by rw [eq49]; exact hil) (by rw [eq49]; omega) rfl (fun σ1 H1 e1 => ?_)
        rw [eq49, ssA_ssA] at H1
        generalize hs0 : ((r.set i 1, c + 1) : List Int × Nat) = s0
        have e01 : s0.1 = r.set i 1 := by rw [← hs0]
        have e02 : s0.2 = c + 1 := by rw [← hs0]
        have k0 : s0.1.length = sn S 6 ∧ r01 s0.1 := by rw [e01]; exact ⟨by rw [List.length_set]; exact hlen, r01_set h01⟩
        rw [← e01] at H1
        have hat' : ∀ (r : List Int) {c' i' a' : Nat}, hat gh S c' i' a' → hat gh (ssA S 49 q r) c' i' a' := fun r c' i' a' h => h
        have e26 : ∀ r, sE (ssA S 49 q r) 26 m = sE S 26 m := fun r => by rw [sE_ssA, if_neg (by omega)]
        refine zW_p 1 rfl ?_
        refine hW_getr (j := m) H1 rfl (hat' _ ha) rfl rfl rfl hm (fun b1 hb1 => ?_)
        refine hW_iter H1 rfl rfl rfl hb1 rfl rfl rfl (by omega) (fun σ2 it hJ H2 k2 => ?_)
        refine zW_p 1 rfl ?_
        refine zW_lv ((2, .ref it) :: [(1, .ref rb)]) rfl ⟨rfl, rfl, trivial⟩ ?_
        refine hW_loop (c := 26) (i := m) (b := b1) (n := 7) (xs := sE S 26 m) (mc := Int32.ofInt (sM S 26 m)) (fun p lv κ gh' S' => lv = [(1, .ref rb)] ∧ gh' = gh ∧ S' = ssA S 49 q (((fch S i).take p).foldl (fun s y => tReach (fch S) n y s) s0).1 ∧ kd σ2.2 κ ((((fch S i).take p).foldl (fun s y => tReach (fch S) n y s) s0).2 - (c + 1)) (4 * ((((fch S i).take p).foldl (fun s y => tReach (fch S) n y s) s0).2 - (c + 1)))) hJ rfl rfl rfl (fun _ => rfl) rfl rfl rfl (fun _ => rfl) (fun _ => rfl) rfl rfl rfl (by omega) ?_ ?_ ?_ _ _ _ _ H2 ⟨rfl, rfl, by rw [List.take_zero, List.foldl_nil], by rw [List.take_zero, List.foldl_nil, e02, Nat.sub_self]; exact kd.rfl'⟩
        · rintro p lv κ gh' S' ⟨rfl, rfl, rfl, hk⟩
          exact ⟨hb1, e26 _, rfl⟩
        · rintro p y lv σ3 gh' S' J2 e hp hy ⟨rfl, rfl, rfl, hk⟩ H3 hd he hback
          have hyt : (y : Int) ∈ sE S 26 m := List.mem_of_getElem? hy
          obtain ⟨v1, v2, v3⟩ := w3 _ hyt
          rw [Int.toNat_natCast] at v2 v3
          obtain ⟨x, hx⟩ : ∃ x : Nat, sT S 7 0 y = x := ⟨(sT S 7 0 y).toNat, (Int.toNat_of_nonneg v2).symm⟩
          rw [hx] at v3
          have hcp : (fch S i)[p]? = some x := by
            rw [hch, List.getElem?_map, hy]
            simp only [Option.map_some, Int.toNat_natCast]
            rw [hx, Int.toNat_natCast]
          have hnx : ((fch S i).take (p + 1)).foldl (fun s y => tReach (fch S) n y s) s0 = tReach (fch S) n x (((fch S i).take p).foldl (fun s y => tReach (fch S) n y s) s0) := by
            rw [take_snoc hcp, List.foldl_append]
            rfl
          have hkp := rKeep_fold (f := fun s y => tReach (fch S) n y s) (fun s y => tReach_keep (fch S) n y s) ((fch S i).take p) s0
          generalize hsp : ((fch S i).take p).foldl (fun s y => tReach (fch S) n y s) s0 = sp at H3 hk hnx hkp he
          refine hW_cast H3 rfl he rfl rfl rfl ?_
          refine zW_p 2 rfl ?_
          refine hW_getr (j := x) H3 rfl he rfl rfl rfl hx (fun b2 hb2 => ?_)
          refine zW_p 1 rfl ?_
          obtain ⟨σ4, g4, H4, k4⟩ := ih (i := x) (a := b2) (q := q) (rb := rb) (c := sp.2) (r := sp.1) (by omega) H3 hb2 hq hW hN (by rw [hkp.1]; exact k0.1) h100 (hkp.2.1 k0.2)
          refine wS rfl rfl rfl rfl rfl rfl rfl rfl rfl g4 (by omega) ?_
          refine zW_p 1 rfl ?_
          refine zW_lv ((2, .ref it) :: [(1, .ref rb)]) rfl ⟨rfl, rfl, trivial⟩ ?_
          have hk2 := tReach_keep (fch S) n x sp
          have e5 : ((sp.1, sp.2) : List Int × Nat) = sp := rfl
          rw [e5] at H4 k4
          refine hback _ σ4 _ _ H4 ⟨rfl, rfl, by rw [hnx], ?_⟩
          rw [hnx]
          have h1 := hkp.2.2
          have h2 := hk2.2.2
          rw [e02] at h1
          exact (kd.trans hk k4.kd).mono (by omega) (by omega)
        · rintro lv σ3 gh' S' H3 ⟨rfl, rfl, rfl, hk⟩
          have hle : (sE S 26 m).length = (fch S i).length := by rw [hch, List.length_map]
          rw [hle, List.take_length] at H3 hk
          have h1 := (rKeep_fold (f := fun s y => tReach (fch S) n y s) (fun s y => tReach_keep (fch S) n y s) (fch S i) s0).2.2
          rw [e02] at h1
          refine wW_ret rfl rfl rfl rfl ⟨rfl, H3, ?_⟩
          exact (((kc.of e1).trans k2).trans hk.kc).mono (by omega) (by omega)
      · rw [h1, if_neg (by decide)]
        refine zW_p 1 rfl ?_
        refine wW_ret rfl rfl rfl rfl ⟨rfl, H, (kc.rfl').mono (by omega) (by omega)⟩
    obtain ⟨o, σ', h1, rfl, h2, h3⟩ := main
    exact ⟨σ', h1, h2, h3⟩
def fRch (S : hS) (o p : Nat) : List Int × Nat := ((sE S 27 (fDelL S o)).take p).foldl (fun s t => tReach (fch S) 100 (fLotOf S t) s) (List.replicate (sn S 6) 0, 0)
def fRc (S : hS) (o : Nat) : List Int × Nat := fRch S o (sE S 27 (fDelL S o)).length
theorem fRch_keep {S : hS} {o p : Nat} : (fRch S o p).1.length = sn S 6 ∧ r01 (fRch S o p).1 := by
  have h : rKeep (List.replicate (sn S 6) 0, 0) (fRch S o p) := by
    unfold fRch
    have key : ∀ (l : List Int) (s : List Int × Nat), rKeep s (l.foldl (fun s t => tReach (fch S) 100 (fLotOf S t) s) s) := by
      intro l
      induction l with
      | nil => intro s; exact rKeep.rfl'
      | cons x l ih => intro s; rw [List.foldl_cons]; exact (tReach_keep _ _ _ _).trans (ih _)
    exact key _ _
  exact ⟨by rw [h.1]; exact List.length_replicate, h.2.1 (fun x hx => Or.inl (List.eq_of_mem_replicate hx))⟩
/-- the state behind lotsInIt: one array more -/
def fLii (S : hS) (o : Nat) : hS := ssA (snw S 49 (List.replicate (sn S 6) 0)) 49 (sn S 49) (fRc S o).1
variable {σ : zS} {gh : Nat → Nat → Nat} {S : hS} {J : zw_W} {a b o : Nat}
theorem r01_sum {r : List Int} (h : r01 r) : ∀ p : Nat, 0 ≤ (r.take p).sum ∧ (r.take p).sum ≤ p := by
  intro p
  induction p with
  | zero => exact ⟨Int.le_refl _, Int.le_refl _⟩
  | succ p ih =>
    by_cases hp : p < r.length
    · rw [take_snoc (List.getElem?_eq_getElem hp), List.sum_append]
      simp only [List.sum_cons, List.sum_nil]
      rcases h _ (List.getElem_mem hp) with e | e <;> rw [e] <;> omega
    · rw [List.take_of_length_le (by omega)]
      rw [List.take_of_length_le (by omega)] at ih
      omega
theorem F_lotsInIt (H : hRep g w0 σ gh S J) (hF : fFix S) (hW : fW S) (hT : fTk S) (hN : fLn S) (ha : hat gh S 0 0 a) (hb : hat gh S 8 o b) (h6 : 0 ≤ sT S 8 6 o) :
    ∃ σ' : zS, zEnd g 103 17 [.ref a, .ref b] σ (.inl (some (iv (fRc S o).1.sum))) σ' ∧ ∃ ghx, gext S gh ghx ∧ hRep g w0 σ' ghx (fLii S o) J ∧ kc σ σ' (2 + (fRc S o).2) (sn S 6 + 4 + 4 * (fRc S o).2) := by
  have hFx := hF
  obtain ⟨f0, f1, f2, f3, f4, f5, f6, f7, f8, f9, fa, fb, fc, fd⟩ := hF
  have hm : sT S 8 6 o = (fDelL S o : Nat) := (Int.toNat_of_nonneg h6).symm
  have main : zW g 103 17 0 (lv_args 0 [.ref a, .ref b]) [] σ (fun r σ' => r = .inl (some (iv (fRc S o).1.sum)) ∧ ∃ ghx, gext S gh ghx ∧ hRep g w0 σ' ghx (fLii S o) J ∧ kc σ σ' (2 + (fRc S o).2) (sn S 6 + 4 + 4 * (fRc S o).2)) := by
    refine zW_p 1 rfl ?_
    refine hW_getr (j := 0) H rfl ha rfl rfl rfl f3 (fun b0 hb0 => ?_)
    refine hW_size H rfl rfl rfl hb0 rfl rfl rfl (by omega) ?_
    rw [f7, idl_len]
    refine hW_newZ H rfl (by omega) (fun σ1 rb H1 hrb k1 => ?_)
    generalize hX : snw S 49 (List.replicate (sn S 6) 0) = X at H1 hrb
    generalize hgx : ghw gh S 49 rb = gx at H1 hrb
    have x1 : gext S gh gx := by rw [← hgx]; exact gext_w gext_rfl (fun _ => Nat.le_refl _)
    have l1 : ∀ c, sn S c ≤ sn X c := fun c => by rw [← hX]; exact sn_w_le
    have xn : ∀ c, c ≠ 49 → sn X c = sn S c := fun c h => by rw [← hX, sn_w, if_neg h]
    have xT : ∀ c k i, c ≠ 49 → sT X c k i = sT S c k i := fun c k i h => by rw [← hX, sT_w, if_neg (fun e => h e.1)]
    have xE : ∀ c i, c ≠ 49 → sE X c i = sE S c i := fun c i h => by rw [← hX, sE_w, if_neg (fun e => h e.1)]
    have xM : ∀ c i, c ≠ 49 → sM X c i = sM S c i := fun c i h => by rw [← hX, sM_w, if_neg (fun e => h e.1)]
    have xch : fch X = fch S := by
      funext i
      unfold fch
      rw [xT 6 3 i (by decide), xE 26 _ (by decide)]
      exact List.map_congr_left (fun t _ => by rw [xT 7 0 _ (by decide)])
    have hWX : fW X := fW_of hW (xn 6 (by decide)) (fun i => xT 6 7 i (by decide)) (fun i => xT 6 3 i (by decide)) (fun m t ht => by rw [xE 26 m (by decide)] at ht; exact ht) (fun t => xT 7 0 t (by decide))
    have hNX : fLn X := fun i hi => by rw [xn 6 (by decide)] at hi; rw [xT 6 0 i (by decide)]; exact hN i hi
    have hself : ssA X 49 (sn S 49) (List.replicate (sn S 6) 0) = X := by
      rw [← hX]
      unfold ssA snw
      refine Prod.ext rfl (Prod.ext rfl (Prod.ext ?_ rfl))
      funext c i
      show (if c = 49 ∧ i = sn S 49 then _ else (if c = 49 ∧ i = sn S 49 then _ else _)) = (if c = 49 ∧ i = sn S 49 then _ else _)
      split <;> rfl
    have ha1 : hat gx X 0 0 a := x1.hat l1 ha
    have hb1 : hat gx X 8 o b := x1.hat l1 hb
    refine zW_p 2 rfl ?_
    refine hW_getr (j := fDelL S o) H1 rfl hb1 rfl rfl rfl (by rw [xT 8 6 o (by decide)]; exact hm) (fun b2 hb2 => ?_)
    refine hW_iter H1 rfl rfl rfl hb2 rfl rfl rfl (by omega) (fun σ2 it hJ H2 k2 => ?_)
    refine zW_p 1 rfl ?_
    refine zW_lv ((3, .ref it) :: [(2, .ref rb)]) rfl ⟨rfl, rfl, trivial⟩ ?_
    rw [← hself] at H2
    refine hW_loop (c := 27) (i := fDelL S o) (b := b2) (n := 7) (xs := sE S 27 (fDelL S o)) (mc := Int32.ofInt (sM X 27 (fDelL S o))) (fun p lv κ gh' S' => lv = [(2, .ref rb)] ∧ gh' = gx ∧ S' = ssA X 49 (sn S 49) (fRch S o p).1 ∧ kd σ2.2 κ (fRch S o p).2 (4 * (fRch S o p).2)) hJ rfl rfl rfl (fun _ => rfl) rfl rfl rfl (fun _ => rfl) (fun _ => rfl) rfl rfl rfl (by omega) ?_ ?_ ?_ _ _ _ _ H2 ⟨rfl, rfl, rfl, kd.rfl'⟩
    · rintro p lv κ gh' S' ⟨rfl, rfl, rfl, hk⟩
      exact ⟨hb2, by rw [sE_ssA, if_neg (by omega)]; exact xE 27 _ (by decide), rfl⟩
    · rintro p y lv σ3 gh' S' J2 e hp hy ⟨rfl, rfl, rfl, hk⟩ H3 hd he hback
      have hy7 : y < sn S 7 := by have := he.1; rw [sn_ssA, xn 7 (by decide)] at this; exact this
      obtain ⟨x, hx⟩ : ∃ x : Nat, sT S 7 0 y = x := ⟨(sT S 7 0 y).toNat, (Int.toNat_of_nonneg (hT y hy7)).symm⟩
      have hnx : fRch S o (p + 1) = tReach (fch S) 100 x (fRch S o p) := by
        unfold fRch
        rw [take_snoc hy, List.foldl_append]
        simp only [List.foldl_cons, List.foldl_nil]
        unfold fLotOf
        rw [Int.toNat_natCast, hx, Int.toNat_natCast]
      refine hW_cast H3 rfl he rfl rfl rfl ?_
      refine zW_p 2 rfl ?_
      refine hW_getr (j := x) H3 rfl he rfl rfl rfl ((xT 7 0 y (by decide)).trans hx) (fun b3 hb3 => ?_)
      refine zW_p 1 rfl ?_
      have hx6 : x < sn S 6 := by have := hb3.1; rw [sn_ssA, xn 6 (by decide)] at this; exact this
      obtain ⟨kl, k01⟩ := fRch_keep (S := S) (o := o) (p := p)
      obtain ⟨σ4, g4, H4, k4⟩ := F_reach (S := X) 100 (i := x) (a := b3) (q := sn S 49) (rb := rb) (c := (fRch S o p).2) (r := (fRch S o p).1) (by omega) H3 hb3 hrb hWX hNX (by rw [kl, xn 6 (by decide)]) (by rw [xn 6 (by decide)]; exact fa) k01
      rw [xch] at H4 k4
      have e5 : (((fRch S o p).1, (fRch S o p).2) : List Int × Nat) = fRch S o p := rfl
      rw [e5, ← hnx] at H4 k4
      have hge : (fRch S o p).2 ≤ (fRch S o (p + 1)).2 := by rw [hnx]; exact (tReach_keep _ _ _ _).2.2
      refine wS rfl rfl rfl rfl rfl rfl rfl rfl rfl g4 (by omega) ?_
      refine zW_p 1 rfl ?_
      refine zW_lv ((3, .ref it) :: [(2, .ref rb)]) rfl ⟨rfl, rfl, trivial⟩ ?_
      exact hback _ σ4 _ _ H4 ⟨rfl, rfl, rfl, (kd.trans hk k4.kd).mono (by omega) (by omega)⟩
    · rintro lv σ3 gh' S' H3 ⟨rfl, rfl, rfl, hk⟩
      have hfin : fRch S o (sE S 27 (fDelL S o)).length = fRc S o := rfl
      rw [hfin] at H3 hk
      obtain ⟨kl, k01⟩ := fRch_keep (S := S) (o := o) (p := (sE S 27 (fDelL S o)).length)
      rw [hfin] at kl k01
      have hZ : ssA X 49 (sn S 49) (fRc S o).1 = fLii S o := by rw [← hX]; rfl
      have e49 : sE (ssA X 49 (sn S 49) (fRc S o).1) 49 (sn S 49) = (fRc S o).1 := by rw [sE_ssA, if_pos ⟨rfl, rfl⟩]
      have hrb3 : hat gh' (ssA X 49 (sn S 49) (fRc S o).1) 49 (sn S 49) rb := hrb
      have kk : kc σ σ3 (2 + (fRc S o).2) (sn S 6 + 4 + 4 * (fRc S o).2) := ((k1.trans k2).trans hk.kc).mono (by omega) (by omega)
      -- the loop that counts
      have loop : ∀ (q p : Nat), p + q = sn S 6 → zW g 103 17 63 [(3, iv ((fRc S o).1.take p).sum), (4, .ref rb), (5, iv (sn S 6)), (6, iv p)] [] σ3 (fun r σ' => r = .inl (some (iv (fRc S o).1.sum)) ∧ ∃ ghx, gext S gh ghx ∧ hRep g w0 σ' ghx (fLii S o) J ∧ kc σ σ' (2 + (fRc S o).2) (sn S 6 + 4 + 4 * (fRc S o).2)) := by
        intro q
        induction q with
        | zero =>
          intro p hp
          refine zW_p 2 rfl ?_
          refine zW_t rfl rfl ((I_le ⟨by omega, by omega⟩ ⟨by omega, by omega⟩).mpr (by omega)) ?_
          refine zW_p 1 rfl ?_
          have et : (fRc S o).1.take p = (fRc S o).1 := List.take_of_length_le (by omega)
          rw [et]
          refine zW_reti rfl rfl rfl ⟨rfl, gh', x1, ?_, kk⟩
          rw [← hZ]
          exact H3
        | succ q ih =>
          intro p hp
          have hpl : p < (fRc S o).1.length := by omega
          have hpe := List.getElem?_eq_getElem hpl
          refine zW_p 2 rfl ?_
          refine zW_f rfl rfl (fun e => by have := (I_le ⟨by omega, by omega⟩ ⟨by omega, by omega⟩).mp e; omega) ?_
          refine zW_p 2 rfl ?_
          refine hW_bald (v := (fRc S o).1[p]) H3 rfl hrb3 (by rw [e49]; exact hpe) (by omega) ?_
          have hsum : ((fRc S o).1.take (p + 1)).sum = ((fRc S o).1.take p).sum + (fRc S o).1[p] := by
            rw [take_snoc hpe, List.sum_append]
            simp
          have next : ∀ lv : zp_L, lvok [(3, iv ((fRc S o).1.take (p + 1)).sum), (4, .ref rb), (5, iv (sn S 6)), (6, iv p)] lv → zW g 103 17 90 lv [] σ3 (fun r σ' => r = .inl (some (iv (fRc S o).1.sum)) ∧ ∃ ghx, gext S gh ghx ∧ hRep g w0 σ' ghx (fLii S o) J ∧ kc σ σ' (2 + (fRc S o).2) (sn S 6 + 4 + 4 * (fRc S o).2)) := by
            intro lv hlv
            refine zW_ly hlv rfl ?_
            refine zW_p 1 rfl ?_
            rw [I_add]
            refine zW_p 1 rfl ?_
            refine zW_lv [(3, iv ((fRc S o).1.take (p + 1)).sum), (4, .ref rb), (5, iv (sn S 6)), (6, iv ((p + 1 : Nat) : Int))] rfl ⟨rfl, rfl, rfl, rfl, trivial⟩ ?_
            exact ih (p + 1) (by omega)
          rcases k01 _ (List.getElem_mem hpl) with h0 | h1
          · rw [h0] at hsum ⊢
            refine zW_p 6 rfl ?_
            rw [I_add]
            refine zW_p 1 rfl ?_
            exact next _ ⟨by rw [hsum]; rfl, rfl, rfl, rfl, trivial⟩
          · rw [h1] at hsum ⊢
            refine zW_p 7 rfl ?_
            rw [I_add]
            refine zW_p 1 rfl ?_
            exact next _ ⟨by rw [hsum]; rfl, rfl, rfl, rfl, trivial⟩
      refine zW_p 5 rfl ?_
      refine hW_alen H3 rfl hrb3 rfl rfl ?_
      rw [e49, kl]
      refine zW_p 3 rfl ?_
      refine zW_lv [(3, iv ((fRc S o).1.take 0).sum), (4, .ref rb), (5, iv (sn S 6)), (6, iv (0 : Nat))] rfl ⟨rfl, rfl, rfl, rfl, trivial⟩ ?_
      exact loop (sn S 6) 0 (by omega)
  obtain ⟨r, σ', h1, rfl, h2⟩ := main
  exact ⟨σ', h1, h2⟩
theorem F_lotsIn (H : hRep g w0 σ gh S J) (hF : fFix S) (hW : fW S) (hT : fTk S) (hN : fLn S) (hO : fOrd z S) (ha : hat gh S 0 0 a) (ho : o < sn S 8) :
    ∃ σ' : zS, zEnd g 104 184 [.ref a, iv o] σ (.inl (some (iv (fRc S o).1.sum))) σ' ∧ ∃ ghx, gext S gh ghx ∧ hRep g w0 σ' ghx (fLii S o) J ∧ kc σ σ' (2 + (fRc S o).2) (sn S 6 + 4 + 4 * (fRc S o).2) := by
  obtain ⟨b, hb, g1⟩ := F_theOrder H hF ha ho
  have main : zW g 104 184 0 (lv_args 0 [.ref a, iv o]) [] σ (fun r σ' => r = .inl (some (iv (fRc S o).1.sum)) ∧ ∃ ghx, gext S gh ghx ∧ hRep g w0 σ' ghx (fLii S o) J ∧ kc σ σ' (2 + (fRc S o).2) (sn S 6 + 4 + 4 * (fRc S o).2)) := by
    refine zW_p 3 rfl ?_
    refine wV rfl rfl rfl rfl rfl rfl rfl (H.rc ha rfl rfl) g1 (by omega) ?_
    obtain ⟨σ1, g2, h2⟩ := F_lotsInIt H hF hW hT hN ha hb (hO o ho).2.2.1
    refine wV rfl rfl rfl rfl rfl rfl rfl (H.rc ha rfl rfl) g2 (by omega) ?_
    exact zW_reti rfl rfl rfl ⟨rfl, h2⟩
  obtain ⟨r, σ', h1, rfl, h2⟩ := main
  exact ⟨σ', h1, h2⟩
end ZRE
