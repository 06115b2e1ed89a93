/-! Foundrymark.reserve -/
set_option maxRecDepth 100000
def imin (x y : Int) : Int := if x < y then x else y
def fPnum (S : hS) (l : Nat) : Int := sT S (2 + fLp S l % 2) 0 (fLp S l / 2)
def fThere (S : hS) (pt left : Int) (l : Nat) : Int := if fPnum S l = pt ∧ tHeld (fh S) (fch S) 100 l = false then imin left (sT S 6 4 l - sT S 6 5 l) else 0
def fTakeS (S : hS) (m l : Nat) (t : Int) : hS := ssE (kFTaken (snw (sset S 6 5 l (sT S 6 5 l + t)) 7 []) (sn S 7) t l) 26 m (sE S 26 m ++ [(sn S 7 : Int)])
def fWalk (S : hS) (pt : Int) (l : Nat) : Nat := if fPnum S l = pt then tN (fch S) 100 l else 0
abbrev fRst : Type := hS × Int × Nat × Nat
def fResStep (m : Nat) (pt : Int) (s : fRst) (l : Nat) : fRst := if 0 < fThere s.1 pt s.2.1 l then (fTakeS s.1 m l (fThere s.1 pt s.2.1 l), s.2.1 - fThere s.1 pt s.2.1 l, s.2.2.1 + fWalk s.1 pt l + 2, s.2.2.2 + 4 * fWalk s.1 pt l + (2 * (sE s.1 26 m).length + 20)) else (s.1, s.2.1, s.2.2.1 + fWalk s.1 pt l, s.2.2.2 + 4 * fWalk s.1 pt l)
def fResN (S : hS) (m : Nat) (pt n : Int) (k : Nat) : fRst := (List.range k).foldl (fResStep m pt) (S, n, 1, 4)
theorem fResN_succ {S : hS} {m : Nat} {pt n : Int} {k : Nat} : fResN S m pt n (k + 1) = fResStep m pt (fResN S m pt n k) k := by
  unfold fResN
  rw [List.range_succ, List.foldl_append]
  rfl
/-- what is there: reserved pieces are at most the rest -/
def fAv (S : hS) : Prop := ∀ l : Nat, l < sn S 6 → 0 ≤ sT S 6 5 l ∧ sT S 6 5 l ≤ sT S 6 4 l ∧ sT S 6 4 l ≤ 500 ∧ 0 ≤ sT S 6 1 l ∧ rg (fPnum S l)
/-- the order's list isn't a lot's -/
def fSep (S : hS) (m : Nat) : Prop := ∀ i : Nat, i < sn S 6 → sT S 6 3 i ≠ (m : Nat)
section ZRS
variable {g : zG} {w0 : hG} {z : Nat → Nat} {σ : zS} {gh : Nat → Nat → Nat} {S T : hS} {J : zw_W} {a b o m l : Nat} {t pt n : Int}
theorem fTakeS_sn {c : Nat} : sn (fTakeS S m l t) c = if c = 7 then sn S 7 + 1 else sn S c := by
  unfold fTakeS kFTaken
  rw [sn_ssE, sn_set, sn_set, sn_w]
  rfl
theorem fTakeS_sT {c k i : Nat} (h7 : c ≠ 7) : sT (fTakeS S m l t) c k i = if c = 6 ∧ k = 5 ∧ i = l then sT S 6 5 l + t else sT S c k i := by
  unfold fTakeS kFTaken
  rw [sT_ssE, sT_set, if_neg (fun e => h7 e.1), sT_set, if_neg (fun e => h7 e.1), sT_w, if_neg (fun e => h7 e.1), sT_set]
theorem fTakeS_sT7 {k i : Nat} (hi : i < sn S 7) : sT (fTakeS S m l t) 7 k i = sT S 7 k i := by
  unfold fTakeS kFTaken
  rw [sT_ssE, sT_set, if_neg (by omega), sT_set, if_neg (by omega), sT_w, if_neg (fun e => by have := e.2; rw [sn_set] at this; omega), sT_set, if_neg (by omega)]
theorem fTakeS_new0 : sT (fTakeS S m l t) 7 0 (sn S 7) = (l : Nat) := by
  unfold fTakeS kFTaken
  rw [sT_ssE, sT_set, if_neg (by omega), sT_set, if_pos ⟨rfl, rfl, rfl⟩]
theorem fTakeS_new1 : sT (fTakeS S m l t) 7 1 (sn S 7) = t := by
  unfold fTakeS kFTaken
  rw [sT_ssE, sT_set, if_pos ⟨rfl, rfl, rfl⟩]
theorem fTakeS_sE {c i : Nat} : sE (fTakeS S m l t) c i = if c = 26 ∧ i = m then sE S 26 m ++ [(sn S 7 : Int)] else if c = 7 ∧ i = sn S 7 then [] else sE S c i := by
  unfold fTakeS kFTaken
  rw [sE_ssE, sE_set, sE_set, sE_w]
  rfl
theorem fTakeS_sM {c i : Nat} (h : c ≠ 26) (h7 : c ≠ 7) : sM (fTakeS S m l t) c i = sM S c i := by
  unfold fTakeS kFTaken
  rw [sM_ssE, if_neg (fun e => h e.1), sM_set, sM_set, sM_w, if_neg (fun e => h7 e.1), sM_set]
def fResI (S T : hS) (m : Nat) : Prop := fW T ∧ fAv T ∧ fTk T ∧ fSep T m ∧ (∀ c, c ≠ 7 → sn T c = sn S c) ∧ sn S 7 ≤ sn T 7 ∧ (∀ c i, c ≠ 7 → ¬ (c = 26 ∧ i = m) → sE T c i = sE S c i) ∧ (∀ c i, c ≠ 7 → c ≠ 26 → sM T c i = sM S c i) ∧ (∀ c k i, c ≠ 7 → ¬ (c = 6 ∧ k = 5) → sT T c k i = sT S c k i)
theorem fch_take (H : hRep g w0 σ gh S J) (hW : fW S) (hs : fSep S m) {i : Nat} (hi : i < sn S 6) : sE (fTakeS S m l t) 26 (sT S 6 3 i).toNat = sE S 26 (sT S 6 3 i).toNat ∧ ∀ u ∈ sE S 26 (sT S 6 3 i).toNat, sT (fTakeS S m l t) 7 0 u.toNat = sT S 7 0 u.toNat := by
  obtain ⟨w1, w2, w3⟩ := hW i hi
  have hm : ¬ (26 = 26 ∧ (sT S 6 3 i).toNat = m) := fun e => hs i hi (by rw [← e.2, Int.toNat_of_nonneg w2])
  refine ⟨by rw [fTakeS_sE, if_neg hm, if_neg (by omega)], fun u hu => ?_⟩
  have hl := H.2.2.2.2.1 6 i 3 66 (by decide) hi rfl
  have h26 : (sT S 6 3 i).toNat < sn S 26 := ((hl w2).2 26 rfl)
  have hu0 := (w3 u hu).1
  have := ((H.2.2.2.2.2.1 26 _ (by decide) h26 u hu) hu0).2 7 rfl
  exact fTakeS_sT7 this
theorem fResI_take (H : hRep g w0 σ gh T J) (h : fResI S T m) (hl : l < sn T 6) (ht : 0 ≤ t) (ht2 : sT T 6 5 l + t ≤ sT T 6 4 l) : fResI S (fTakeS T m l t) m := by
  obtain ⟨h1, h2, h3, h4, h5, h6, h7, h8, h9⟩ := h
  have eT : ∀ c k i, c ≠ 7 → ¬ (c = 6 ∧ k = 5) → sT (fTakeS T m l t) c k i = sT T c k i := fun c k i hc hk => by rw [fTakeS_sT hc, if_neg (fun e => hk ⟨e.1, e.2.1⟩)]
  have ePn : ∀ i, fPnum (fTakeS T m l t) i = fPnum T i := fun i => by
    unfold fPnum fLp
    rw [eT 6 1 i (by decide) (by omega), eT _ _ _ (by omega) (by omega)]
  refine ⟨?_, ?_, ?_, ?_, ?_, ?_, ?_, ?_, ?_⟩
  · intro i hi
    rw [fTakeS_sn, if_neg (by decide)] at hi
    obtain ⟨w1, w2, w3⟩ := h1 i hi
    obtain ⟨q1, q2⟩ := fch_take (l := l) (t := t) H h1 h4 hi
    rw [eT 6 7 i (by decide) (by omega), eT 6 3 i (by decide) (by omega), q1]
    refine ⟨w1, w2, fun u hu => ?_⟩
    rw [q2 u hu]
    exact w3 u hu
  · intro i hi
    rw [fTakeS_sn, if_neg (by decide)] at hi
    obtain ⟨v1, v2, v3, v4, v5⟩ := h2 i hi
    rw [ePn, eT 6 4 i (by decide) (by omega), eT 6 1 i (by decide) (by omega), fTakeS_sT (by decide)]
    by_cases e : i = l
    · subst e
      rw [if_pos ⟨rfl, rfl, rfl⟩]
      exact ⟨by omega, ht2, v3, v4, v5⟩
    · rw [if_neg (by omega)]
      exact ⟨v1, v2, v3, v4, v5⟩
  · intro u hu
    rw [fTakeS_sn, if_pos rfl] at hu
    by_cases e : u = sn T 7
    · rw [e, fTakeS_new0]; omega
    · rw [fTakeS_sT7 (by omega)]
      exact h3 u (by omega)
  · intro i hi
    rw [fTakeS_sn, if_neg (by decide)] at hi
    rw [eT 6 3 i (by decide) (by omega)]
    exact h4 i hi
  · intro c hc
    rw [fTakeS_sn, if_neg hc]
    exact h5 c hc
  · rw [fTakeS_sn, if_pos rfl]; omega
  · intro c i hc hi
    rw [fTakeS_sE, if_neg hi, if_neg (fun e => hc e.1)]
    exact h7 c i hc hi
  · intro c i hc hc2
    rw [fTakeS_sM hc2 hc]
    exact h8 c i hc hc2
  · intro c k i hc hk
    rw [eT c k i hc hk]
    exact h9 c k i hc hk
theorem F_reserve (H : hRep g w0 σ gh S J) (hF : fFix S) (hW : fW S) (hA : fAv S) (hT : fTk S) (hm : sT S 8 5 o = (m : Nat)) (hSp : fSep S m) (ha : hat gh S 0 0 a) (hb : hat gh S 8 o b) (hpt : rg pt) (hn : 0 ≤ n ∧ n ≤ 900) (hlen : (sE S 26 m).length ≤ 1000) :
    zM g 104 114 [.ref a, .ref b, iv pt, iv n] σ (fun r σ' => r = (if 0 < (fResN S m pt n (sn S 6)).2.1 then .inr "Foundrymark$Lack" else .inl none) ∧ (fResI S (fResN S m pt n (sn S 6)).1 m) ∧ (0 ≤ (fResN S m pt n (sn S 6)).2.1 ∧ (fResN S m pt n (sn S 6)).2.1 ≤ n) ∧ (sE (fResN S m pt n (sn S 6)).1 26 m).length ≤ (sE S 26 m).length + sn S 6 ∧ ∃ ghx, gext S gh ghx ∧ hRep g w0 σ' ghx (fResN S m pt n (sn S 6)).1 J ∧ kc σ σ' ((fResN S m pt n (sn S 6)).2.2.1 + (if 0 < (fResN S m pt n (sn S 6)).2.1 then 1 else 0)) ((fResN S m pt n (sn S 6)).2.2.2 + (if 0 < (fResN S m pt n (sn S 6)).2.1 then 6 else 0))) := by
  have hF2 := hF
  obtain ⟨f0, f1, f2, f3, f4, f5, f6, f7, f8, f9, fa, fb, fc, fd⟩ := hF
  refine zW_p 3 rfl ?_
  refine hW_getr H rfl ha rfl rfl rfl f3 (fun b0 hb0 => ?_)
  refine hW_iter H rfl rfl rfl hb0 rfl rfl rfl (by omega) (fun σ1 it hJ H1 k1 => ?_)
  refine zW_p 1 rfl ?_
  refine zW_lv ((5, .ref it) :: [(0, .ref a), (1, .ref b), (2, iv pt), (4, iv (fResN S m pt n 0).2.1)]) rfl ⟨rfl, rfl, rfl, rfl, rfl, trivial⟩ ?_
  refine hW_loop (c := 22) (i := 0) (b := b0) (n := 6) (xs := sE S 22 0) (mc := Int32.ofInt (sM S 22 0)) (fun p lv κ gh' S' => lv = [(0, .ref a), (1, .ref b), (2, iv pt), (4, iv (fResN S m pt n p).2.1)] ∧ gext S gh gh' ∧ S' = (fResN S m pt n p).1 ∧ fResI S S' m ∧ (0 ≤ (fResN S m pt n p).2.1 ∧ (fResN S m pt n p).2.1 ≤ n) ∧ (sE S' 26 m).length ≤ (sE S 26 m).length + p ∧ kd σ.2 κ (fResN S m pt n p).2.2.1 (fResN S m pt n p).2.2.2) hJ rfl rfl rfl (fun _ => rfl) rfl rfl rfl (fun _ => rfl) (fun _ => rfl) rfl rfl rfl (by omega) ?_ ?_ ?_ _ _ _ _ H1 ⟨rfl, gext_rfl, rfl, ⟨hW, hA, hT, hSp, fun _ _ => rfl, Nat.le_refl _, fun _ _ _ _ => rfl, fun _ _ _ _ => rfl, fun _ _ _ _ _ => rfl⟩, ⟨hn.1, Int.le_refl n⟩, Nat.le_refl _, k1⟩
  · rintro p lv κ gh' S' ⟨rfl, hx, hS', hi, hle, hlen2, hk⟩
    obtain ⟨i1, i2, i3, i4, i5, i6, i7, i8, i9⟩ := hi
    exact ⟨hx.hat (fun c => by by_cases e : c = 7; rw [e]; exact i6; rw [i5 c e]; exact Nat.le_refl _) hb0, i7 _ _ (by decide) (by omega), by rw [i8 _ _ (by decide) (by decide)]⟩
  · rintro p y lv σ2 gh' S' J2 e hp hy ⟨rfl, hx, hS', hi, hle, hlen2, hk⟩ H2 hd he hback
    rw [f7, idl_len] at hp
    rw [f7, idl_at hp] at hy
    obtain rfl : p = y := by have := Option.some.inj hy; omega
    have hs : fResN S m pt n (p + 1) = fResStep m pt (fResN S m pt n p) p := fResN_succ
    generalize hL : fResN S m pt n p = L at hS' hle hk hs
    obtain ⟨T, lf, ct, sl⟩ := L
    simp only at hS' hle hk hs
    subst hS'
    obtain ⟨i1, i2, i3, i4, i5, i6, i7, i8, i9⟩ := hi
    have hi' : fResI S S' m := ⟨i1, i2, i3, i4, i5, i6, i7, i8, i9⟩
    have leS : ∀ c, sn S c ≤ sn S' c := fun c => by by_cases e : c = 7; rw [e]; exact i6; rw [i5 c e]; exact Nat.le_refl _
    have hbx : hat gh' S' 8 o b := hx.hat leS hb
    obtain ⟨v1, v2, v3, v4, v5⟩ := i2 p he.1
    have hyp : sT S' 6 1 p = (fLp S' p : Nat) := (Int.toNat_of_nonneg v4).symm
    have hp100 : p < 100 := by omega
    -- on to the next lot
    have back : ∀ (σ5 : zS) (gh5 : Nat → Nat → Nat) (S5 : hS) (lf5 : Int) (lv : zp_L), hRep g w0 σ5 gh5 S5 J2 → gext S gh gh5 → fResI S S5 m → (sE S5 26 m).length ≤ (sE S 26 m).length + (p + 1) → S5 = (fResN S m pt n (p + 1)).1 → lf5 = (fResN S m pt n (p + 1)).2.1 → (0 ≤ lf5 ∧ lf5 ≤ n) → kd σ.2 σ5.2 (fResN S m pt n (p + 1)).2.2.1 (fResN S m pt n (p + 1)).2.2.2 → lvok ((5, .ref it) :: [(0, .ref a), (1, .ref b), (2, iv pt), (4, iv lf5)]) lv → zW g 104 114 12 lv [] σ5 (fun r σ' => r = (if 0 < (fResN S m pt n (sn S 6)).2.1 then .inr "Foundrymark$Lack" else .inl none) ∧ (fResI S (fResN S m pt n (sn S 6)).1 m) ∧ (0 ≤ (fResN S m pt n (sn S 6)).2.1 ∧ (fResN S m pt n (sn S 6)).2.1 ≤ n) ∧ (sE (fResN S m pt n (sn S 6)).1 26 m).length ≤ (sE S 26 m).length + sn S 6 ∧ ∃ ghx, gext S gh ghx ∧ hRep g w0 σ' ghx (fResN S m pt n (sn S 6)).1 J ∧ kc σ σ' ((fResN S m pt n (sn S 6)).2.2.1 + (if 0 < (fResN S m pt n (sn S 6)).2.1 then 1 else 0)) ((fResN S m pt n (sn S 6)).2.2.2 + (if 0 < (fResN S m pt n (sn S 6)).2.1 then 6 else 0))) := by
      intro σ5 gh5 S5 lf5 lv H5 gx5 hi5 hl5 hS5 hlf5 hle5 hk5 hlv
      refine zW_ly hlv rfl ?_
      exact hback _ σ5 _ _ H5 ⟨by rw [hlf5], gx5, hS5, hi5, by rw [← hlf5]; exact hle5, hl5, hk5⟩
    have J1 : ∀ (th : Int) (σ3 : zS) (lv : zp_L), hRep g w0 σ3 gh' S' J2 → th = fThere S' pt lf p → kd σ2.2 σ3.2 (fWalk S' pt p) (4 * fWalk S' pt p) → lvok [(0, .ref a), (1, .ref b), (2, iv pt), (4, iv lf), (5, .ref it), (6, .ref e)] lv → zW g 104 114 74 lv [iv th] σ3 (fun r σ' => r = (if 0 < (fResN S m pt n (sn S 6)).2.1 then .inr "Foundrymark$Lack" else .inl none) ∧ (fResI S (fResN S m pt n (sn S 6)).1 m) ∧ (0 ≤ (fResN S m pt n (sn S 6)).2.1 ∧ (fResN S m pt n (sn S 6)).2.1 ≤ n) ∧ (sE (fResN S m pt n (sn S 6)).1 26 m).length ≤ (sE S 26 m).length + sn S 6 ∧ ∃ ghx, gext S gh ghx ∧ hRep g w0 σ' ghx (fResN S m pt n (sn S 6)).1 J ∧ kc σ σ' ((fResN S m pt n (sn S 6)).2.2.1 + (if 0 < (fResN S m pt n (sn S 6)).2.1 then 1 else 0)) ((fResN S m pt n (sn S 6)).2.2.2 + (if 0 < (fResN S m pt n (sn S 6)).2.1 then 6 else 0))) := by
      intro th σ3 lv H3 hth hk3 hlv
      refine zW_ly hlv rfl ?_
      unfold fResStep at hs
      simp only at hs
      rw [← hth] at hs
      have hthr : th ≤ lf ∧ (0 < th → th ≤ sT S' 6 4 p - sT S' 6 5 p) := by
        rw [hth]; unfold fThere imin
        repeat' split
        all_goals omega
      have hthr2 : -900 ≤ th := by
        rw [hth]; unfold fThere imin
        repeat' split
        all_goals omega
      refine zW_p 2 rfl ?_
      by_cases h0 : 0 < th
      · rw [if_pos h0] at hs
        refine zW_f rfl rfl (fun q => by have := (I_le0 ⟨by omega, by omega⟩).mp q; omega) ?_
        refine zW_p 2 rfl ?_
        refine hW_get H3 rfl he rfl rfl rfl ?_
        refine zW_p 2 rfl ?_
        rw [I_add]
        refine hW_put (v := sT S' 6 5 p + th) H3 rfl he rfl rfl rfl (Or.inl rfl) rfl rfl rfl alv0 (fun e => absurd e (by decide)) (fun σ4 H4 e4 => ?_)
        refine zW_p 3 rfl ?_
        rw [I_sub]
        refine zW_p 2 rfl ?_
        have hm' : sT S' 8 5 o = (m : Nat) := by rw [i9 _ _ _ (by decide) (by omega)]; exact hm
        refine hW_getr (j := m) H4 rfl (show hat gh' (sset S' 6 5 p (sT S' 6 5 p + th)) 8 o b from hbx) rfl rfl rfl (by rw [sT_set, if_neg (by omega)]; exact hm') (fun b5 hb5 => ?_)
        refine hW_new H4 rfl rfl rfl rfl rfl rfl (fun σ5 b6 H5 hb6 k5 => ?_)
        refine zW_p 3 rfl ?_
        have he5 : hat (ghw gh' (sset S' 6 5 p (sT S' 6 5 p + th)) 7 b6) (snw (sset S' 6 5 p (sT S' 6 5 p + th)) 7 []) 6 p e := hat.old (hat.set he)
        obtain ⟨σ6, g6, ghx, x6, H6, k6⟩ := F_newTaken (q := th) H5 hb6 he5
        refine wI rfl rfl rfl rfl rfl rfl rfl rfl rfl g6 (by omega) ?_
        have hb6x : hat ghx (kFTaken (snw (sset S' 6 5 p (sT S' 6 5 p + th)) 7 []) (sn S' 7) th p) 7 (sn S' 7) b6 := x6.hat (fun _ => Nat.le_refl _) hb6
        have hb5x : hat ghx (kFTaken (snw (sset S' 6 5 p (sT S' 6 5 p + th)) 7 []) (sn S' 7) th p) 26 m b5 := x6.hat (fun _ => Nat.le_refl _) hb5.old
        have eL : sE (kFTaken (snw (sset S' 6 5 p (sT S' 6 5 p + th)) 7 []) (sn S' 7) th p) 26 m = sE S' 26 m := rfl
        have H6' : hRep g w0 σ6 ghx (kFTaken (snw (sset S' 6 5 p (sT S' 6 5 p + th)) 7 []) (sn S' 7) th p) J2 := H6
        refine hW_add (x := (sn S' 7 : Int)) H6' rfl rfl rfl hb5x rfl rfl rfl (elrepR hb6x) (alvR hb6x.1) (by rw [eL]; omega) rfl (by omega) (fun σ7 H7 k7 => ?_)
        rw [eL] at H7 k7
        have H7' : hRep g w0 σ7 ghx (fTakeS S' m p th) J2 := H7
        refine zW_p 2 rfl ?_
        have gx : gext S gh ghx := gext.trans (gext.trans hx (gext_w gext_rfl (fun _ => Nat.le_refl _)) leS) x6 (fun c => Nat.le_trans (leS c) (sn_w_le (xs := [])))
        refine back σ7 ghx (fTakeS S' m p th) (lf - th) _ H7' gx (fResI_take H3 hi' he.1 (by omega) (by omega)) ?_ (by rw [hs]) (by rw [hs]) ⟨by omega, by omega⟩ ?_ ⟨rfl, rfl, rfl, rfl, rfl, trivial⟩
        · rw [fTakeS_sE, if_pos ⟨rfl, rfl⟩, List.length_append]
          simp only [List.length_cons, List.length_nil]
          omega
        · rw [hs]
          exact (((((hk.trans hk3).trans (kc.of e4)).trans k5).trans k6).trans k7).mono (by show _ ≤ ct + fWalk S' pt p + 2; omega) (by show _ ≤ sl + 4 * fWalk S' pt p + (2 * (sE S' 26 m).length + 20); omega)
      · rw [if_neg h0] at hs
        refine zW_t rfl rfl ((I_le0 ⟨by omega, by omega⟩).mpr (by omega)) ?_
        refine zW_p 1 rfl ?_
        exact back σ3 gh' S' lf _ H3 hx hi' (by omega) (by rw [hs]) (by rw [hs]) hle (by rw [hs]; exact hk.trans hk3) ⟨rfl, rfl, rfl, rfl, rfl, trivial⟩
    have key : ∀ lv : zp_L, lvok [(0, .ref a), (1, .ref b), (2, iv pt), (4, iv lf), (5, .ref it), (6, .ref e)] lv → zW g 104 114 42 lv [iv (fPnum S' p)] σ2 (fun r σ' => r = (if 0 < (fResN S m pt n (sn S 6)).2.1 then .inr "Foundrymark$Lack" else .inl none) ∧ (fResI S (fResN S m pt n (sn S 6)).1 m) ∧ (0 ≤ (fResN S m pt n (sn S 6)).2.1 ∧ (fResN S m pt n (sn S 6)).2.1 ≤ n) ∧ (sE (fResN S m pt n (sn S 6)).1 26 m).length ≤ (sE S 26 m).length + sn S 6 ∧ ∃ ghx, gext S gh ghx ∧ hRep g w0 σ' ghx (fResN S m pt n (sn S 6)).1 J ∧ kc σ σ' ((fResN S m pt n (sn S 6)).2.2.1 + (if 0 < (fResN S m pt n (sn S 6)).2.1 then 1 else 0)) ((fResN S m pt n (sn S 6)).2.2.2 + (if 0 < (fResN S m pt n (sn S 6)).2.1 then 6 else 0))) := by
      intro lv hlv
      refine zW_ly hlv rfl ?_
      refine zW_p 1 rfl ?_
      by_cases c1 : fPnum S' p = pt
      · refine zW_f rfl rfl (fun q => q (by rw [c1])) ?_
        refine zW_p 1 rfl ?_
        obtain ⟨σ3, g3, H3, k3⟩ := F_isHeld 100 hp100 H2 he i1
        have ew : fWalk S' pt p = tN (fch S') 100 p := by unfold fWalk; rw [if_pos c1]
        rw [← ew] at k3
        refine wV rfl rfl rfl rfl rfl rfl rfl (H2.rc he rfl rfl) g3 (by omega) ?_
        cases hh : tHeld (fh S') (fch S') 100 p with
        | true =>
          refine zW_p 2 rfl ?_
          exact J1 0 σ3 _ H3 (by unfold fThere; rw [if_neg (fun q => by rw [hh] at q; cases q.2)]) k3 ⟨rfl, rfl, rfl, rfl, rfl, rfl, trivial⟩
        | false =>
          refine zW_p 2 rfl ?_
          refine hW_get H3 rfl he rfl rfl rfl ?_
          refine zW_p 1 rfl ?_
          refine hW_get H3 rfl he rfl rfl rfl ?_
          refine zW_p 1 rfl ?_
          rw [I_sub]
          refine zW_p 1 rfl ?_
          refine aW_minI rfl rfl (Nat.le_of_ble_eq_true rfl) ⟨by omega, by omega⟩ ⟨by omega, by omega⟩ ?_
          refine zW_p 1 rfl ?_
          exact J1 _ σ3 _ H3 (if_pos (c := fPnum S' p = pt ∧ tHeld (fh S') (fch S') 100 p = false) ⟨c1, hh⟩).symm k3 ⟨rfl, rfl, rfl, rfl, rfl, rfl, trivial⟩
      · refine zW_t rfl rfl (fun q => c1 ((I_eq v5 hpt).mp q)) ?_
        refine zW_p 1 rfl ?_
        have ew : fWalk S' pt p = 0 := by unfold fWalk; rw [if_neg c1]
        exact J1 0 σ2 _ H2 (by unfold fThere; rw [if_neg (fun q => c1 q.1)]) (by rw [ew]; exact kd.rfl') ⟨rfl, rfl, rfl, rfl, rfl, rfl, trivial⟩
    refine hW_cast H2 rfl he rfl rfl rfl ?_
    refine zW_p 2 rfl ?_
    refine hW_getp H2 rfl he rfl rfl rfl hyp (fun b2 hb2 => ?_)
    have ekey := key
    unfold fPnum at ekey
    rcases (show fLp S' p % 2 = 0 ∨ fLp S' p % 2 = 1 by omega) with q | q
    · rw [q] at hb2 ekey
      refine hW_get H2 rfl hb2 rfl rfl rfl ?_
      exact ekey _ ⟨rfl, rfl, rfl, rfl, rfl, rfl, trivial⟩
    · rw [q] at hb2 ekey
      refine hW_get H2 rfl hb2 rfl rfl rfl ?_
      exact ekey _ ⟨rfl, rfl, rfl, rfl, rfl, rfl, trivial⟩
  · rintro lv σ2 gh' S' H2 ⟨rfl, hx, hS', hi, hle, hlen2, hk⟩
    rw [f7, idl_len] at hle hk hS' hlen2 ⊢
    subst hS'
    refine zW_p 1 rfl ?_
    by_cases h0 : 0 < (fResN S m pt n (sn S 6)).2.1
    · rw [if_pos h0, if_pos h0, if_pos h0]
      refine zW_f rfl rfl (fun q => by have := (I_le0 ⟨by omega, by omega⟩).mp q; omega) ?_
      exact hW_throw H2 rfl rfl rfl rfl (fun σ' H' k' => ⟨rfl, hi, hle, hlen2, gh', hx, H', hk.trans k'⟩)
    · rw [if_neg h0, if_neg h0, if_neg h0]
      refine zW_t rfl rfl ((I_le0 ⟨by omega, by omega⟩).mpr (by omega)) ?_
      exact wW_ret rfl rfl rfl rfl ⟨rfl, hi, hle, hlen2, gh', hx, H2, hk⟩
end ZRS
