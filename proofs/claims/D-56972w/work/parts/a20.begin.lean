/-! Foundrymark: begin, beginAll -/
set_option maxRecDepth 100000
/-- the order that a queue gives out -/
def fIsHead (S : hS) (q j : Nat) : Prop := (j : Int) ∈ sE S 45 q ∧ ∀ x ∈ sE S 45 q, okey S j ≤ okey S x.toNat
noncomputable def fHead (S : hS) (q : Nat) : Nat := Classical.epsilon (fIsHead S q)
/-- orders have their numbers -/
def fNum (S : hS) : Prop := ∀ j : Nat, j < sn S 8 → sT S 8 0 j = (j : Nat) ∧ j < 1000
theorem fHead_eq {S : hS} {q j : Nat} (hN : fNum S) (hl : ∀ x ∈ sE S 45 q, 0 ≤ x ∧ x.toNat < sn S 8) (h : fIsHead S q j) : fHead S q = j := by
  have h2 : fIsHead S q (fHead S q) := Classical.epsilon_spec (p := fIsHead S q) ⟨j, h⟩
  have a1 := h.2 _ h2.1
  have a2 := h2.2 _ h.1
  rw [Int.toNat_natCast] at a1 a2
  have l1 := (hl _ h.1).2
  have l2 := (hl _ h2.1).2
  rw [Int.toNat_natCast] at l1 l2
  obtain ⟨n1, m1⟩ := hN _ l1
  obtain ⟨n2, m2⟩ := hN _ l2
  unfold okey at a1 a2
  rw [n1, n2] at a1 a2
  omega
def imax1 (x : Int) : Int := if 1 < x then x else 1
def fFam (S : hS) (j : Nat) : Int := sT S 2 1 ((sT S 8 1 j).toNat / 2)
def fTime (S : hS) (m j : Nat) : Int := (if sT S 1 5 m = fFam S j then 0 else sT S 1 1 m) + sT S 8 8 j * sT S 5 2 (fOp S j)
def fBcost (S : hS) (m j : Nat) : Int := imax1 (fTime S m j) * sT S 1 0 m
def fBegin (z : Nat → Nat) (S : hS) (m j : Nat) : hS :=
  sset (sset (sset (sset (sset (sset (sset (ssE S 45 (fQi S m) ((sE S 45 (fQi S m)).erase (j : Int))) 1 7 m (j : Int)) 8 7 j (z 3 : Nat)) 1 5 m (fFam S j)) 1 9 m (sT S 0 6 0)) 1 10 m (sT S 0 6 0 + imax1 (fTime S m j))) 8 10 j (sT S 8 10 j + fBcost S m j)) 0 8 0 (sT S 0 8 0 + fBcost S m j)
/-- an order that waits is well -/
def fQok (S : hS) (j : Nat) : Prop := (0 ≤ sT S 8 1 j ∧ (sT S 8 1 j).toNat % 2 = 0) ∧ (0 ≤ sT S 8 9 j ∧ (sT S 8 9 j).toNat < (sE S 25 (fOpL S j)).length ∧ sT S 8 9 j ≤ 1000) ∧ (0 ≤ sT S 8 8 j ∧ sT S 8 8 j ≤ 100)
/-- machines' numbers are well -/
def fMn (S : hS) : Prop := ∀ m : Nat, m < sn S 1 → (0 ≤ sT S 1 0 m ∧ sT S 1 0 m ≤ 20) ∧ (0 ≤ sT S 1 1 m ∧ sT S 1 1 m ≤ 50) ∧ rg (sT S 1 5 m)
section ZBG
variable {g : zG} {w0 : hG} {z : Nat → Nat} {σ : zS} {gh : Nat → Nat → Nat} {S T : hS} {J : zw_W} {a b o t m : Nat}
theorem fQlive (H : hRep g w0 σ gh S J) {q : Nat} (hq : q < sn S 45) : ∀ x ∈ sE S 45 q, 0 ≤ x ∧ x.toNat < sn S 8 := by
  intro x hx
  obtain ⟨h1, h2, h3, h4, h5, h6, own, ar, fa, h7, h8, h9, hA, hB, hC⟩ := H
  have h0 := (hC q hq).2.1 x hx
  exact ⟨h0, ((h6 45 q (by omega) hq x hx) h0).2 8 rfl⟩
theorem F_begin (H : hRep g w0 σ gh S J) (C : hCon g w0 z) (hF : fFix S) (hP : fPart S) (hM : fMach S) (hMn : fMn S) (hOp : fOps S) (hO : hOrd S) (hN : fNum S) (hfam : ∀ i, i < sn S 2 → rg (sT S 2 1 i)) (hnow : 0 ≤ sT S 0 6 0 ∧ sT S 0 6 0 ≤ 5000) (ha : hat gh S 0 0 a) (hb : hat gh S 1 m b) (hne : fQ S m ≠ []) (hQ : ∀ x ∈ fQ S m, fQok S x.toNat) :
    ∃ σ' : zS, zEnd g 6 151 [.ref a, .ref b] σ (.inl none) σ' ∧ hRep g w0 σ' gh (fBegin z S m (fHead S (fQi S m))) J ∧ kc σ σ' 0 0 := by
  obtain ⟨w1, w2, w3⟩ := hM m hb.1
  obtain ⟨mn0, mn1, mn5⟩ := hMn m hb.1
  have hq : sT S 1 4 m = (fQi S m : Nat) := (Int.toNat_of_nonneg w2).symm
  have main : zW g 6 151 0 (lv_args 0 [.ref a, .ref b]) [] σ (fun r σ' => r = .inl none ∧ hRep g w0 σ' gh (fBegin z S m (fHead S (fQi S m))) J ∧ kc σ σ' 0 0) := by
    refine zW_p 1 rfl ?_
    refine hW_getr (j := fQi S m) H rfl hb rfl rfl rfl hq (fun b1 hb1 => ?_)
    refine hW_qpoll H hO rfl rfl rfl hb1 hne rfl (by omega) (fun σ2 j b2 m2 l2 hb2 H2 e2 => ?_)
    have hj : fHead S (fQi S m) = j := fHead_eq hN (fQlive H hb1.1) ⟨m2, l2⟩
    rw [hj]
    have hjl : j < sn S 8 := hb2.1
    obtain ⟨⟨q1, q1m⟩, ⟨q9, q9l, q9b⟩, q8⟩ := hQ _ m2
    rw [Int.toNat_natCast] at q1 q1m q9 q9l q9b q8
    obtain ⟨y, hy⟩ : ∃ y : Nat, sT S 8 1 j = y := ⟨(sT S 8 1 j).toNat, (Int.toNat_of_nonneg q1).symm⟩
    have hym : y % 2 = 0 := by rw [hy, Int.toNat_natCast] at q1m; exact q1m
    generalize hX : ssE S 45 (fQi S m) ((sE S 45 (fQi S m)).erase (j : Int)) = X at H2
    have xT : ∀ c k i, sT X c k i = sT S c k i := fun c k i => by rw [← hX]; rfl
    have xn : ∀ c, sn X c = sn S c := fun c => by rw [← hX]; rfl
    have xE : ∀ c i, c ≠ 45 → sE X c i = sE S c i := fun c i hc => by rw [← hX, sE_ssE, if_neg (fun e => hc e.1)]
    have hbX : hat gh X 1 m b := ⟨by rw [xn]; exact hb.1, hb.2⟩
    have haX : hat gh X 0 0 a := ⟨by rw [xn]; exact ha.1, ha.2⟩
    have hjX : hat gh X 8 j b2 := ⟨by rw [xn]; exact hb2.1, hb2.2⟩
    refine hW_cast H2 rfl hjX rfl rfl rfl ?_
    refine zW_p 3 rfl ?_
    refine hW_put (v := (j : Int)) H2 rfl hbX rfl rfl rfl (Or.inl rfl) rfl rfl (convR hjX) (alvR hjX.1) (fun e => absurd e (by decide)) (fun σ3 H3 e3 => ?_)
    refine zW_p 1 rfl ?_
    refine aW_stat rfl rfl (C.1 3 (by decide)).1 ?_
    refine hW_put (v := (z 3 : Nat)) H3 rfl (show hat gh (sset X 1 7 m (j : Int)) 8 j b2 from hjX) rfl rfl rfl (Or.inl rfl) rfl rfl convC alv4 (fun _ => Or.inl (by decide)) (fun σ4 H4 e4 => ?_)
    generalize hY : sset (sset X 1 7 m (j : Int)) 8 7 j (z 3 : Nat) = Y at H4
    have yT : ∀ c k i, ¬ (c = 1 ∧ k = 7) → ¬ (c = 8 ∧ k = 7) → sT Y c k i = sT S c k i := fun c k i h1 h2 => by rw [← hY, sT_set, if_neg (fun e => h2 ⟨e.1, e.2.1⟩), sT_set, if_neg (fun e => h1 ⟨e.1, e.2.1⟩), xT]
    have yn : ∀ c, sn Y c = sn S c := fun c => by rw [← hY]; exact xn c
    have yE : ∀ c i, c ≠ 45 → sE Y c i = sE S c i := fun c i hc => by rw [← hY]; exact xE c i hc
    have hbY : hat gh Y 1 m b := ⟨by rw [yn]; exact hb.1, hb.2⟩
    have haY : hat gh Y 0 0 a := ⟨by rw [yn]; exact ha.1, ha.2⟩
    have hjY : hat gh Y 8 j b2 := ⟨by rw [yn]; exact hb2.1, hb2.2⟩
    refine zW_p 1 rfl ?_
    refine hW_get H4 rfl hbY rfl rfl rfl ?_
    rw [yT 1 5 m (by omega) (by omega)]
    refine zW_p 1 rfl ?_
    refine hW_getp (j := y) H4 rfl hjY rfl rfl rfl (by rw [yT 8 1 j (by omega) (by omega)]; exact hy) (fun b5 hb5 => ?_)
    rw [hym] at hb5
    have hyl : y / 2 < sn S 2 := by have := hb5.1; rw [yn] at this; exact this
    obtain ⟨p1, p2, p3, p4⟩ := hP _ hyl
    have hfamE : fFam S j = sT S 2 1 (y / 2) := by unfold fFam; rw [hy, Int.toNat_natCast]
    have rfam : rg (fFam S j) := by rw [hfamE]; exact hfam _ hyl
    refine hW_get H4 rfl hb5 rfl rfl rfl ?_
    rw [yT 2 1 (y / 2) (by omega) (by omega), ← hfamE]
    have hopl : fOpL S j = (sT S 2 8 (y / 2)).toNat := by unfold fOpL; rw [hy, Int.toNat_natCast]
    have J1 : ∀ su : Int, su = (if sT S 1 5 m = fFam S j then 0 else sT S 1 1 m) → zW g 6 151 45 [(0, .ref a), (1, .ref b), (2, .ref b2)] [iv su] σ4 (fun r σ' => r = .inl none ∧ hRep g w0 σ' gh (fBegin z S m j) J ∧ kc σ σ' 0 0) := by
      intro su hsu
      have hsur : 0 ≤ su ∧ su ≤ 50 := by rw [hsu]; split <;> omega
      refine zW_p 3 rfl ?_
      refine hW_get H4 rfl hjY rfl rfl rfl ?_
      rw [yT 8 8 j (by omega) (by omega)]
      refine zW_p 1 rfl ?_
      refine hW_getp (j := y) H4 rfl hjY rfl rfl rfl (by rw [yT 8 1 j (by omega) (by omega)]; exact hy) (fun b6 hb6 => ?_)
      rw [hym] at hb6
      refine hW_cast H4 rfl hb6 rfl rfl rfl ?_
      refine hW_getr (j := fOpL S j) H4 rfl hb6 rfl rfl rfl (by rw [yT 2 8 (y / 2) (by omega) (by omega), hopl]; exact (Int.toNat_of_nonneg p2).symm) (fun b7 hb7 => ?_)
      refine zW_p 1 rfl ?_
      refine hW_get H4 rfl hjY rfl rfl rfl ?_
      rw [yT 8 9 j (by omega) (by omega)]
      have hnx : sT S 8 9 j = ((sT S 8 9 j).toNat : Nat) := (Int.toNat_of_nonneg q9).symm
      rw [hnx]
      have hop : (sE Y 25 (fOpL S j))[(sT S 8 9 j).toNat]? = some ((fOp S j : Nat) : Int) := by
        rw [yE 25 _ (by decide)]
        unfold fOp
        obtain ⟨r, cap, f, u1, u2, _⟩ := H4.lst hb7 (by decide) (by decide)
        have h0 := (u2 (sT S 8 9 j).toNat _ (by rw [yE 25 _ (by decide)]; exact List.getElem?_eq_getElem q9l)).1
        rw [List.getD_eq_getElem?_getD, List.getElem?_eq_getElem q9l]
        simp only [Option.getD_some]
        rw [Int.toNat_of_nonneg h0]
      refine hW_lget (y := fOp S j) H4 rfl rfl rfl hb7 rfl rfl rfl hop rfl (by omega) (fun b8 hb8 => ?_)
      have hk5 : fOp S j < sn S 5 := by have := hb8.1; rw [yn] at this; exact this
      obtain ⟨_, _, k2⟩ := hOp _ hk5
      refine hW_cast H4 rfl hb8 rfl rfl rfl ?_
      refine hW_get H4 rfl hb8 rfl rfl rfl ?_
      rw [yT 5 2 _ (by omega) (by omega)]
      refine zW_p 1 rfl ?_
      rw [I_mul]
      refine zW_p 1 rfl ?_
      rw [I_add]
      have htm : su + sT S 8 8 j * sT S 5 2 (fOp S j) = fTime S m j := by unfold fTime; rw [hsu]
      rw [htm]
      have hprod : 0 ≤ sT S 8 8 j * sT S 5 2 (fOp S j) ∧ sT S 8 8 j * sT S 5 2 (fOp S j) ≤ 2000 := by
        refine ⟨Int.mul_nonneg (by omega) (by omega), ?_⟩
        have h1 : sT S 8 8 j * sT S 5 2 (fOp S j) ≤ 100 * sT S 5 2 (fOp S j) := Int.mul_le_mul_of_nonneg_right q8.2 (by omega)
        omega
      have htr : 0 ≤ fTime S m j ∧ fTime S m j ≤ 2050 := by omega
      have him : 1 ≤ imax1 (fTime S m j) ∧ imax1 (fTime S m j) ≤ 2050 := by unfold imax1; split <;> omega
      refine zW_p 3 rfl ?_
      refine hW_getp (j := y) H4 rfl hjY rfl rfl rfl (by rw [yT 8 1 j (by omega) (by omega)]; exact hy) (fun b9 hb9 => ?_)
      rw [hym] at hb9
      refine hW_get H4 rfl hb9 rfl rfl rfl ?_
      rw [yT 2 1 (y / 2) (by omega) (by omega), ← hfamE]
      refine hW_put (v := fFam S j) H4 rfl hbY rfl rfl rfl (Or.inl rfl) rfl rfl rfl alv0 (fun e => absurd e (by decide)) (fun σ5 H5 e5 => ?_)
      refine zW_p 2 rfl ?_
      refine hW_get H5 rfl (show hat gh (sset Y 1 5 m (fFam S j)) 0 0 a from haY) rfl rfl rfl ?_
      rw [sT_set, if_neg (by omega), yT 0 6 0 (by omega) (by omega)]
      refine hW_put (v := sT S 0 6 0) H5 rfl (show hat gh (sset Y 1 5 m (fFam S j)) 1 m b from hbY) rfl rfl rfl (Or.inl rfl) rfl rfl rfl alv0 (fun e => absurd e (by decide)) (fun σ6 H6 e6 => ?_)
      refine zW_p 2 rfl ?_
      refine hW_get H6 rfl (show hat gh (sset (sset Y 1 5 m (fFam S j)) 1 9 m (sT S 0 6 0)) 0 0 a from haY) rfl rfl rfl ?_
      rw [sT_set, if_neg (by omega), sT_set, if_neg (by omega), yT 0 6 0 (by omega) (by omega)]
      refine zW_p 2 rfl ?_
      refine aW_maxI rfl rfl (Nat.le_of_ble_eq_true rfl) ⟨by omega, by omega⟩ ⟨by decide, by decide⟩ ?_
      refine zW_p 1 rfl ?_
      rw [I_add]
      refine hW_put (v := sT S 0 6 0 + imax1 (fTime S m j)) H6 rfl (show hat gh (sset (sset Y 1 5 m (fFam S j)) 1 9 m (sT S 0 6 0)) 1 m b from hbY) rfl rfl rfl (Or.inl rfl) rfl rfl rfl alv0 (fun e => absurd e (by decide)) (fun σ7 H7 e7 => ?_)
      generalize hV : sset (sset (sset Y 1 5 m (fFam S j)) 1 9 m (sT S 0 6 0)) 1 10 m (sT S 0 6 0 + imax1 (fTime S m j)) = V at H7
      have vT : ∀ c k i, c ≠ 1 → ¬ (c = 8 ∧ k = 7) → sT V c k i = sT S c k i := fun c k i h1 h2 => by rw [← hV, sT_set, if_neg (fun e => h1 e.1), sT_set, if_neg (fun e => h1 e.1), sT_set, if_neg (fun e => h1 e.1), yT c k i (fun e => h1 e.1) h2]
      have v10 : sT V 1 10 m = sT S 0 6 0 + imax1 (fTime S m j) := by rw [← hV, sT_set, if_pos ⟨rfl, rfl, rfl⟩]
      have v0 : sT V 1 0 m = sT S 1 0 m := by rw [← hV, sT_set, if_neg (by omega), sT_set, if_neg (by omega), sT_set, if_neg (by omega), yT 1 0 m (by omega) (by omega)]
      have vn : ∀ c, sn V c = sn S c := fun c => by rw [← hV]; exact yn c
      have hbV : hat gh V 1 m b := ⟨by rw [vn]; exact hb.1, hb.2⟩
      have haV : hat gh V 0 0 a := ⟨by rw [vn]; exact ha.1, ha.2⟩
      have hjV : hat gh V 8 j b2 := ⟨by rw [vn]; exact hb2.1, hb2.2⟩
      refine zW_p 1 rfl ?_
      refine hW_get H7 rfl hbV rfl rfl rfl ?_
      rw [v10]
      refine zW_p 1 rfl ?_
      refine hW_get H7 rfl haV rfl rfl rfl ?_
      rw [vT 0 6 0 (by decide) (by omega)]
      refine zW_p 1 rfl ?_
      rw [I_sub]
      have esub : sT S 0 6 0 + imax1 (fTime S m j) - sT S 0 6 0 = imax1 (fTime S m j) := by omega
      rw [esub]
      refine zW_p 2 rfl ?_
      rw [L_of ⟨by omega, by omega⟩]
      refine hW_get H7 rfl hbV rfl rfl rfl ?_
      rw [v0]
      refine zW_p 2 rfl ?_
      rw [L_of ⟨by omega, by omega⟩, L_mul]
      have ebc : imax1 (fTime S m j) * sT S 1 0 m = fBcost S m j := rfl
      rw [ebc]
      refine zW_p 3 rfl ?_
      refine hW_get H7 rfl hjV rfl rfl rfl ?_
      rw [vT 8 10 j (by decide) (by omega)]
      refine zW_p 2 rfl ?_
      rw [L_add]
      refine hW_put (v := sT S 8 10 j + fBcost S m j) H7 rfl hjV rfl rfl rfl (Or.inl rfl) rfl rfl rfl alv1 (fun _ => Or.inl (by decide)) (fun σ8 H8 e8 => ?_)
      refine zW_p 2 rfl ?_
      refine hW_get H8 rfl (show hat gh (sset V 8 10 j (sT S 8 10 j + fBcost S m j)) 0 0 a from haV) rfl rfl rfl ?_
      rw [sT_set, if_neg (by omega), vT 0 8 0 (by decide) (by omega)]
      refine zW_p 2 rfl ?_
      rw [L_add]
      refine hW_put (v := sT S 0 8 0 + fBcost S m j) H8 rfl (show hat gh (sset V 8 10 j (sT S 8 10 j + fBcost S m j)) 0 0 a from haV) rfl rfl rfl (Or.inl rfl) rfl rfl rfl alv1 (fun e => absurd e (by decide)) (fun σ9 H9 e9 => ?_)
      have eF : fBegin z S m j = sset (sset V 8 10 j (sT S 8 10 j + fBcost S m j)) 0 8 0 (sT S 0 8 0 + fBcost S m j) := by
        unfold fBegin
        rw [← hV, ← hY, ← hX]
      rw [eF]
      exact wW_ret rfl rfl rfl rfl ⟨rfl, H9, kc.of (e9.trans (e8.trans (e7.trans (e6.trans (e5.trans (e4.trans (e3.trans e2)))))))⟩
    by_cases hc : sT S 1 5 m = fFam S j
    · refine zW_f rfl rfl (fun q => q (by rw [hc])) ?_
      refine zW_p 2 rfl ?_
      exact zW_lx (J1 0 (by rw [if_pos hc])) rfl ⟨rfl, rfl, rfl, trivial⟩
    · refine zW_t rfl rfl (fun q => hc ((I_eq mn5 rfam).mp q)) ?_
      refine zW_p 1 rfl ?_
      refine hW_get H4 rfl hbY rfl rfl rfl ?_
      rw [yT 1 1 m (by omega) (by omega)]
      exact zW_lx (J1 _ (by rw [if_neg hc])) rfl ⟨rfl, rfl, rfl, trivial⟩
  obtain ⟨r, σ', h1, rfl, h2, h3⟩ := main
  exact ⟨σ', h1, h2, h3⟩
end ZBG
