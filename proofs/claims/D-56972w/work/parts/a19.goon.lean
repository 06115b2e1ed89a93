/-! Foundrymark: give, finish, goOn -/
set_option maxRecDepth 100000
theorem zW_ldiv {g : zG} {d k pc : Nat} {lv : zp_L} {st : List Value} {σ : zS} {Q : Option Value ⊕ String → zS → Prop} {x y : Int64} (hx : r_i k pc = some (.ldiv, 1)) (h0 : ¬ y = 0) (hr : zW g d k (pc + 1) lv (.long (x / y) :: st) σ Q) : zW g d k pc lv (.long y :: .long x :: st) σ Q := by
  refine zW_ps 1 (f := (pc + 1, lv, .long (x / y) :: st)) ?_ hr
  unfold zps
  rw [hx]
  simp only
  have e : zp_step .ldiv 1 pc (r_l k) lv (.long y :: .long x :: st) = some (pc + 1, lv, .long (x / y) :: st) := by
    show (match (if y = 0 then none else some (pc + 1, lv, Value.long (x / y) :: st)) with | some f => some f | none => zp_jump .ldiv 1 pc lv (.long y :: .long x :: st)) = _
    rw [if_neg h0]
  rw [e]
  rfl
def fCost (S : hS) (t : Nat) : Int := sT S 6 6 (fLotOf S t) * sT S 7 1 t / sT S 6 4 (fLotOf S t)
def fGive (S : hS) (t : Nat) : hS := sset (sset (sset S 7 2 t (fCost S t)) 6 6 (fLotOf S t) (sT S 6 6 (fLotOf S t) - fCost S t)) 6 4 (fLotOf S t) (sT S 6 4 (fLotOf S t) - sT S 7 1 t)
def fGok (S : hS) (t : Nat) : Prop := (1 ≤ sT S 7 1 t ∧ sT S 7 1 t ≤ sT S 6 4 (fLotOf S t)) ∧ sT S 6 4 (fLotOf S t) ≤ 500 ∧ (0 ≤ sT S 6 6 (fLotOf S t) ∧ sT S 6 6 (fLotOf S t) ≤ 1000000000000000)
section ZGV
variable {g : zG} {w0 : hG} {z : Nat → Nat} {σ : zS} {gh : Nat → Nat → Nat} {S T : hS} {J : zw_W} {a b o t m : Nat}
theorem F_give {tb : Nat} (H : hRep g w0 σ gh S J) (hT : fTk S) (hb : hat gh S 7 t tb) (hG : fGok S t) : ∃ σ' : zS, zEnd g 2 123 [.ref tb] σ (.inl (some (.long (Int64.ofInt (fCost S t))))) σ' ∧ hRep g w0 σ' gh (fGive S t) J ∧ kc σ σ' 0 0 := by
  obtain ⟨x, hx⟩ : ∃ x : Nat, sT S 7 0 t = x := ⟨(sT S 7 0 t).toNat, (Int.toNat_of_nonneg (hT t hb.1)).symm⟩
  have hlx : fLotOf S t = x := by unfold fLotOf; rw [Int.toNat_natCast, hx, Int.toNat_natCast]
  obtain ⟨⟨p1, p2⟩, p3, p4, p5⟩ := hG
  unfold fGive fCost
  rw [hlx] at p2 p3 p4 p5 ⊢
  generalize hc : sT S 6 6 x * sT S 7 1 t / sT S 6 4 x = c
  have hprod : 0 ≤ sT S 6 6 x * sT S 7 1 t ∧ sT S 6 6 x * sT S 7 1 t ≤ 1000000000000000 * 500 := by
    refine ⟨Int.mul_nonneg p4 (by omega), ?_⟩
    have h1 : sT S 6 6 x * sT S 7 1 t ≤ 1000000000000000 * sT S 7 1 t := Int.mul_le_mul_of_nonneg_right p5 (by omega)
    omega
  have run124 : ∀ lb : Nat, hat gh S 6 x lb → ∃ σ' : zS, zEnd g 0 124 [.ref lb, .ref tb] σ (.inl none) σ' ∧ hRep g w0 σ' gh (sset (sset (sset S 7 2 t c) 6 6 x (sT S 6 6 x - c)) 6 4 x (sT S 6 4 x - sT S 7 1 t)) J ∧ σ'.2 = σ.2 := by
    intro lb hlb
    have main : zW g 0 124 0 (lv_args 0 [.ref lb, .ref tb]) [] σ (fun r σ' => r = .inl none ∧ hRep g w0 σ' gh (sset (sset (sset S 7 2 t c) 6 6 x (sT S 6 6 x - c)) 6 4 x (sT S 6 4 x - sT S 7 1 t)) J ∧ σ'.2 = σ.2) := by
      refine zW_p 1 rfl ?_
      refine hW_get H rfl hb rfl rfl rfl ?_
      refine zW_p 1 rfl ?_
      refine hW_get H rfl hlb rfl rfl rfl ?_
      refine zW_t rfl rfl ((I_le ⟨by omega, by omega⟩ ⟨by omega, by omega⟩).mpr p2) ?_
      refine zW_p 2 rfl ?_
      refine hW_get H rfl hlb rfl rfl rfl ?_
      refine zW_p 1 rfl ?_
      refine hW_get H rfl hb rfl rfl rfl ?_
      refine zW_p 2 rfl ?_
      rw [L_of ⟨by omega, by omega⟩, L_mul]
      refine zW_p 1 rfl ?_
      refine hW_get H rfl hlb rfl rfl rfl ?_
      refine zW_p 1 rfl ?_
      rw [L_of ⟨by omega, by omega⟩]
      refine zW_ldiv rfl (fun e => ?_) ?_
      · have := (L_eq (b := 0) ⟨by omega, by omega⟩ ⟨by decide, by decide⟩).mp e
        omega
      rw [L_div ⟨by omega, by omega⟩ hprod.1 ⟨by omega, by omega⟩ (by omega), hc]
      refine hW_put (v := c) H rfl hb rfl rfl rfl (Or.inl rfl) rfl rfl rfl alv1 (fun e => absurd e (by decide)) (fun σ1 H1 e1 => ?_)
      refine zW_p 2 rfl ?_
      refine hW_get H1 rfl hlb rfl rfl rfl ?_
      refine zW_p 1 rfl ?_
      refine hW_get H1 rfl hb rfl rfl rfl ?_
      rw [sT_set, if_pos ⟨rfl, rfl, rfl⟩, sT_set, if_neg (by omega)]
      refine zW_p 1 rfl ?_
      rw [L_sub]
      refine hW_put (v := sT S 6 6 x - c) H1 rfl hlb rfl rfl rfl (Or.inl rfl) rfl rfl rfl alv1 (fun e => absurd e (by decide)) (fun σ2 H2 e2 => ?_)
      refine zW_p 2 rfl ?_
      refine hW_get H2 rfl hlb rfl rfl rfl ?_
      refine zW_p 1 rfl ?_
      refine hW_get H2 rfl hb rfl rfl rfl ?_
      rw [sT_set, if_neg (by omega), sT_set, if_neg (by omega), sT_set, if_neg (by omega), sT_set, if_neg (by omega)]
      refine zW_p 1 rfl ?_
      rw [I_sub]
      refine hW_put (v := sT S 6 4 x - sT S 7 1 t) H2 rfl hlb rfl rfl rfl (Or.inl rfl) rfl rfl rfl alv0 (fun e => absurd e (by decide)) (fun σ3 H3 e3 => ?_)
      exact wW_ret rfl rfl rfl rfl ⟨rfl, H3, e3.trans (e2.trans e1)⟩
    obtain ⟨r, σ', h1, rfl, h2, h3⟩ := main
    exact ⟨σ', h1, h2, h3⟩
  have main : zW g 2 123 0 (lv_args 0 [.ref tb]) [] σ (fun r σ' => r = .inl (some (.long (Int64.ofInt c))) ∧ hRep g w0 σ' gh (sset (sset (sset S 7 2 t c) 6 6 x (sT S 6 6 x - c)) 6 4 x (sT S 6 4 x - sT S 7 1 t)) J ∧ kc σ σ' 0 0) := by
    refine zW_p 1 rfl ?_
    refine hW_getr (j := x) H rfl hb rfl rfl rfl hx (fun lb hlb => ?_)
    refine zW_p 1 rfl ?_
    obtain ⟨σ1, g1, H1, e1⟩ := run124 lb hlb
    refine wV rfl rfl rfl rfl rfl rfl rfl (H.rc hlb rfl rfl) g1 (by omega) ?_
    refine zW_p 2 rfl ?_
    refine hW_get H1 rfl hb rfl rfl rfl ?_
    rw [sT_set, if_neg (by omega), sT_set, if_neg (by omega), sT_set, if_pos ⟨rfl, rfl, rfl⟩]
    exact wW_ret rfl rfl rfl rfl ⟨rfl, H1, kc.of e1⟩
  obtain ⟨r, σ', h1, rfl, h2, h3⟩ := main
  exact ⟨σ', h1, h2, h3⟩
/-- a job is finished: a lot, or a loss -/
def fFinish (z : Nat → Nat) (S : hS) (o : Nat) : hS :=
  if 0 < sT S 8 8 o then sset (fAdd (sset (sset S 8 7 o (z 4 : Nat)) 8 11 o (sT S 0 6 0)) (sT S 8 1 o).toNat (sT S 8 8 o) (sT S 8 10 o) (fOL S o)) 8 13 o (sn S 6)
  else sset (sset (sset S 8 7 o (z 4 : Nat)) 8 11 o (sT S 0 6 0)) 0 9 0 (sT S 0 9 0 + sT S 8 10 o)
theorem fAdd_le {y : Nat} {q c : Int} {c' : Nat} : sn S c' ≤ sn (fAdd S y q c m) c' := by
  show _ ≤ sn (snw S 6 []) c'
  exact sn_w_le
theorem F_finish (H : hRep g w0 σ gh S J) (C : hCon g w0 z) (hF : fFix S) (ha : hat gh S 0 0 a) (hb : hat gh S 8 o b) (h1 : 0 ≤ sT S 8 1 o) (h5 : 0 ≤ sT S 8 5 o) (h8 : rg (sT S 8 8 o)) :
    ∃ σ' : zS, zEnd g 7 128 [.ref a, .ref b] σ (.inl none) σ' ∧ ∃ ghx, gext S gh ghx ∧ hRep g w0 σ' ghx (fFinish z S o) J ∧ kc σ σ' 2 300 := by
  have hm : sT S 8 5 o = (fOL S o : Nat) := (Int.toNat_of_nonneg h5).symm
  have hy : sT S 8 1 o = ((sT S 8 1 o).toNat : Nat) := (Int.toNat_of_nonneg h1).symm
  have main : zW g 7 128 0 (lv_args 0 [.ref a, .ref b]) [] σ (fun r σ' => r = .inl none ∧ ∃ ghx, gext S gh ghx ∧ hRep g w0 σ' ghx (fFinish z S o) J ∧ kc σ σ' 2 300) := by
    unfold fFinish
    generalize hyy : (sT S 8 1 o).toNat = y at hy
    refine zW_p 1 rfl ?_
    refine aW_stat rfl rfl (C.1 4 (by decide)).1 ?_
    refine hW_put (v := (z 4 : Nat)) H rfl hb rfl rfl rfl (Or.inl rfl) rfl rfl convC alv4 (fun _ => Or.inl (by decide)) (fun σ1 H1 e1 => ?_)
    refine zW_p 2 rfl ?_
    refine hW_get H1 rfl ha rfl rfl rfl ?_
    rw [sT_set, if_neg (by omega)]
    refine hW_put (v := sT S 0 6 0) H1 rfl hb rfl rfl rfl (Or.inl rfl) rfl rfl rfl alv0 (fun _ => Or.inl (by decide)) (fun σ2 H2 e2 => ?_)
    refine zW_p 1 rfl ?_
    refine hW_get H2 rfl hb rfl rfl rfl ?_
    rw [sT_set, if_neg (by omega), sT_set, if_neg (by omega)]
    have hF2 : fFix (sset (sset S 8 7 o (z 4 : Nat)) 8 11 o (sT S 0 6 0)) := hF
    by_cases hp : 0 < sT S 8 8 o
    · rw [if_pos hp]
      refine zW_f rfl rfl (fun e => by have := (I_le0 h8).mp e; omega) ?_
      refine zW_p 3 rfl ?_
      refine hW_getp (j := y) H2 rfl hb rfl rfl rfl (by rw [sT_set, if_neg (by omega), sT_set, if_neg (by omega)]; exact hy) (fun b1 hb1 => ?_)
      refine zW_p 1 rfl ?_
      refine hW_get H2 rfl hb rfl rfl rfl ?_
      rw [sT_set, if_neg (by omega), sT_set, if_neg (by omega)]
      refine zW_p 1 rfl ?_
      refine hW_get H2 rfl hb rfl rfl rfl ?_
      rw [sT_set, if_neg (by omega), sT_set, if_neg (by omega)]
      refine zW_p 1 rfl ?_
      refine hW_getr (j := fOL S o) H2 rfl hb rfl rfl rfl (by rw [sT_set, if_neg (by omega), sT_set, if_neg (by omega)]; exact hm) (fun b2 hb2 => ?_)
      obtain ⟨σ3, b3, g3, ghx, x3, H3, hb3, k3⟩ := F_add (y := y) (q := sT S 8 8 o) (c := sT S 8 10 o) H2 hF2 (show hat gh _ 0 0 a from ha) hb1 hb2
      refine wV rfl rfl rfl rfl rfl rfl rfl (H2.rc (show hat gh (sset (sset S 8 7 o (z 4 : Nat)) 8 11 o (sT S 0 6 0)) 0 0 a from ha) rfl rfl) g3 (by omega) ?_
      have hbx : hat ghx (fAdd (sset (sset S 8 7 o (z 4 : Nat)) 8 11 o (sT S 0 6 0)) y (sT S 8 8 o) (sT S 8 10 o) (fOL S o)) 8 o b := x3.hat (fun _ => fAdd_le) (show hat gh (sset (sset S 8 7 o (z 4 : Nat)) 8 11 o (sT S 0 6 0)) 8 o b from hb)
      have hb3' : hat ghx (fAdd (sset (sset S 8 7 o (z 4 : Nat)) 8 11 o (sT S 0 6 0)) y (sT S 8 8 o) (sT S 8 10 o) (fOL S o)) 6 (sn S 6) b3 := hb3
      refine hW_put (v := (sn S 6 : Nat)) H3 rfl hbx rfl rfl rfl (Or.inl rfl) rfl rfl (convR hb3') (alvR hb3'.1) (fun _ => Or.inl (by decide)) (fun σ4 H4 e4 => ?_)
      refine zW_p 1 rfl ?_
      exact wW_ret rfl rfl rfl rfl ⟨rfl, ghx, x3, H4, ((((kc.of e1).trans (kc.of e2)).trans k3).trans (kc.of e4)).mono (by omega) (by omega)⟩
    · rw [if_neg hp]
      refine zW_t rfl rfl ((I_le0 h8).mpr (by omega)) ?_
      refine zW_p 2 rfl ?_
      refine hW_get H2 rfl (show hat gh _ 0 0 a from ha) rfl rfl rfl ?_
      rw [sT_set, if_neg (by omega), sT_set, if_neg (by omega)]
      refine zW_p 1 rfl ?_
      refine hW_get H2 rfl hb rfl rfl rfl ?_
      rw [sT_set, if_neg (by omega), sT_set, if_neg (by omega)]
      refine zW_p 1 rfl ?_
      rw [L_add]
      refine hW_put (v := sT S 0 9 0 + sT S 8 10 o) H2 rfl (show hat gh _ 0 0 a from ha) rfl rfl rfl (Or.inl rfl) rfl rfl rfl alv1 (fun e => absurd e (by decide)) (fun σ3 H3 e3 => ?_)
      exact wW_ret rfl rfl rfl rfl ⟨rfl, gh, gext_rfl, H3, (((kc.of e1).trans (kc.of e2)).trans (kc.of e3)).mono (by omega) (by omega)⟩
  obtain ⟨r, σ', h1, rfl, h2⟩ := main
  exact ⟨σ', h1, h2⟩
/-- operations are well -/
def fOps (S : hS) : Prop := ∀ k : Nat, k < sn S 5 → (0 ≤ sT S 5 0 k ∧ sT S 5 0 k < sn S 1) ∧ (sT S 5 1 k = -1 ∨ (0 ≤ sT S 5 1 k ∧ sT S 5 1 k < sn S 1)) ∧ (1 ≤ sT S 5 2 k ∧ sT S 5 2 k ≤ 20)
def fOpL (S : hS) (o : Nat) : Nat := (sT S 2 8 ((sT S 8 1 o).toNat / 2)).toNat
def fOp (S : hS) (o : Nat) : Nat := ((sE S 25 (fOpL S o)).getD (sT S 8 9 o).toNat 0).toNat
def fM1 (S : hS) (k : Nat) : Nat := (sT S 5 0 k).toNat
def fM2 (S : hS) (k : Nat) : Nat := if sT S 5 1 k = -1 then fM1 S k else (sT S 5 1 k).toNat
def fMch (S : hS) (k : Nat) : Nat := if fJobs S (fM2 S k) < fJobs S (fM1 S k) then fM2 S k else fM1 S k
def fQi (S : hS) (m : Nat) : Nat := (sT S 1 4 m).toNat
def fGoOn (z : Nat → Nat) (S : hS) (o : Nat) : hS := if (sE S 25 (fOpL S o)).length ≤ (sT S 8 9 o).toNat then fFinish z S o else ssE (sset S 8 7 o (z 2 : Nat)) 45 (fQi S (fMch S (fOp S o))) ((o : Int) :: sE S 45 (fQi S (fMch S (fOp S o))))
theorem F_goOn (H : hRep g w0 σ gh S J) (C : hCon g w0 z) (hF : fFix S) (hP : fPart S) (hM : fMach S) (hOp : fOps S) (hO : hOrd S) (ha : hat gh S 0 0 a) (hb : hat gh S 8 o b) (h1 : 0 ≤ sT S 8 1 o) (hmd : (sT S 8 1 o).toNat % 2 = 0) (h5 : 0 ≤ sT S 8 5 o) (h8 : rg (sT S 8 8 o)) (h9 : 0 ≤ sT S 8 9 o ∧ sT S 8 9 o ≤ 1000) (hnq : ∀ q : Nat, q < sn S 45 → (o : Int) ∉ sE S 45 q) :
    ∃ σ' : zS, zEnd g 8 127 [.ref a, .ref b] σ (.inl none) σ' ∧ ∃ ghx, gext S gh ghx ∧ hRep g w0 σ' ghx (fGoOn z S o) J ∧ kc σ σ' 2 300 := by
  have hy : sT S 8 1 o = ((sT S 8 1 o).toNat : Nat) := (Int.toNat_of_nonneg h1).symm
  have hnx : sT S 8 9 o = ((sT S 8 9 o).toNat : Nat) := (Int.toNat_of_nonneg h9.1).symm
  have main : zW g 8 127 0 (lv_args 0 [.ref a, .ref b]) [] σ (fun r σ' => r = .inl none ∧ ∃ ghx, gext S gh ghx ∧ hRep g w0 σ' ghx (fGoOn z S o) J ∧ kc σ σ' 2 300) := by
    unfold fGoOn
    refine zW_p 1 rfl ?_
    refine hW_getp H rfl hb rfl rfl rfl hy (fun b1 hb1 => ?_)
    rw [hmd] at hb1
    obtain ⟨p1, p2, p3, p4⟩ := hP _ hb1.1
    refine hW_cast H rfl hb1 rfl rfl rfl ?_
    have hol : sT S 2 8 ((sT S 8 1 o).toNat / 2) = (fOpL S o : Nat) := (Int.toNat_of_nonneg p2).symm
    refine hW_getr H rfl hb1 rfl rfl rfl hol (fun b2 hb2 => ?_)
    have hl3 : (sE S 25 (fOpL S o)).length ≤ 3 := p4
    refine zW_p 2 rfl ?_
    refine hW_get H rfl hb rfl rfl rfl ?_
    refine zW_p 1 rfl ?_
    refine hW_size H rfl rfl rfl hb2 rfl rfl rfl (by omega) ?_
    by_cases hc : (sE S 25 (fOpL S o)).length ≤ (sT S 8 9 o).toNat
    · rw [if_pos hc]
      refine zW_f rfl rfl (fun e => by have := (I_lt ⟨by omega, by omega⟩ ⟨by omega, by omega⟩).mp e; omega) ?_
      refine zW_p 2 rfl ?_
      obtain ⟨σ3, g3, ghx, x3, H3, k3⟩ := F_finish (z := z) H C hF ha hb h1 h5 h8
      refine wV rfl rfl rfl rfl rfl rfl rfl (H.rc ha rfl rfl) g3 (by omega) ?_
      exact wW_ret rfl rfl rfl rfl ⟨rfl, ghx, x3, H3, k3⟩
    · rw [if_neg hc]
      refine zW_t rfl rfl ((I_lt ⟨by omega, by omega⟩ ⟨by omega, by omega⟩).mpr (by omega)) ?_
      refine zW_p 1 rfl ?_
      refine aW_stat rfl rfl (C.1 2 (by decide)).1 ?_
      refine hW_put (v := (z 2 : Nat)) H rfl hb rfl rfl rfl (Or.inl rfl) rfl rfl convC alv4 (fun _ => Or.inl (by decide)) (fun σ1 H1 e1 => ?_)
      refine zW_p 2 rfl ?_
      refine hW_get H1 rfl hb rfl rfl rfl ?_
      rw [sT_set, if_neg (by omega), hnx]
      have hop : (sE S 25 (fOpL S o))[(sT S 8 9 o).toNat]? = some ((fOp S o : Nat) : Int) := by
        unfold fOp
        have hlt : (sT S 8 9 o).toNat < (sE S 25 (fOpL S o)).length := by omega
        obtain ⟨r, cap, f, q1, q2, _⟩ := H.lst hb2 (by decide) (by decide)
        have h0 := (q2 _ _ (List.getElem?_eq_getElem hlt)).1
        rw [List.getD_eq_getElem?_getD, List.getElem?_eq_getElem hlt]
        simp only [Option.getD_some]
        rw [Int.toNat_of_nonneg h0]
      refine hW_lget (y := fOp S o) H1 rfl rfl rfl (show hat gh (sset S 8 7 o (z 2 : Nat)) 25 (fOpL S o) b2 from hb2) rfl rfl rfl hop rfl (by omega) (fun b3 hb3 => ?_)
      have hk5 : fOp S o < sn S 5 := hb3.1
      obtain ⟨⟨k0, k0'⟩, k1, k2⟩ := hOp _ hk5
      have hm1 : sT S 5 0 (fOp S o) = (fM1 S (fOp S o) : Nat) := (Int.toNat_of_nonneg k0).symm
      have hm1l : fM1 S (fOp S o) < sn S 1 := by omega
      obtain ⟨f0, f1, f2, f3, f4, f5, f6, f7, f8, f9, fa, fb, fc, fd⟩ := hF
      refine hW_cast H1 rfl hb3 rfl rfl rfl ?_
      refine zW_p 2 rfl ?_
      refine hW_getr (j := 0) H1 rfl (show hat gh (sset S 8 7 o (z 2 : Nat)) 0 0 a from ha) rfl rfl rfl f1 (fun b4 hb4 => ?_)
      refine zW_p 1 rfl ?_
      refine hW_get H1 rfl hb3 rfl rfl rfl ?_
      rw [sT_set, if_neg (by omega), hm1]
      refine hW_lget (y := fM1 S (fOp S o)) H1 rfl rfl rfl hb4 rfl rfl rfl (show (sE S 20 0)[_]? = _ by rw [f6]; exact idl_at hm1l) rfl (by omega) (fun b5 hb5 => ?_)
      refine hW_cast H1 rfl hb5 rfl rfl rfl ?_
      refine zW_p 2 rfl ?_
      refine hW_get H1 rfl hb3 rfl rfl rfl ?_
      rw [sT_set, if_neg (by omega)]
      refine zW_p 1 rfl ?_
      have hM1 : fMach (sset S 8 7 o (z 2 : Nat)) := hM
      have hO1 : hOrd (sset S 8 7 o (z 2 : Nat)) := fun j hj => by
        rw [sT_set, if_neg (by omega), sT_set, if_neg (by omega)]
        exact hO j hj
      have hjb : ∀ m : Nat, m < sn S 1 → rg (fJobs S m) := fun m hm => by
        obtain ⟨w1, w2, w3⟩ := hM m hm
        unfold fJobs fQ
        split <;> exact ⟨by omega, by omega⟩
      -- with the other machine
      have key : ∀ (m2 : Nat) (b6 : Nat) (lv : zp_L), m2 = fM2 S (fOp S o) → m2 < sn S 1 → hat gh (sset S 8 7 o (z 2 : Nat)) 1 m2 b6 → lvok [(0, .ref a), (1, .ref b), (4, .ref b5)] lv → zW g 8 127 90 lv [.ref b6] σ1 (fun r σ' => r = .inl none ∧ ∃ ghx, gext S gh ghx ∧ hRep g w0 σ' ghx (ssE (sset S 8 7 o (z 2 : Nat)) 45 (fQi S (fMch S (fOp S o))) ((o : Int) :: sE S 45 (fQi S (fMch S (fOp S o))))) J ∧ kc σ σ' 2 300) := by
        intro m2 b6 lv hm2 hm2l hb6 hlv
        refine zW_ly hlv rfl ?_
        refine zW_p 2 rfl ?_
        refine wV rfl rfl rfl rfl rfl rfl rfl (H1.rc hb6 rfl rfl) (F_jobs H1 hM1 hb6) (by omega) ?_
        refine zW_p 1 rfl ?_
        refine wV rfl rfl rfl rfl rfl rfl rfl (H1.rc hb5 rfl rfl) (F_jobs H1 hM1 hb5) (by omega) ?_
        have ej : ∀ m, fJobs (sset S 8 7 o (z 2 : Nat)) m = fJobs S m := fun m => rfl
        rw [ej, ej]
        have fin : ∀ (mm b7 : Nat) (lv : zp_L), mm = fMch S (fOp S o) → mm < sn S 1 → hat gh (sset S 8 7 o (z 2 : Nat)) 1 mm b7 → lvok [(0, .ref a), (1, .ref b)] lv → zW g 8 127 112 lv [.ref b7] σ1 (fun r σ' => r = .inl none ∧ ∃ ghx, gext S gh ghx ∧ hRep g w0 σ' ghx (ssE (sset S 8 7 o (z 2 : Nat)) 45 (fQi S (fMch S (fOp S o))) ((o : Int) :: sE S 45 (fQi S (fMch S (fOp S o))))) J ∧ kc σ σ' 2 300) := by
          intro mm b7 lv hmm hml hb7 hlv
          refine zW_ly hlv rfl ?_
          rw [← hmm]
          obtain ⟨w1, w2, w3⟩ := hM mm hml
          have hq : sT S 1 4 mm = (fQi S mm : Nat) := (Int.toNat_of_nonneg w2).symm
          have w3' : (sE S 45 (fQi S mm)).length ≤ 30 := w3
          refine hW_getr (j := fQi S mm) H1 rfl hb7 rfl rfl rfl (by rw [sT_set, if_neg (by omega)]; exact hq) (fun b8 hb8 => ?_)
          refine zW_p 1 rfl ?_
          refine hW_qadd (j := o) H1 hO1 rfl rfl rfl hb8 (show hat gh (sset S 8 7 o (z 2 : Nat)) 8 o b from hb) (hnq _ hb8.1) (show (sE S 45 (fQi S mm)).length < 200000 by omega) rfl (by omega) (fun σ3 H3 k3 => ?_)
          refine zW_p 1 rfl ?_
          have k3' : kc σ1 σ3 1 (2 * (sE S 45 (fQi S mm)).length + 64) := k3
          exact wW_ret rfl rfl rfl rfl ⟨rfl, gh, gext_rfl, H3, ((kc.of e1).trans k3').mono (by omega) (by omega)⟩
        by_cases c2 : fJobs S m2 < fJobs S (fM1 S (fOp S o))
        · refine zW_f rfl rfl (fun e => by have := (I_le (hjb _ hm1l) (hjb _ hm2l)).mp e; omega) ?_
          refine zW_p 2 rfl ?_
          exact fin m2 b6 _ (by unfold fMch; rw [← hm2, if_pos c2]) hm2l hb6 ⟨rfl, rfl, trivial⟩
        · refine zW_t rfl rfl ((I_le (hjb _ hm1l) (hjb _ hm2l)).mpr (by omega)) ?_
          refine zW_p 1 rfl ?_
          exact fin (fM1 S (fOp S o)) b5 _ (by unfold fMch; rw [← hm2, if_neg c2]) hm1l hb5 ⟨rfl, rfl, trivial⟩
      rcases k1 with e | ⟨e, e'⟩
      · refine zW_f rfl rfl (fun q => q (by rw [e])) ?_
        refine zW_p 2 rfl ?_
        exact key _ b5 _ (by unfold fM2; rw [if_pos e]) hm1l hb5 ⟨rfl, rfl, rfl, trivial⟩
      · have r1 : rg (sT S 5 1 (fOp S o)) := ⟨by omega, by omega⟩
        refine zW_t rfl rfl (fun q => by have := (I_eq (b := -1) r1 ⟨by decide, by decide⟩).mp q; omega) ?_
        refine zW_p 1 rfl ?_
        refine hW_getr (j := 0) H1 rfl (show hat gh (sset S 8 7 o (z 2 : Nat)) 0 0 a from ha) rfl rfl rfl f1 (fun b6 hb6 => ?_)
        refine zW_p 1 rfl ?_
        refine hW_get H1 rfl hb3 rfl rfl rfl ?_
        rw [sT_set, if_neg (by omega)]
        obtain ⟨j, hj⟩ : ∃ j : Nat, sT S 5 1 (fOp S o) = j := ⟨(sT S 5 1 (fOp S o)).toNat, (Int.toNat_of_nonneg e).symm⟩
        rw [hj]
        refine hW_lget (y := j) H1 rfl rfl rfl hb6 rfl rfl rfl (show (sE S 20 0)[_]? = _ by rw [f6]; exact idl_at (by omega)) rfl (by omega) (fun b7 hb7 => ?_)
        refine hW_cast H1 rfl hb7 rfl rfl rfl ?_
        exact key j b7 _ (by unfold fM2; rw [if_neg (by omega), hj, Int.toNat_natCast]) (by omega) hb7 ⟨rfl, rfl, rfl, trivial⟩
  obtain ⟨r, σ', h1, rfl, h2⟩ := main
  exact ⟨σ', h1, h2⟩
end ZGV
