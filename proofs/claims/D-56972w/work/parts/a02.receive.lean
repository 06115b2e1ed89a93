/-! LONGS; arrays of suppliers; Foundrymark.add, receive, rule -/
set_option maxRecDepth 100000
theorem L_add {a b : Int} : Int64.ofInt a + Int64.ofInt b = Int64.ofInt (a + b) := (Int64.ofInt_add a b).symm
theorem L_mul {a b : Int} : Int64.ofInt a * Int64.ofInt b = Int64.ofInt (a * b) := (Int64.ofInt_mul a b).symm
theorem L_sub {a b : Int} : Int64.ofInt a - Int64.ofInt b = Int64.ofInt (a - b) := (Int64.ofInt_sub a b).symm
theorem L_of {a : Int} (h : rg a) : (Int32.ofInt a).toInt64 = Int64.ofInt a := by
  rw [← Int64.ofInt_int32ToInt, I_to h]
def rgl (a : Int) : Prop := -9223372036854775808 ≤ a ∧ a < 9223372036854775808
theorem L_to {a : Int} (h : rgl a) : (Int64.ofInt a).toInt = a := Int64.toInt_ofInt_of_le (by have := h.1; omega) (by have := h.2; omega)
theorem L_eq {a b : Int} (ha : rgl a) (hb : rgl b) : Int64.ofInt a = Int64.ofInt b ↔ a = b := by rw [← Int64.toInt_inj, L_to ha, L_to hb]
theorem L_div {a b : Int} (ha : rgl a) (h0 : 0 ≤ a) (hb : rgl b) (h1 : 0 < b) : Int64.ofInt a / Int64.ofInt b = Int64.ofInt (a / b) := by
  have hq : a.tdiv b = a / b := by rw [Int.tdiv_eq_ediv_of_nonneg h0]
  have h2 : 0 ≤ a / b := Int.ediv_nonneg h0 (by omega)
  have h3 : a / b ≤ a := Int.ediv_le_self _ h0
  have hr : rgl (a / b) := ⟨by have := ha.1; omega, by have := ha.2; omega⟩
  rw [← Int64.toInt_inj, Int64.toInt_div_of_ne_right, L_to ha, L_to hb, L_to hr, hq]
  intro e
  have := congrArg Int64.toInt e
  rw [L_to hb] at this
  have e2 : (-1 : Int64).toInt = -1 := by decide
  omega
section ZRV
variable {g : zG} {w0 : hG} {z : Nat → Nat} {σ : zS} {gh : Nat → Nat → Nat} {S : hS} {J : zw_W} {d k pc idx i j a y : Nat} {lv : zp_L} {st : List Value} {Q : Option Value ⊕ String → zS → Prop}
theorem hW_aald (H : hRep g w0 σ gh S J) (hx : r_i k pc = some (.aaload, 1)) (ha : hat gh S 48 i a) (hj : (sE S 48 i)[j]? = some (y : Int)) (hl : (sE S 48 i).length < 1000000) (hr : ∀ b : Nat, hat gh S 9 y b → zW g d k (pc + 1) lv (.ref b :: st) σ Q) : zW g d k pc lv (iv j :: .ref a :: st) σ Q := by
  have hlt := (List.getElem?_eq_some_iff.mp hj).1
  refine wW_aald hx (H.arr ha (by omega)).1 rfl ?_ ?_
  · exact I_in hlt (by omega)
  · rw [I_cl (by omega)]
    have e : (sE S 48 i).getD j (-1) = (y : Int) := by rw [List.getD_eq_getElem?_getD, hj]; rfl
    rw [e, if_neg (by omega)]
    refine hr _ ⟨?_, rfl⟩
    have := ((H.2.2.2.2.2.1 48 i (by omega) ha.1 _ (List.mem_of_getElem? hj)) (by omega)).2 9 rfl
    simpa using this
def fAdd (S : hS) (y : Nat) (q c : Int) (m : Nat) : hS := ssE (kFLot (snw S 6 []) (sn S 6) (sn S 6) q c y m) 22 0 (sE S 22 0 ++ [(sn S 6 : Int)])
theorem F_add {m tk yb : Nat} {q c : Int} (H : hRep g w0 σ gh S J) (hF : fFix S) (ha : hat gh S 0 0 a) (hy : hat gh S (2 + y % 2) (y / 2) yb) (ht : hat gh S 26 m tk) :
    ∃ (σ' : zS) (b : Nat), zEnd g 6 75 [.ref a, .ref yb, iv q, .long (Int64.ofInt c), .ref tk] σ (.inl (some (.ref b))) σ' ∧ ∃ ghx, gext S gh ghx ∧ hRep g w0 σ' ghx (fAdd S y q c m) J ∧ hat ghx (fAdd S y q c m) 6 (sn S 6) b ∧ kc σ σ' 2 300 := by
  obtain ⟨f0, f1, f2, f3, f4, f5, f6, f7, f8, f9, fa, fb, fc, fd⟩ := hF
  have main : zW g 6 75 0 (lv_args 0 [.ref a, .ref yb, iv q, .long (Int64.ofInt c), .ref tk]) [] σ (fun o σ' => ∃ b : Nat, o = .inl (some (.ref b)) ∧ ∃ ghx, gext S gh ghx ∧ hRep g w0 σ' ghx (fAdd S y q c m) J ∧ hat ghx (fAdd S y q c m) 6 (sn S 6) b ∧ kc σ σ' 2 300) := by
    refine hW_new H rfl rfl rfl rfl rfl rfl (fun σ1 b1 H1 hb1 k1 => ?_)
    refine zW_p 2 rfl ?_
    refine hW_getr H1 rfl ha.old rfl rfl rfl f3 (fun b2 hb2 => ?_)
    refine hW_size H1 rfl rfl rfl hb2 rfl rfl rfl (by omega) ?_
    refine zW_p 4 rfl ?_
    have eL : sE (snw S 6 []) 22 0 = sE S 22 0 := rfl
    rw [eL, f7, idl_len]
    obtain ⟨σ2, g2, ghx, x2, H2, k2⟩ := F_newLot (p := (sn S 6 : Nat)) (q := q) (c := c) H1 hb1 (y := y) (yb := yb) hy.old ht.old
    refine wI rfl rfl rfl rfl rfl rfl rfl rfl rfl g2 (by omega) ?_
    have le2 : ∀ c', sn (snw S 6 []) c' ≤ sn (kFLot (snw S 6 []) (sn S 6) (sn S 6 : Nat) q c y m) c' := fun c' => Nat.le_refl _
    have hbx := x2.hat (S1 := kFLot (snw S 6 []) (sn S 6) (sn S 6 : Nat) q c y m) le2 hb1
    have hax := x2.hat (S1 := kFLot (snw S 6 []) (sn S 6) (sn S 6 : Nat) q c y m) le2 ha.old
    refine zW_p 2 rfl ?_
    refine hW_getr H2 rfl hax rfl rfl rfl f3 (fun b5 hb5 => ?_)
    refine zW_p 1 rfl ?_
    have eL2 : sE (kFLot (snw S 6 []) (sn S 6) (sn S 6 : Nat) q c y m) 22 0 = sE S 22 0 := rfl
    refine hW_add (x := (sn S 6 : Int)) H2 rfl rfl rfl hb5 rfl rfl rfl (elrepR hbx) (alvR hbx.1) (by rw [eL2, f7, idl_len]; omega) rfl (by omega) (fun σ6 H6 k6 => ?_)
    refine zW_p 2 rfl ?_
    rw [eL2] at H6 k6
    rw [f7, idl_len] at k6
    exact wW_ret rfl rfl rfl rfl ⟨b1, rfl, ghx, gext.trans (gext_w gext_rfl (fun _ => Nat.le_refl _)) x2 (fun c => sn_w_le), H6, hbx, ((k1.trans k2).trans k6).mono (by omega) (by omega)⟩
  obtain ⟨o, σ', h1, b, rfl, h2⟩ := main
  exact ⟨σ', b, h1, h2⟩
/-- suppliers are well: four, each with its rule and its list -/
def fSup (z : Nat → Nat) (S : hS) : Prop := sn S 9 = 4 ∧ sE S 48 0 = idl 4 ∧ ∀ x : Nat, x < 4 → (∃ r : Nat, 6 ≤ r ∧ r < 9 ∧ sT S 9 0 x = (z r : Nat)) ∧ sT S 9 1 x = (x : Nat) ∧ (∀ y ∈ sE S 28 x, isB z y) ∧ (sE S 28 x).length ≤ 60
/-- a rule's number -/
def rNo (z : Nat → Nat) (v : Int) : Nat := if v = (z 6 : Nat) then 6 else if v = (z 7 : Nat) then 7 else 8
theorem rNo_z (C : hCon g w0 z) {r : Nat} (h6 : 6 ≤ r) (h9 : r < 9) : rNo z (z r : Nat) = r := by
  unfold rNo
  rcases (show r = 6 ∨ r = 7 ∨ r = 8 by omega) with rfl | rfl | rfl
  · rw [if_pos rfl]
  · rw [if_neg (fun e => by have := C.inj (by decide) (by decide) (by exact_mod_cast e : z 7 = z 6); omega), if_pos rfl]
  · rw [if_neg (fun e => by have := C.inj (by decide) (by decide) (by exact_mod_cast e : z 8 = z 6); omega), if_neg (fun e => by have := C.inj (by decide) (by decide) (by exact_mod_cast e : z 8 = z 7); omega)]
def fRl (z : Nat → Nat) (S : hS) (x : Nat) : Nat := rNo z (sT S 9 0 x)
theorem F_rule {x : Nat} (H : hRep g w0 σ gh S J) (C : hCon g w0 z) (hF : fFix S) (hU : fSup z S) (ha : hat gh S 0 0 a) (hx : x < 4) : zEnd g 1 86 [.ref a, iv x] σ (.inl (some (iv (rlL (fRl z S x))))) σ := by
  obtain ⟨f0, f1, f2, f3, f4, f5, f6⟩ := hF
  obtain ⟨u1, u2, u3⟩ := hU
  obtain ⟨⟨r, r6, r9, hr⟩, v2, v3, v4⟩ := u3 x hx
  unfold fRl
  rw [hr, rNo_z C r6 r9]
  refine zEnd_of ?_
  refine zW_p 3 rfl ?_
  refine wS rfl rfl rfl rfl rfl rfl rfl rfl rfl (F_between ⟨by omega, by omega⟩ ⟨by decide, by decide⟩ ⟨by decide, by decide⟩) (by omega) ?_
  rw [decide_eq_true (by omega)]
  refine wS rfl rfl rfl rfl rfl rfl rfl rfl rfl F_reqT22 (by omega) ?_
  refine zW_p 1 rfl ?_
  refine hW_getr H rfl ha rfl rfl rfl f5 (fun b3 hb3 => ?_)
  refine zW_p 1 rfl ?_
  refine hW_aald (y := x) H rfl hb3 (by rw [u2]; exact idl_at hx) (by rw [u2, idl_len]; omega) (fun b4 hb4 => ?_)
  refine hW_get H rfl hb4 rfl rfl rfl ?_
  rw [hr, ← convC]
  refine aW_const (C.none H (by omega)) rfl rfl (C.2.1 r r6 r9).2.1 ?_
  exact zW_reti rfl rfl (by rcases (show r = 6 ∨ r = 7 ∨ r = 8 by omega) with rfl | rfl | rfl <;> rfl) ⟨rfl, rfl⟩
theorem F_ruleX {v : Int} (H : hRep g w0 σ gh S J) (hv : rg v) (hi : ¬ (0 ≤ v ∧ v ≤ 3)) : ∃ σ' : zS, zEnd g 1 86 [.ref a, iv v] σ (.inr "java/lang/IndexOutOfBoundsException") σ' ∧ hRep g w0 σ' gh S J ∧ kc σ σ' 1 6 := by
  obtain ⟨σ1, q1, q2, q3⟩ := F_reqF22 H
  have main : zW g 1 86 0 (lv_args 0 [.ref a, iv v]) [] σ (fun o σ' => o = .inr "java/lang/IndexOutOfBoundsException" ∧ hRep g w0 σ' gh S J ∧ kc σ σ' 1 6) := by
    refine zW_p 3 rfl ?_
    refine wS rfl rfl rfl rfl rfl rfl rfl rfl rfl (F_between hv ⟨by decide, by decide⟩ ⟨by decide, by decide⟩) (by omega) ?_
    rw [decide_eq_false hi]
    exact wST rfl rfl rfl rfl rfl rfl rfl rfl rfl q1 (by omega) rfl ⟨rfl, q2, q3⟩
  obtain ⟨o, σ', h1, rfl, h2, h3⟩ := main
  exact ⟨σ', h1, h2, h3⟩
end ZRV
