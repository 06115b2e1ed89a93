/-! THE CONSTANTS (Stage, Rule, Boolean) by number; branches that are decided; rules of inspection -/
set_option maxRecDepth 100000
section ZBR2
variable {g : zG} {d k pc len t on : Nat} {lv : zp_L} {st st' : List Value} {σ : zS} {Q : Option Value ⊕ String → zS → Prop} {i : Instr} {P : Prop} {dP : Decidable P}
theorem zW_t (hx : r_i k pc = some (i, len)) (hs : zp_step i len pc (r_l k) lv st = zp_br (decide P) (some t) on lv st') (hP : P) (h1 : zW g d k t lv st' σ Q) : zW g d k pc lv st σ Q := zW_br hx hs (fun _ => h1) (fun h => absurd hP h)
theorem zW_f (hx : r_i k pc = some (i, len)) (hs : zp_step i len pc (r_l k) lv st = zp_br (decide P) (some t) on lv st') (hP : ¬ P) (h2 : zW g d k on lv st' σ Q) : zW g d k pc lv st σ Q := zW_br hx hs (fun h => absurd h hP) (fun _ => h2)
theorem zW_lx {lv' : zp_L} (h : zW g d k pc lv st σ Q) (h1 : lvnd lv = true) (h2 : lvok lv lv') : zW g d k pc lv' st σ Q := zW_lv lv h1 h2 h
theorem zW_ly {lv' : zp_L} (h2 : lvok lv lv') (h1 : lvnd lv = true) (h : zW g d k pc lv st σ Q) : zW g d k pc lv' st σ Q := zW_lv lv h1 h2 h
end ZBR2
def sgName : Nat → String
  | 0 => "NEW"
  | 1 => "PROMISED"
  | 2 => "WAITING"
  | 3 => "WORKING"
  | 4 => "FINISHED"
  | _ => "DELIVERED"
def rlName : Nat → String
  | 6 => "NORMAL"
  | 7 => "TIGHT"
  | _ => "REDUCED"
def rlCls : Nat → String
  | 6 => "Foundrymark$Rule$1"
  | 7 => "Foundrymark$Rule$2"
  | _ => "Foundrymark$Rule$3"
def stL : Nat → Int
  | 0 => 45
  | 1 => 112
  | 2 => 119
  | 3 => 111
  | 4 => 102
  | _ => 100
def rlL : Nat → Int
  | 6 => 110
  | 7 => 116
  | _ => 114
def rlM : Nat → Int
  | 6 => 2
  | 7 => 1
  | _ => 4
/-- the constants' addresses: 0-5 stages, 6-8 rules, 9 FALSE, 10 TRUE -/
def hCon (g : zG) (w0 : hG) (z : Nat → Nat) : Prop := (∀ i : Nat, i < 6 → zt_val (zg_s g) ("Foundrymark$Stage", sgName i, "LFoundrymark$Stage;") = some (.ref (z i)) ∧ zv_val (zg_o g) ("Foundrymark$Stage", "letter", "C") (z i) = some (iv (stL i)) ∧ (zg_k g).find? (fun r => r.2 == z i) = some ("Foundrymark$Stage", z i)) ∧
  (∀ i : Nat, 6 ≤ i → i < 9 → zt_val (zg_s g) ("Foundrymark$Rule", rlName i, "LFoundrymark$Rule;") = some (.ref (z i)) ∧ zv_val (zg_o g) ("Foundrymark$Rule", "letter", "C") (z i) = some (iv (rlL i)) ∧ zv_val (zg_o g) ("Foundrymark$Rule", "most", "I") (z i) = some (iv (rlM i)) ∧ (zg_k g).find? (fun r => r.2 == z i) = some (rlCls i, z i)) ∧
  zt_val (zg_s g) ("java/lang/Boolean", "TRUE", "Ljava/lang/Boolean;") = some (.ref (z 10)) ∧ zt_val (zg_s g) ("java/lang/Boolean", "FALSE", "Ljava/lang/Boolean;") = some (.ref (z 9)) ∧
  (∀ b : Bool, zv_val (zg_o g) ("java/lang/Boolean", "value", "Z") (z (if b then 10 else 9)) = some (iv (if b then 1 else 0)) ∧ (zg_k g).find? (fun r => r.2 == z (if b then 10 else 9)) = some ("java/lang/Boolean", z (if b then 10 else 9))) ∧
  (∀ i : Nat, i < 11 → z i < zg_n g ∧ zcst (w0.1 (z i))) ∧ ∀ i j : Nat, i < 11 → j < 11 → z i = z j → i = j
theorem zrc_cst {g : zG} {σ : zS} {b : Nat} {r : String × Nat} (hw : zcst (σ.1 b)) (hk : (zg_k g).find? (fun r => r.2 == b) = some r) : zrc g σ b = some r.1 := by
  unfold zrc
  rcases hw with hw | ⟨kd, A, hw, -⟩
  · rw [hw]
    simp only
    rw [hk]
    rfl
  · rw [hw]
    simp only
    rw [hk]
    rfl
section ZCON
variable {g : zG} {w0 : hG} {z : Nat → Nat} {σ : zS} {gh : Nat → Nat → Nat} {S : hS} {J : zw_W}
theorem hCon.none (C : hCon g w0 z) (H : hRep g w0 σ gh S J) {i : Nat} (hi : i < 11) : zcst (σ.1 (z i)) := by
  obtain ⟨h1, h2⟩ := C.2.2.2.2.2.1 i hi
  rw [H.2.2.2.1 _ h1]
  exact h2
theorem hCon.rcR (C : hCon g w0 z) (H : hRep g w0 σ gh S J) {i : Nat} (h6 : 6 ≤ i) (h9 : i < 9) : zrc g σ (z i) = some (rlCls i) := by
  exact zrc_cst (C.none H (by omega)) (C.2.1 i h6 h9).2.2.2
theorem hCon.rcS (C : hCon g w0 z) (H : hRep g w0 σ gh S J) {i : Nat} (h6 : i < 6) : zrc g σ (z i) = some "Foundrymark$Stage" := by
  exact zrc_cst (C.none H (by omega)) (C.1 i h6).2.2
theorem hCon.rcB (C : hCon g w0 z) (H : hRep g w0 σ gh S J) (b : Bool) : zrc g σ (z (if b then 10 else 9)) = some "java/lang/Boolean" := by
  exact zrc_cst (C.none H (by cases b <;> decide)) (C.2.2.2.2.1 b).2
theorem hCon.boolAt (C : hCon g w0 z) (b : Bool) : boolAt g w0 (z (if b then 10 else 9)) := by
  obtain ⟨h1, h2⟩ := C.2.2.2.2.2.1 (if b then 10 else 9) (by cases b <;> decide)
  exact ⟨h1, h2, _, (C.2.2.2.2.1 b).2, Or.inl rfl⟩
theorem hCon.inj (C : hCon g w0 z) {i j : Nat} (hi : i < 11) (hj : j < 11) (h : z i = z j) : i = j := C.2.2.2.2.2.2 i j hi hj h
/-- Booleans in a list -/
def bls (z : Nat → Nat) (l : List Int) : List Bool := l.map (fun x => x == (z 10 : Int))
def isB (z : Nat → Nat) (x : Int) : Prop := ∃ b : Bool, x = (z (if b then 10 else 9) : Int)
theorem bls_at (C : hCon g w0 z) {l : List Int} {j : Nat} (h : ∀ x ∈ l, isB z x) (hj : j < l.length) : ∃ b : Bool, l[j]? = some (z (if b then 10 else 9) : Int) ∧ (bls z l)[j]? = some b := by
  obtain ⟨b, hb⟩ := h _ (List.getElem_mem hj)
  refine ⟨b, by rw [List.getElem?_eq_getElem hj, hb], ?_⟩
  unfold bls
  rw [List.getElem?_map, List.getElem?_eq_getElem hj, hb]
  simp only [Option.map_some]
  congr 1
  cases b with
  | true => simp
  | false =>
    have : ¬ z 9 = z 10 := fun e => by have := C.inj (by decide) (by decide) e; omega
    simp
    exact fun e => this (by exact_mod_cast e)
theorem bls_len {l : List Int} : (bls z l).length = l.length := by unfold bls; rw [List.length_map]
theorem bls_app (C : hCon g w0 z) {l : List Int} (b : Bool) : bls z (l ++ [(z (if b then 10 else 9) : Int)]) = bls z l ++ [b] := by
  unfold bls
  rw [List.map_append]
  congr 1
  cases b with
  | true => simp
  | false =>
    have : ¬ z 9 = z 10 := fun e => by have := C.inj (by decide) (by decide) e; omega
    simp
    exact fun e => this (by exact_mod_cast e)
/-- the last so many were not refused -/
def gGood (n : Nat) (l : List Bool) : Bool := decide (n ≤ l.length) && (l.drop (l.length - n)).all (fun b => !b)
theorem all_drop {l : List Bool} {p : Nat} {b : Bool} (h : l[p]? = some b) : (l.drop p).all (fun b => !b) = (!b && (l.drop (p + 1)).all (fun b => !b)) := by
  have hlt := (List.getElem?_eq_some_iff.mp h).1
  rw [List.drop_eq_getElem_cons hlt, List.all_cons]
  have : l[p] = b := Option.some.inj ((List.getElem?_eq_getElem hlt).symm.trans h)
  rw [this]
theorem aW_maxI {d k pc idx : Nat} {lv : zp_L} {st : List Value} {Q : Option Value ⊕ String → zS → Prop} {x y : Int} (hx : r_i k pc = some (.invokestatic idx, 3)) (h0 : zxs_at (r_o k) idx = some 1) (h8 : (st.map fun v => v.category).sum ≤ 8) (rx : rg x) (ry : rg y) (hr : zW g d k (pc + 3) lv (iv (if y < x then x else y) :: st) σ Q) : zW g d k pc lv (iv x :: iv y :: st) σ Q := by
  refine aW_max hx h0 h8 ?_
  have e : (if Int32.ofInt y < Int32.ofInt x then Int32.ofInt x else Int32.ofInt y) = Int32.ofInt (if y < x then x else y) := by
    by_cases h : y < x
    · rw [if_pos h, if_pos ((I_lt ry rx).mpr h)]
    · rw [if_neg h, if_neg (fun q => h ((I_lt ry rx).mp q))]
  rw [e]
  exact hr
theorem aW_minI {d k pc idx : Nat} {lv : zp_L} {st : List Value} {Q : Option Value ⊕ String → zS → Prop} {x y : Int} (hx : r_i k pc = some (.invokestatic idx, 3)) (h0 : zxs_at (r_o k) idx = some 2) (h8 : (st.map fun v => v.category).sum ≤ 8) (rx : rg x) (ry : rg y) (hr : zW g d k (pc + 3) lv (iv (if x < y then x else y) :: st) σ Q) : zW g d k pc lv (iv x :: iv y :: st) σ Q := by
  refine aW_min hx h0 h8 ?_
  have e : (if Int32.ofInt x < Int32.ofInt y then Int32.ofInt x else Int32.ofInt y) = Int32.ofInt (if x < y then x else y) := by
    by_cases h : x < y
    · rw [if_pos h, if_pos ((I_lt rx ry).mpr h)]
    · rw [if_neg h, if_neg (fun q => h ((I_lt rx ry).mp q))]
  rw [e]
  exact hr
theorem F_areGood {m a n : Nat} (H : hRep g w0 σ gh S J) (C : hCon g w0 z) (ha : hat gh S 28 m a) (hB : ∀ x ∈ sE S 28 m, isB z x) (hl : (sE S 28 m).length ≤ 1000) (hn : n ≤ 10) : zEnd g 4 81 [.ref a, iv n] σ (.inl (some (iv (bi (gGood n (bls z (sE S 28 m))))))) σ := by
  have hLL := bls_len (z := z) (l := sE S 28 m)
  have loop : ∀ (q p : Nat) (r : Bool), p + q = (sE S 28 m).length → zW g 4 81 25 [(0, .ref a), (1, iv n), (2, iv (bi r)), (3, iv p)] [] σ (fun o σ' => o = .inl (some (iv (bi (r && ((bls z (sE S 28 m)).drop p).all (fun b => !b))))) ∧ σ' = σ) := by
    intro q
    induction q with
    | zero =>
      intro p r hp
      refine zW_p 2 rfl ?_
      refine hW_size H rfl rfl rfl ha rfl rfl rfl (by omega) ?_
      refine zW_t rfl rfl ((I_le ⟨by omega, by omega⟩ ⟨by omega, by omega⟩).mpr (by omega)) ?_
      refine zW_p 1 rfl ?_
      rw [List.drop_eq_nil_of_le (by omega), List.all_nil, Bool.and_true]
      exact zW_reti rfl rfl (by cases r <;> rfl) ⟨rfl, rfl⟩
    | succ q ih =>
      intro p r hp
      obtain ⟨b, hb1, hb2⟩ := bls_at C hB (show p < (sE S 28 m).length by omega)
      rw [all_drop hb2]
      refine zW_p 2 rfl ?_
      refine hW_size H rfl rfl rfl ha rfl rfl rfl (by omega) ?_
      refine zW_f rfl rfl (fun e => by have := (I_le ⟨by omega, by omega⟩ ⟨by omega, by omega⟩).mp e; omega) ?_
      have back : ∀ r' : Bool, r' = (r && !b) → zW g 4 81 56 [(0, .ref a), (1, iv n), (2, iv (bi r)), (3, iv p)] [iv (bi r')] σ (fun o σ' => o = .inl (some (iv (bi (r && (!b && ((bls z (sE S 28 m)).drop (p + 1)).all (fun b => !b)))))) ∧ σ' = σ) := by
        intro r' hr'
        refine zW_p 2 rfl ?_
        rw [I_add]
        refine zW_p 1 rfl ?_
        refine zW_lv [(0, .ref a), (1, iv n), (2, iv (bi r')), (3, iv ((p + 1 : Nat) : Int))] rfl ⟨rfl, rfl, rfl, rfl, trivial⟩ ?_
        have := ih (p + 1) r' (by omega)
        rw [hr', Bool.and_assoc] at this
        rw [hr']
        exact this
      cases r with
      | false =>
        refine zW_p 3 rfl ?_
        exact back false rfl
      | true =>
        refine zW_p 4 rfl ?_
        refine hW_lgetc H rfl rfl rfl ha rfl rfl rfl hb1 rfl (by omega) (fun _ => ?_)
        refine aW_castK (C.none H (by cases b <;> decide)) rfl rfl (C.2.2.2.2.1 b).2 ?_
        refine wV rfl rfl rfl rfl rfl rfl rfl (C.rcB H b) (c_boolVal (z := b) (C.none H (by cases b <;> decide)) (C.2.2.2.2.1 b).1) (by omega) ?_
        cases b with
        | true =>
          refine zW_p 2 rfl ?_
          exact back false rfl
        | false =>
          refine zW_p 3 rfl ?_
          exact back true rfl
  refine zEnd_of ?_
  have J1 : ∀ r : Bool, r = decide (n ≤ (sE S 28 m).length) → zW g 4 81 13 [(0, .ref a), (1, iv n)] [iv (bi r)] σ (fun o σ' => o = .inl (some (iv (bi (gGood n (bls z (sE S 28 m)))))) ∧ σ' = σ) := by
    intro r hr
    refine zW_p 3 rfl ?_
    refine hW_size H rfl rfl rfl ha rfl rfl rfl (by omega) ?_
    refine zW_p 1 rfl ?_
    refine zW_p 1 rfl ?_
    rw [I_sub]
    refine aW_maxI rfl rfl (Nat.le_of_ble_eq_true rfl) ⟨by omega, by omega⟩ ⟨by decide, by decide⟩ ?_
    refine zW_p 1 rfl ?_
    have e : (if (0 : Int) < ((sE S 28 m).length : Int) - (n : Int) then ((sE S 28 m).length : Int) - (n : Int) else 0) = (((sE S 28 m).length - n : Nat) : Int) := by
      by_cases h : (0 : Int) < ((sE S 28 m).length : Int) - (n : Int)
      · rw [if_pos h]; omega
      · rw [if_neg h]; omega
    rw [e]
    refine zW_lv [(0, .ref a), (1, iv n), (2, iv (bi r)), (3, iv ((sE S 28 m).length - n : Nat))] rfl ⟨rfl, rfl, rfl, rfl, trivial⟩ ?_
    have := loop ((sE S 28 m).length - ((sE S 28 m).length - n)) ((sE S 28 m).length - n) r (by omega)
    unfold gGood
    rw [hLL, ← hr]
    exact this
  refine zW_p 1 rfl ?_
  refine hW_size H rfl rfl rfl ha rfl rfl rfl (by omega) ?_
  refine zW_p 1 rfl ?_
  by_cases h : n ≤ (sE S 28 m).length
  · refine zW_f rfl rfl (fun e => by have := (I_lt ⟨by omega, by omega⟩ ⟨by omega, by omega⟩).mp e; omega) ?_
    refine zW_p 2 rfl ?_
    exact J1 true (by rw [decide_eq_true h])
  · refine zW_t rfl rfl ((I_lt ⟨by omega, by omega⟩ ⟨by omega, by omega⟩).mpr (by omega)) ?_
    refine zW_p 1 rfl ?_
    exact J1 false (by rw [decide_eq_false h])
end ZCON
