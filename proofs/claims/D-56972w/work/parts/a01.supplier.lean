/-! RULES OF INSPECTION: the next rule; Supplier.refuses; Foundrymark.rule -/
set_option maxRecDepth 100000
def gCnt (l : List Bool) : Nat := (l.drop (l.length - 5)).count true
def gNext (r : Nat) (l : List Bool) : Nat := if r = 6 then (if 2 ≤ gCnt l then 7 else if gGood 4 l then 8 else 6) else if r = 7 then (if gGood 3 l then 6 else 7) else if gGood 1 l then 8 else 6
theorem count_drop {l : List Bool} {p : Nat} {b : Bool} (h : l[p]? = some b) : (l.drop p).count true = (if b then 1 else 0) + (l.drop (p + 1)).count true := by
  have hlt := (List.getElem?_eq_some_iff.mp h).1
  rw [List.drop_eq_getElem_cons hlt]
  have : l[p] = b := Option.some.inj ((List.getElem?_eq_getElem hlt).symm.trans h)
  rw [this, List.count_cons]
  cases b <;> simp <;> omega
theorem gNext_lt (r : Nat) (l : List Bool) : 6 ≤ gNext r l ∧ gNext r l < 9 := by
  unfold gNext
  repeat' split
  all_goals omega
section ZSUP
variable {g : zG} {w0 : hG} {z : Nat → Nat} {σ : zS} {gh : Nat → Nat → Nat} {S : hS} {J : zw_W}
theorem F_next1 {m a : Nat} (H : hRep g w0 σ gh S J) (C : hCon g w0 z) (ha : hat gh S 28 m a) (hB : ∀ x ∈ sE S 28 m, isB z x) (hl : (sE S 28 m).length ≤ 1000) : zEnd g 5 79 [.ref (z 6), .ref a] σ (.inl (some (.ref (z (gNext 6 (bls z (sE S 28 m))))))) σ := by
  have hLL := bls_len (z := z) (l := sE S 28 m)
  have en : gNext 6 (bls z (sE S 28 m)) = if 2 ≤ gCnt (bls z (sE S 28 m)) then 7 else if gGood 4 (bls z (sE S 28 m)) then 8 else 6 := rfl
  rw [en]
  have loop : ∀ (q p c : Nat), p + q = (sE S 28 m).length → c ≤ p → c + ((bls z (sE S 28 m)).drop p).count true = gCnt (bls z (sE S 28 m)) → zW g 5 79 13 [(0, .ref (z 6)), (1, .ref a), (2, iv c), (3, iv p)] [] σ (fun o σ' => o = .inl (some (.ref (z (if 2 ≤ gCnt (bls z (sE S 28 m)) then 7 else if gGood 4 (bls z (sE S 28 m)) then 8 else 6)))) ∧ σ' = σ) := by
    intro q
    induction q with
    | zero =>
      intro p c hp hc hcc
      rw [List.drop_eq_nil_of_le (by omega), List.count_nil, Nat.add_zero] at hcc
      refine zW_p 2 rfl ?_
      refine hW_size H rfl rfl rfl ha rfl rfl rfl (by omega) ?_
      refine zW_t rfl rfl ((I_le ⟨by omega, by omega⟩ ⟨by omega, by omega⟩).mpr (by omega)) ?_
      refine zW_p 2 rfl ?_
      rw [← hcc]
      by_cases h2 : 2 ≤ c
      · rw [if_pos h2]
        refine zW_f rfl rfl (fun e => by have := (I_lt ⟨by omega, by omega⟩ ⟨by decide, by decide⟩).mp e; omega) ?_
        refine aW_stat rfl rfl (C.2.1 7 (by decide) (by decide)).1 ?_
        refine zW_p 1 rfl ?_
        exact wW_ret rfl rfl rfl rfl ⟨rfl, rfl⟩
      · rw [if_neg h2]
        refine zW_t rfl rfl ((I_lt ⟨by omega, by omega⟩ ⟨by decide, by decide⟩).mpr (by omega)) ?_
        refine zW_p 2 rfl ?_
        refine wN rfl rfl rfl rfl rfl rfl rfl rfl rfl rfl rfl (F_areGood (n := 4) H C ha hB hl (by decide)) (by omega) ?_
        cases gGood 4 (bls z (sE S 28 m)) with
        | true =>
          refine zW_p 1 rfl ?_
          refine aW_stat rfl rfl (C.2.1 8 (by decide) (by decide)).1 ?_
          refine zW_p 1 rfl ?_
          exact wW_ret rfl rfl rfl rfl ⟨rfl, rfl⟩
        | false =>
          refine zW_p 2 rfl ?_
          exact wW_ret rfl rfl rfl rfl ⟨rfl, rfl⟩
    | succ q ih =>
      intro p c hp hc hcc
      obtain ⟨b, hb1, hb2⟩ := bls_at C hB (show p < (sE S 28 m).length by omega)
      rw [count_drop hb2] at hcc
      refine zW_p 2 rfl ?_
      refine hW_size H rfl rfl rfl ha rfl rfl rfl (by omega) ?_
      refine zW_f rfl rfl (fun e => by have := (I_le ⟨by omega, by omega⟩ ⟨by omega, by omega⟩).mp e; omega) ?_
      refine zW_p 3 rfl ?_
      refine hW_lgetc H rfl rfl rfl ha rfl rfl rfl hb1 rfl (by omega) (fun _ => ?_)
      refine aW_castK (C.none H (by cases b <;> decide)) rfl rfl (C.2.2.2.2.1 b).2 ?_
      refine wV rfl rfl rfl rfl rfl rfl rfl (C.rcB H b) (c_boolVal (z := b) (C.none H (by cases b <;> decide)) (C.2.2.2.2.1 b).1) (by omega) ?_
      cases b with
      | true =>
        refine zW_p 4 rfl ?_
        rw [I_add]
        refine zW_p 2 rfl ?_
        rw [I_add]
        refine zW_p 1 rfl ?_
        refine zW_lv [(0, .ref (z 6)), (1, .ref a), (2, iv ((c + 1 : Nat) : Int)), (3, iv ((p + 1 : Nat) : Int))] rfl ⟨rfl, rfl, rfl, rfl, trivial⟩ ?_
        exact ih (p + 1) (c + 1) (by omega) (by omega) (by rw [← hcc]; simp; omega)
      | false =>
        refine zW_p 3 rfl ?_
        rw [I_add]
        refine zW_p 2 rfl ?_
        rw [I_add]
        refine zW_p 1 rfl ?_
        refine zW_lv [(0, .ref (z 6)), (1, .ref a), (2, iv c), (3, iv ((p + 1 : Nat) : Int))] rfl ⟨rfl, rfl, by rw [Int.add_zero]; rfl, rfl, trivial⟩ ?_
        exact ih (p + 1) c (by omega) (by omega) (by rw [← hcc]; simp)
  refine zEnd_of ?_
  refine zW_p 4 rfl ?_
  refine hW_size H rfl rfl rfl ha rfl rfl rfl (by omega) ?_
  refine zW_p 1 rfl ?_
  refine zW_p 1 rfl ?_
  have e5 : Int32.ofInt ((sE S 28 m).length : Int) - Int32.ofInt 5 = Int32.ofInt ((sE S 28 m).length - 5) := I_sub
  rw [I_sub]
  refine aW_maxI rfl rfl (Nat.le_of_ble_eq_true rfl) ⟨by omega, by omega⟩ ⟨by decide, by decide⟩ ?_
  refine zW_p 1 rfl ?_
  have e : (if (0 : Int) < ((sE S 28 m).length : Int) - 5 then ((sE S 28 m).length : Int) - 5 else 0) = (((sE S 28 m).length - 5 : Nat) : Int) := by
    by_cases h : (0 : Int) < ((sE S 28 m).length : Int) - 5
    · rw [if_pos h]; omega
    · rw [if_neg h]; omega
  rw [e]
  refine zW_lv [(0, .ref (z 6)), (1, .ref a), (2, iv (0 : Nat)), (3, iv ((sE S 28 m).length - 5 : Nat))] rfl ⟨rfl, rfl, rfl, rfl, trivial⟩ ?_
  exact loop ((sE S 28 m).length - ((sE S 28 m).length - 5)) ((sE S 28 m).length - 5) 0 (by omega) (by omega) (by unfold gCnt; rw [hLL, Nat.zero_add])
theorem F_next2 {m a : Nat} (H : hRep g w0 σ gh S J) (C : hCon g w0 z) (ha : hat gh S 28 m a) (hB : ∀ x ∈ sE S 28 m, isB z x) (hl : (sE S 28 m).length ≤ 1000) : zEnd g 5 82 [.ref (z 7), .ref a] σ (.inl (some (.ref (z (gNext 7 (bls z (sE S 28 m))))))) σ := by
  have en : gNext 7 (bls z (sE S 28 m)) = if gGood 3 (bls z (sE S 28 m)) then 6 else 7 := rfl
  rw [en]
  refine zEnd_of ?_
  refine zW_p 2 rfl ?_
  refine wN rfl rfl rfl rfl rfl rfl rfl rfl rfl rfl rfl (F_areGood (n := 3) H C ha hB hl (by decide)) (by omega) ?_
  cases gGood 3 (bls z (sE S 28 m)) with
  | true =>
    refine zW_p 1 rfl ?_
    refine aW_stat rfl rfl (C.2.1 6 (by decide) (by decide)).1 ?_
    refine zW_p 1 rfl ?_
    exact wW_ret rfl rfl rfl rfl ⟨rfl, rfl⟩
  | false =>
    refine zW_p 2 rfl ?_
    exact wW_ret rfl rfl rfl rfl ⟨rfl, rfl⟩
theorem F_next3 {m a : Nat} (H : hRep g w0 σ gh S J) (C : hCon g w0 z) (ha : hat gh S 28 m a) (hB : ∀ x ∈ sE S 28 m, isB z x) (hl : (sE S 28 m).length ≤ 1000) : zEnd g 5 83 [.ref (z 8), .ref a] σ (.inl (some (.ref (z (gNext 8 (bls z (sE S 28 m))))))) σ := by
  have en : gNext 8 (bls z (sE S 28 m)) = if gGood 1 (bls z (sE S 28 m)) then 8 else 6 := rfl
  rw [en]
  refine zEnd_of ?_
  refine zW_p 2 rfl ?_
  refine wN rfl rfl rfl rfl rfl rfl rfl rfl rfl rfl rfl (F_areGood (n := 1) H C ha hB hl (by decide)) (by omega) ?_
  cases gGood 1 (bls z (sE S 28 m)) with
  | true =>
    refine zW_p 3 rfl ?_
    exact wW_ret rfl rfl rfl rfl ⟨rfl, rfl⟩
  | false =>
    refine zW_p 1 rfl ?_
    refine aW_stat rfl rfl (C.2.1 6 (by decide) (by decide)).1 ?_
    exact wW_ret rfl rfl rfl rfl ⟨rfl, rfl⟩
/-- a lot with v bad pieces, by the supplier's rule r -/
def fIsR (r : Nat) (v : Int) : Bool := decide (rlM r < v)
def fRefuse (z : Nat → Nat) (S : hS) (x m r : Nat) (v : Int) : hS :=
  if gNext r (bls z (sE S 28 m) ++ [fIsR r v]) = r then ssE S 28 m (sE S 28 m ++ [(z (if fIsR r v then 10 else 9) : Int)])
  else ssE (sset (ssE S 28 m (sE S 28 m ++ [(z (if fIsR r v then 10 else 9) : Int)])) 9 0 x (z (gNext r (bls z (sE S 28 m) ++ [fIsR r v])) : Int)) 28 m []
theorem F_refuses {x b m r : Nat} {v : Int} (H : hRep g w0 σ gh S J) (C : hCon g w0 z) (hb : hat gh S 9 x b) (hr6 : 6 ≤ r) (hr9 : r < 9) (hr : sT S 9 0 x = (z r : Nat)) (hm : sT S 9 1 x = (m : Nat)) (hB : ∀ y ∈ sE S 28 m, isB z y) (hl : (sE S 28 m).length ≤ 900) (hv : rg v) :
    ∃ σ' : zS, zEnd g 7 77 [.ref b, iv v] σ (.inl (some (iv (bi (fIsR r v))))) σ' ∧ hRep g w0 σ' gh (fRefuse z S x m r v) J ∧ kc σ σ' 1 (2 * (sE S 28 m).length + 12) := by
  have J1 : ∀ is : Bool, is = fIsR r v → zW g 7 77 16 [(0, .ref b), (1, iv v)] [iv (bi is)] σ (fun o σ' => o = .inl (some (iv (bi (fIsR r v)))) ∧ hRep g w0 σ' gh (fRefuse z S x m r v) J ∧ kc σ σ' 1 (2 * (sE S 28 m).length + 12)) := by
    intro is his
    unfold fRefuse
    rw [← his]
    refine zW_p 2 rfl ?_
    refine hW_getr H rfl hb rfl rfl rfl hm (fun b1 hb1 => ?_)
    refine zW_p 1 rfl ?_
    have gB : zEnd g 0 78 [iv (bi is)] σ (.inl (some (.ref (z (if is then 10 else 9))))) σ := by
      have := c_boolOf (g := g) (σ := σ) (z := is) C.2.2.1 C.2.2.2.1
      cases is <;> exact this
    refine wS rfl rfl rfl rfl rfl rfl rfl rfl rfl gB (by omega) ?_
    refine hW_add (x := (z (if is then 10 else 9) : Int)) H rfl rfl rfl hb1 rfl rfl rfl ⟨by omega, rfl, by rw [Int.toNat_natCast]; exact C.boolAt is⟩ alv4 (by omega) rfl (by omega) (fun σ2 H2 k2 => ?_)
    refine zW_p 2 rfl ?_
    refine hW_get H2 rfl hb rfl rfl rfl ?_
    rw [sT_ssE, hr, ← convC]
    refine zW_p 1 rfl ?_
    refine hW_getr (j := m) H2 rfl hb rfl rfl rfl hm (fun b3 hb3 => ?_)
    have eE : sE (ssE S 28 m (sE S 28 m ++ [(z (if is then 10 else 9) : Int)])) 28 m = sE S 28 m ++ [(z (if is then 10 else 9) : Int)] := by rw [sE_ssE, if_pos ⟨rfl, rfl⟩]
    have hB2 : ∀ y ∈ sE (ssE S 28 m (sE S 28 m ++ [(z (if is then 10 else 9) : Int)])) 28 m, isB z y := by
      rw [eE]
      intro y hy
      rcases List.mem_append.mp hy with h | h
      · exact hB y h
      · exact ⟨is, by simpa using h⟩
    have hl2 : (sE (ssE S 28 m (sE S 28 m ++ [(z (if is then 10 else 9) : Int)])) 28 m).length ≤ 1000 := by
      rw [eE, List.length_append]
      simp only [List.length_cons, List.length_nil]
      omega
    have gN : zEnd g 5 (if r = 6 then 79 else if r = 7 then 82 else 83) [.ref (z r), .ref b3] σ2 (.inl (some (.ref (z (gNext r (bls z (sE S 28 m) ++ [is])))))) σ2 := by
      have h1 := F_next1 H2 C hb3 hB2 hl2
      have h2 := F_next2 H2 C hb3 hB2 hl2
      have h3 := F_next3 H2 C hb3 hB2 hl2
      rw [eE, bls_app C] at h1 h2 h3
      rcases (show r = 6 ∨ r = 7 ∨ r = 8 by omega) with rfl | rfl | rfl
      · exact h1
      · exact h2
      · exact h3
    have key : zW g 7 77 40 [(0, .ref b), (1, iv v), (2, iv (bi is))] [.ref (z (gNext r (bls z (sE S 28 m) ++ [is])))] σ2 (fun o σ' => o = .inl (some (iv (bi is))) ∧ hRep g w0 σ' gh (if gNext r (bls z (sE S 28 m) ++ [is]) = r then ssE S 28 m (sE S 28 m ++ [(z (if is then 10 else 9) : Int)]) else ssE (sset (ssE S 28 m (sE S 28 m ++ [(z (if is then 10 else 9) : Int)])) 9 0 x (z (gNext r (bls z (sE S 28 m) ++ [is])) : Int)) 28 m []) J ∧ kc σ σ' 1 (2 * (sE S 28 m).length + 12)) := by
      obtain ⟨n6, n9⟩ := gNext_lt r (bls z (sE S 28 m) ++ [is])
      generalize gNext r (bls z (sE S 28 m) ++ [is]) = r' at n6 n9
      refine zW_p 3 rfl ?_
      refine hW_get H2 rfl hb rfl rfl rfl ?_
      rw [sT_ssE, hr, ← convC]
      by_cases e : r' = r
      · rw [if_pos e]
        refine zW_t rfl rfl (by rw [e]) ?_
        refine zW_p 1 rfl ?_
        exact zW_reti rfl rfl (by cases is <;> rfl) ⟨rfl, H2, k2⟩
      · rw [if_neg e]
        refine zW_f rfl rfl (fun q => e (C.inj (by omega) (by omega) q)) ?_
        refine zW_p 2 rfl ?_
        refine hW_put H2 rfl hb rfl rfl rfl (Or.inl rfl) rfl rfl convC alv4 (fun e => absurd e (by decide)) (fun σ4 H4 e4 => ?_)
        refine zW_p 1 rfl ?_
        refine hW_getr (j := m) H4 rfl hb rfl rfl rfl (by rw [sT_set, if_neg (by omega)]; exact hm) (fun b5 hb5 => ?_)
        refine hW_clear H4 rfl rfl rfl hb5 rfl rfl rfl rfl (by omega) (fun σ6 H6 e6 => ?_)
        refine zW_p 1 rfl ?_
        have k6 : kc σ σ6 1 (2 * (sE S 28 m).length + 12) := ((k2.trans (kc.of e4)).trans (kc.of e6)).mono (by omega) (by omega)
        exact zW_reti rfl rfl (by cases is <;> rfl) ⟨rfl, H6, k6⟩
    rcases (show r = 6 ∨ r = 7 ∨ r = 8 by omega) with rfl | rfl | rfl
    · refine wU rfl rfl rfl rfl rfl (C.rcR H2 (by decide) (by decide)) rfl rfl rfl rfl gN (by omega) ?_
      exact zW_lv [(0, .ref b), (1, iv v), (2, iv (bi is))] rfl ⟨rfl, rfl, rfl, trivial⟩ key
    · refine wU rfl rfl rfl rfl rfl (C.rcR H2 (by decide) (by decide)) rfl rfl rfl rfl gN (by omega) ?_
      exact zW_lv [(0, .ref b), (1, iv v), (2, iv (bi is))] rfl ⟨rfl, rfl, rfl, trivial⟩ key
    · refine wU rfl rfl rfl rfl rfl (C.rcR H2 (by decide) (by decide)) rfl rfl rfl rfl gN (by omega) ?_
      exact zW_lv [(0, .ref b), (1, iv v), (2, iv (bi is))] rfl ⟨rfl, rfl, rfl, trivial⟩ key
  have main : zW g 7 77 0 (lv_args 0 [.ref b, iv v]) [] σ (fun o σ' => o = .inl (some (iv (bi (fIsR r v)))) ∧ hRep g w0 σ' gh (fRefuse z S x m r v) J ∧ kc σ σ' 1 (2 * (sE S 28 m).length + 12)) := by
    refine zW_p 2 rfl ?_
    refine hW_get H rfl hb rfl rfl rfl ?_
    rw [hr, ← convC]
    refine aW_const (C.none H (by omega)) rfl rfl (C.2.1 r hr6 hr9).2.2.1 ?_
    have rm : rg (rlM r) := by
      rcases (show r = 6 ∨ r = 7 ∨ r = 8 by omega) with rfl | rfl | rfl <;> exact ⟨by decide, by decide⟩
    by_cases h : rlM r < v
    · refine zW_f rfl rfl (fun e => by have := (I_le hv rm).mp e; omega) ?_
      refine zW_p 2 rfl ?_
      exact zW_lv [(0, .ref b), (1, iv v)] rfl ⟨rfl, rfl, trivial⟩ (J1 true (by unfold fIsR; rw [decide_eq_true h]))
    · refine zW_t rfl rfl ((I_le hv rm).mpr (by omega)) ?_
      refine zW_p 1 rfl ?_
      exact zW_lv [(0, .ref b), (1, iv v)] rfl ⟨rfl, rfl, trivial⟩ (J1 false (by unfold fIsR; rw [decide_eq_false h]))
  obtain ⟨o, σ', h1, rfl, h2, h3⟩ := main
  exact ⟨σ', h1, h2, h3⟩
end ZSUP
