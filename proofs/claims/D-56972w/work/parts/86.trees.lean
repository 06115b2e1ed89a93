/-! LOTS AS TREES; isHeld of both classes -/
set_option maxRecDepth 100000
def bi (b : Bool) : Int := if b then 1 else 0
/-- held, itself or by a lot in it -/
def tHeld (h : Nat → Bool) (ch : Nat → List Nat) : Nat → Nat → Bool
  | 0, _ => false
  | n + 1, i => h i || (ch i).any (tHeld h ch n)
/-- the tree's nodes -/
def tN (ch : Nat → List Nat) : Nat → Nat → Nat
  | 0, _ => 0
  | n + 1, i => 1 + ((ch i).map (tN ch n)).sum
/-- x is in i's tree, below it -/
def tHas (ch : Nat → List Nat) : Nat → Nat → Nat → Bool
  | 0, _, _ => false
  | n + 1, x, i => (ch i).any (fun y => y == x || tHas ch n x y)
/-- Foundrymark's lots: on hold; what they are made of -/
def fh (S : hS) (i : Nat) : Bool := sT S 6 7 i == 1
def fch (S : hS) (i : Nat) : List Nat := (sE S 26 (sT S 6 3 i).toNat).map (fun t => (sT S 7 0 t.toNat).toNat)
def fW (S : hS) : Prop := ∀ i : Nat, i < sn S 6 → (sT S 6 7 i = 0 ∨ sT S 6 7 i = 1) ∧ 0 ≤ sT S 6 3 i ∧ ∀ t ∈ sE S 26 (sT S 6 3 i).toNat, 0 ≤ t ∧ 0 ≤ sT S 7 0 t.toNat ∧ sT S 7 0 t.toNat < i
/-- the model's -/
def mh (S : hS) (i : Nat) : Bool := sT S 14 5 i == 1
def mch (S : hS) (i : Nat) : List Nat := (sE S 41 (sT S 14 6 i).toNat).map (fun t => t.toNat)
def mW (S : hS) : Prop := ∀ i : Nat, i < sn S 14 → (sT S 14 5 i = 0 ∨ sT S 14 5 i = 1) ∧ 0 ≤ sT S 14 6 i ∧ ∀ t ∈ sE S 41 (sT S 14 6 i).toNat, 0 ≤ t ∧ t < i
theorem hRep.rc {g : zG} {w0 : hG} {σ : zS} {gh : Nat → Nat → Nat} {S : hS} {J : zw_W} {c i a : Nat} {r : vw_C} (H : hRep g w0 σ gh S J) (ha : hat gh S c i a) (hc : Nat.blt c 20 = true) (hcl : zcl[c]? = some r) : zrc g σ a = some r.1 := w_rc (H.obj ha (Nat.le_of_ble_eq_true hc)).1 hcl
section ZTR
variable {g : zG} {w0 : hG}
theorem F_isHeld : ∀ (n : Nat) {i a : Nat} {σ : zS} {gh : Nat → Nat → Nat} {S : hS} {J : zw_W}, i < n → hRep g w0 σ gh S J → hat gh S 6 i a → fW S →
    ∃ σ' : zS, zEnd g (n + 2) 31 [.ref a] σ (.inl (some (iv (bi (tHeld (fh S) (fch S) n i))))) σ' ∧ hRep g w0 σ' gh S J ∧ kc σ σ' (tN (fch S) n i) (4 * tN (fch S) n i) := by
  intro n
  induction n with
  | zero => intro i a σ gh S J hi; omega
  | succ n ih =>
    intro i a σ gh S J hi H ha hW
    obtain ⟨w1, w2, w3⟩ := hW i ha.1
    obtain ⟨m, hm⟩ : ∃ m : Nat, sT S 6 3 i = m := ⟨(sT S 6 3 i).toNat, (Int.toNat_of_nonneg w2).symm⟩
    rw [hm] at w3
    have hch : fch S i = (sE S 26 m).map (fun t => (sT S 7 0 t.toNat).toNat) := by unfold fch; rw [hm]; rfl
    have loop : ∀ (q p : Nat) (is : Bool) (σ1 : zS) (J' : zw_W) (it b : Nat) (l : Int), p + q = (sE S 26 m).length → hat gh S 26 m b → J it = none → J' = zw_up J it (wIt p l (Int32.ofInt (sM S 26 m)) b) → hRep g w0 σ1 gh S J' →
        zW g (n + 1 + 2) 31 13 [(1, iv (bi is)), (2, .ref it)] [] σ1 (fun o σ' => o = .inl (some (iv (bi (is || ((fch S i).drop p).any (tHeld (fh S) (fch S) n))))) ∧ hRep g w0 σ' gh S J ∧ kc σ1 σ' (((fch S i).drop p).map (tN (fch S) n)).sum (4 * (((fch S i).drop p).map (tN (fch S) n)).sum)) := by
      intro q
      induction q with
      | zero =>
        intro p is σ1 J' it b l hp hb hJ hJ' H1
        refine zW_p 1 rfl ?_
        refine hW_hasNext H1 rfl rfl rfl hb rfl rfl (by rw [hJ']; exact zw_up_same _ _ _) (by omega) rfl (by omega) ?_
        rw [if_neg (by omega)]
        refine zW_p 2 rfl ?_
        have hnil : (fch S i).drop p = [] := List.drop_eq_nil_of_le (by rw [hch, List.length_map]; omega)
        rw [hnil]
        refine zW_reti rfl rfl (by cases is <;> rfl) ⟨by rw [List.any_nil, Bool.or_false], H1.drop (fun c e hc => ?_), kc.rfl'⟩
        rw [hJ', zw_up_ne _ _ (fun e => by rw [e, hJ] at hc; cases hc)]
        exact hc
      | succ q ihq =>
        intro p is σ1 J' it b l hp hb hJ hJ' H1
        have hlt : p < (sE S 26 m).length := by omega
        obtain ⟨v1, v2, v3⟩ := w3 _ (List.getElem_mem hlt)
        have hpe := List.getElem?_eq_getElem hlt
        generalize (sE S 26 m)[p] = t at v1 v2 v3 hpe
        obtain ⟨y, rfl⟩ : ∃ y : Nat, t = y := ⟨t.toNat, (Int.toNat_of_nonneg v1).symm⟩
        rw [Int.toNat_natCast] at v2 v3
        obtain ⟨x, hx⟩ : ∃ x : Nat, sT S 7 0 y = x := ⟨(sT S 7 0 y).toNat, (Int.toNat_of_nonneg v2).symm⟩
        rw [hx] at v3
        have hdrop : (fch S i).drop p = x :: (fch S i).drop (p + 1) := by
          rw [hch, List.drop_eq_getElem_cons (by rw [List.length_map]; exact hlt), List.getElem_map]
          have : (sE S 26 m)[p] = (y : Int) := Option.some.inj ((List.getElem?_eq_getElem hlt).symm.trans hpe)
          rw [this, Int.toNat_natCast, hx, Int.toNat_natCast]
        rw [hdrop, List.any_cons, List.map_cons, List.sum_cons]
        refine zW_p 1 rfl ?_
        refine hW_hasNext H1 rfl rfl rfl hb rfl rfl (by rw [hJ']; exact zw_up_same _ _ _) (by omega) rfl (by omega) ?_
        rw [if_pos hlt]
        refine zW_p 2 rfl ?_
        refine hW_next H1 rfl rfl rfl hb rfl rfl rfl (by rw [hJ']; exact zw_up_same _ _ _) hpe rfl (by omega) (fun σ2 e he H2 hs2 => ?_)
        refine hW_cast H2 rfl he rfl rfl rfl ?_
        have hJ2 : zw_up J' it (wIt ((p + 1 : Nat) : Int) p (Int32.ofInt (sM S 26 m)) b) = zw_up J it (wIt ((p + 1 : Nat) : Int) p (Int32.ofInt (sM S 26 m)) b) := by rw [hJ', zw_up_up]
        cases is with
        | true =>
          refine zW_p 7 rfl ?_
          refine zW_lv [(1, iv (bi true)), (2, .ref it)] rfl ⟨rfl, rfl, trivial⟩ ?_
          obtain ⟨o, σ3, h1, h2, h3, h4⟩ := ihq (p + 1) true σ2 _ it b p (by omega) hb hJ hJ2 H2
          refine ⟨o, σ3, h1, by rw [h2]; simp, h3, ?_⟩
          have := (kc.of hs2).trans h4
          exact this.mono (by omega) (by omega)
        | false =>
          refine zW_p 4 rfl ?_
          refine hW_getr H2 rfl he rfl rfl rfl hx (fun bx hbx => ?_)
          obtain ⟨σ3, g1, g2, g3⟩ := ih (i := x) (by omega) H2 hbx hW
          refine wV rfl rfl rfl rfl rfl rfl rfl (H2.rc hbx rfl rfl) g1 (by omega) ?_
          have fin : ∀ r : Bool, zW g (n + 1 + 2) 31 13 [(1, iv (bi r)), (2, .ref it)] [] σ3 (fun o σ' => o = .inl (some (iv (bi (r || ((fch S i).drop (p + 1)).any (tHeld (fh S) (fch S) n))))) ∧ hRep g w0 σ' gh S J ∧ kc σ1 σ' (tN (fch S) n x + (((fch S i).drop (p + 1)).map (tN (fch S) n)).sum) (4 * (tN (fch S) n x + (((fch S i).drop (p + 1)).map (tN (fch S) n)).sum))) := by
            intro r
            obtain ⟨o, σ4, h1, h2, h3, h4⟩ := ihq (p + 1) r σ3 _ it b p (by omega) hb hJ hJ2 g2
            have := ((kc.of hs2).trans g3).trans h4
            exact ⟨o, σ4, h1, h2, h3, this.mono (by omega) (by omega)⟩
          rw [Bool.false_or]
          cases hr : tHeld (fh S) (fch S) n x with
          | true =>
            refine zW_p 5 rfl ?_
            exact zW_lv [(1, iv (bi true)), (2, .ref it)] rfl ⟨rfl, rfl, trivial⟩ (fin true)
          | false =>
            refine zW_p 4 rfl ?_
            exact zW_lv [(1, iv (bi false)), (2, .ref it)] rfl ⟨rfl, rfl, trivial⟩ (fin false)
    have main : zW g (n + 1 + 2) 31 0 (lv_args 0 [.ref a]) [] σ (fun o σ' => o = .inl (some (iv (bi (tHeld (fh S) (fch S) (n + 1) i)))) ∧ hRep g w0 σ' gh S J ∧ kc σ σ' (tN (fch S) (n + 1) i) (4 * tN (fch S) (n + 1) i)) := by
      refine zW_p 1 rfl ?_
      refine hW_get H rfl ha rfl rfl rfl ?_
      have hval : conv gh 0 (sT S 6 7 i) = iv (bi (fh S i)) := by
        unfold fh
        rcases w1 with e | e <;> rw [e] <;> rfl
      rw [hval]
      refine zW_p 2 rfl ?_
      refine hW_getr H rfl ha rfl rfl rfl hm (fun b hb => ?_)
      refine hW_iter H rfl rfl rfl hb rfl rfl rfl (by omega) (fun σ1 it hJ H1 k1 => ?_)
      refine zW_p 1 rfl ?_
      refine zW_lv [(1, iv (bi (fh S i))), (2, .ref it)] rfl ⟨rfl, rfl, trivial⟩ ?_
      obtain ⟨o, σ2, h1, h2, h3, h4⟩ := loop (sE S 26 m).length 0 (fh S i) σ1 _ it b (-1) (by omega) hb hJ rfl H1
      refine ⟨o, σ2, h1, h2, h3, ?_⟩
      have := k1.trans h4
      rw [List.drop_zero] at this
      exact this.mono (Nat.le_refl _) (by show 4 + _ ≤ 4 * (1 + _); omega)
    obtain ⟨o, σ', h1, rfl, h3, h4⟩ := main
    exact ⟨σ', h1, h3, h4⟩
end ZTR
