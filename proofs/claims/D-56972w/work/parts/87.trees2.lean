/-! LOTS AS TREES: the model's isHeld, isOf and has -/
set_option maxRecDepth 100000
/-- the nodes that a search for x visits: children in order, till it is found -/
def tWs (p : Nat → Bool) (w : Nat → Nat) : List Nat → Nat
  | [] => 0
  | y :: t => w y + (if p y then 0 else tWs p w t)
def tWalk (ch : Nat → List Nat) : Nat → Nat → Nat → Nat
  | 0, _, _ => 0
  | n + 1, x, i => 1 + tWs (fun y => y == x || tHas ch n x y) (fun y => if y == x then 0 else tWalk ch n x y) (ch i)
section ZTR2
variable {g : zG} {w0 : hG}
theorem M_isHeld : ∀ (n : Nat) {i a : Nat} {σ : zS} {gh : Nat → Nat → Nat} {S : hS} {J : zw_W}, i < n → hRep g w0 σ gh S J → hat gh S 14 i a → mW S →
    ∃ σ' : zS, zEnd g (n + 2) 214 [.ref a] σ (.inl (some (iv (bi (tHeld (mh S) (mch S) n i))))) σ' ∧ hRep g w0 σ' gh S J ∧ kc σ σ' (tN (mch S) n i) (4 * tN (mch S) n i) := by
  intro n
  induction n with
  | zero => intro i a σ gh S J hi; omega
  | succ n ih =>
    intro i a σ gh S J hi H ha hW
    obtain ⟨w1, w2, w3⟩ := hW i ha.1
    obtain ⟨m, hm⟩ : ∃ m : Nat, sT S 14 6 i = m := ⟨(sT S 14 6 i).toNat, (Int.toNat_of_nonneg w2).symm⟩
    rw [hm] at w3
    have hch : mch S i = (sE S 41 m).map (fun t => t.toNat) := by unfold mch; rw [hm]; rfl
    have loop : ∀ (q p : Nat) (is : Bool) (σ1 : zS) (J' : zw_W) (it b : Nat) (l : Int), p + q = (sE S 41 m).length → hat gh S 41 m b → J it = none → J' = zw_up J it (wIt p l (Int32.ofInt (sM S 41 m)) b) → hRep g w0 σ1 gh S J' →
        zW g (n + 1 + 2) 214 13 [(1, iv (bi is)), (2, .ref it)] [] σ1 (fun o σ' => o = .inl (some (iv (bi (is || ((mch S i).drop p).any (tHeld (mh S) (mch S) n))))) ∧ hRep g w0 σ' gh S J ∧ kc σ1 σ' (((mch S i).drop p).map (tN (mch S) n)).sum (4 * (((mch S i).drop p).map (tN (mch S) n)).sum)) := by
      intro q
      induction q with
      | zero =>
        intro p is σ1 J' it b l hp hb hJ hJ' H1
        refine zW_p 1 rfl ?_
        refine hW_hasNext H1 rfl rfl rfl hb rfl rfl (by rw [hJ']; exact zw_up_same _ _ _) (by omega) rfl (by omega) ?_
        rw [if_neg (by omega)]
        refine zW_p 2 rfl ?_
        have hnil : (mch S i).drop p = [] := List.drop_eq_nil_of_le (by rw [hch, List.length_map]; omega)
        rw [hnil]
        refine zW_reti rfl rfl (by cases is <;> rfl) ⟨by rw [List.any_nil, Bool.or_false], H1.drop (fun c e hc => ?_), kc.rfl'⟩
        rw [hJ', zw_up_ne _ _ (fun e => by rw [e, hJ] at hc; cases hc)]
        exact hc
      | succ q ihq =>
        intro p is σ1 J' it b l hp hb hJ hJ' H1
        have hlt : p < (sE S 41 m).length := by omega
        obtain ⟨v1, v3⟩ := w3 _ (List.getElem_mem hlt)
        have hpe := List.getElem?_eq_getElem hlt
        generalize (sE S 41 m)[p] = t at v1 v3 hpe
        obtain ⟨y, rfl⟩ : ∃ y : Nat, t = y := ⟨t.toNat, (Int.toNat_of_nonneg v1).symm⟩
        have hdrop : (mch S i).drop p = y :: (mch S i).drop (p + 1) := by
          rw [hch, List.drop_eq_getElem_cons (by rw [List.length_map]; exact hlt), List.getElem_map]
          have : (sE S 41 m)[p] = (y : Int) := Option.some.inj ((List.getElem?_eq_getElem hlt).symm.trans hpe)
          rw [this, Int.toNat_natCast]
        rw [hdrop, List.any_cons, List.map_cons, List.sum_cons]
        refine zW_p 1 rfl ?_
        refine hW_hasNext H1 rfl rfl rfl hb rfl rfl (by rw [hJ']; exact zw_up_same _ _ _) (by omega) rfl (by omega) ?_
        rw [if_pos hlt]
        refine zW_p 2 rfl ?_
        refine hW_next H1 rfl rfl rfl hb rfl rfl rfl (by rw [hJ']; exact zw_up_same _ _ _) hpe rfl (by omega) (fun σ2 e he H2 hs2 => ?_)
        refine hW_cast H2 rfl he rfl rfl rfl ?_
        have hJ2 : zw_up J' it (wIt ((p + 1 : Nat) : Int) p (Int32.ofInt (sM S 41 m)) b) = zw_up J it (wIt ((p + 1 : Nat) : Int) p (Int32.ofInt (sM S 41 m)) b) := by rw [hJ', zw_up_up]
        cases is with
        | true =>
          refine zW_p 7 rfl ?_
          refine zW_lv [(1, iv (bi true)), (2, .ref it)] rfl ⟨rfl, rfl, trivial⟩ ?_
          obtain ⟨o, σ3, h1, h2, h3, h4⟩ := ihq (p + 1) true σ2 _ it b p (by omega) hb hJ hJ2 H2
          refine ⟨o, σ3, h1, by rw [h2]; simp, h3, ?_⟩
          have := (kc.of hs2).trans h4
          exact this.mono (by omega) (by omega)
        | false =>
          refine zW_p 4 rfl ?_
          obtain ⟨σ3, g1, g2, g3⟩ := ih (i := y) (by omega) H2 he hW
          refine wV rfl rfl rfl rfl rfl rfl rfl (H2.rc he rfl rfl) g1 (by omega) ?_
          have fin : ∀ r : Bool, zW g (n + 1 + 2) 214 13 [(1, iv (bi r)), (2, .ref it)] [] σ3 (fun o σ' => o = .inl (some (iv (bi (r || ((mch S i).drop (p + 1)).any (tHeld (mh S) (mch S) n))))) ∧ hRep g w0 σ' gh S J ∧ kc σ1 σ' (tN (mch S) n y + (((mch S i).drop (p + 1)).map (tN (mch S) n)).sum) (4 * (tN (mch S) n y + (((mch S i).drop (p + 1)).map (tN (mch S) n)).sum))) := by
            intro r
            obtain ⟨o, σ4, h1, h2, h3, h4⟩ := ihq (p + 1) r σ3 _ it b p (by omega) hb hJ hJ2 g2
            have := ((kc.of hs2).trans g3).trans h4
            exact ⟨o, σ4, h1, h2, h3, this.mono (by omega) (by omega)⟩
          rw [Bool.false_or]
          cases hr : tHeld (mh S) (mch S) n y with
          | true =>
            refine zW_p 5 rfl ?_
            exact zW_lv [(1, iv (bi true)), (2, .ref it)] rfl ⟨rfl, rfl, trivial⟩ (fin true)
          | false =>
            refine zW_p 4 rfl ?_
            exact zW_lv [(1, iv (bi false)), (2, .ref it)] rfl ⟨rfl, rfl, trivial⟩ (fin false)
    have main : zW g (n + 1 + 2) 214 0 (lv_args 0 [.ref a]) [] σ (fun o σ' => o = .inl (some (iv (bi (tHeld (mh S) (mch S) (n + 1) i)))) ∧ hRep g w0 σ' gh S J ∧ kc σ σ' (tN (mch S) (n + 1) i) (4 * tN (mch S) (n + 1) i)) := by
      refine zW_p 1 rfl ?_
      refine hW_get H rfl ha rfl rfl rfl ?_
      have hval : conv gh 0 (sT S 14 5 i) = iv (bi (mh S i)) := by
        unfold mh
        rcases w1 with e | e <;> rw [e] <;> rfl
      rw [hval]
      refine zW_p 2 rfl ?_
      refine hW_getr H rfl ha rfl rfl rfl hm (fun b hb => ?_)
      refine hW_iter H rfl rfl rfl hb rfl rfl rfl (by omega) (fun σ1 it hJ H1 k1 => ?_)
      refine zW_p 1 rfl ?_
      refine zW_lv [(1, iv (bi (mh S i))), (2, .ref it)] rfl ⟨rfl, rfl, trivial⟩ ?_
      obtain ⟨o, σ2, h1, h2, h3, h4⟩ := loop (sE S 41 m).length 0 (mh S i) σ1 _ it b (-1) (by omega) hb hJ rfl H1
      refine ⟨o, σ2, h1, h2, h3, ?_⟩
      have := k1.trans h4
      rw [List.drop_zero] at this
      exact this.mono (Nat.le_refl _) (by show 4 + _ ≤ 4 * (1 + _); omega)
    obtain ⟨o, σ', h1, rfl, h3, h4⟩ := main
    exact ⟨σ', h1, h3, h4⟩
theorem F_isOf : ∀ (n : Nat) {i a x0 b0 : Nat} {σ : zS} {gh : Nat → Nat → Nat} {S : hS} {J : zw_W}, i < n → hRep g w0 σ gh S J → hat gh S 6 i a → hat gh S 6 x0 b0 → fW S →
    ∃ σ' : zS, zEnd g (n + 2) 29 [.ref a, .ref b0] σ (.inl (some (iv (bi (tHas (fch S) n x0 i))))) σ' ∧ hRep g w0 σ' gh S J ∧ kc σ σ' (tWalk (fch S) n x0 i) (4 * tWalk (fch S) n x0 i) := by
  intro n
  induction n with
  | zero => intro i a x0 b0 σ gh S J hi; omega
  | succ n ih =>
    intro i a x0 b0 σ gh S J hi H ha hb0 hW
    obtain ⟨w1, w2, w3⟩ := hW i ha.1
    obtain ⟨m, hm⟩ : ∃ m : Nat, sT S 6 3 i = m := ⟨(sT S 6 3 i).toNat, (Int.toNat_of_nonneg w2).symm⟩
    rw [hm] at w3
    have hch : fch S i = (sE S 26 m).map (fun t => (sT S 7 0 t.toNat).toNat) := by unfold fch; rw [hm]; rfl
    have loop : ∀ (q p : Nat) (is : Bool) (σ1 : zS) (J' : zw_W) (it b : Nat) (l : Int), p + q = (sE S 26 m).length → hat gh S 26 m b → J it = none → J' = zw_up J it (wIt p l (Int32.ofInt (sM S 26 m)) b) → hRep g w0 σ1 gh S J' →
        zW g (n + 1 + 2) 29 10 [(1, .ref b0), (2, iv (bi is)), (3, .ref it)] [] σ1 (fun o σ' => o = .inl (some (iv (bi (is || ((fch S i).drop p).any (fun y => y == x0 || tHas (fch S) n x0 y))))) ∧ hRep g w0 σ' gh S J ∧ kc σ1 σ' (if is then 0 else tWs (fun y => y == x0 || tHas (fch S) n x0 y) (fun y => if y == x0 then 0 else tWalk (fch S) n x0 y) ((fch S i).drop p)) (4 * (if is then 0 else tWs (fun y => y == x0 || tHas (fch S) n x0 y) (fun y => if y == x0 then 0 else tWalk (fch S) n x0 y) ((fch S i).drop p)))) := by
      intro q
      induction q with
      | zero =>
        intro p is σ1 J' it b l hp hb hJ hJ' H1
        refine zW_p 1 rfl ?_
        refine hW_hasNext H1 rfl rfl rfl hb rfl rfl (by rw [hJ']; exact zw_up_same _ _ _) (by omega) rfl (by omega) ?_
        rw [if_neg (by omega)]
        refine zW_p 2 rfl ?_
        have hnil : (fch S i).drop p = [] := List.drop_eq_nil_of_le (by rw [hch, List.length_map]; omega)
        rw [hnil]
        refine zW_reti rfl rfl (by cases is <;> rfl) ⟨by rw [List.any_nil, Bool.or_false], H1.drop (fun c e hc => ?_), by cases is <;> exact kc.rfl'⟩
        rw [hJ', zw_up_ne _ _ (fun e => by rw [e, hJ] at hc; cases hc)]
        exact hc
      | succ q ihq =>
        intro p is σ1 J' it b l hp hb hJ hJ' H1
        have hlt : p < (sE S 26 m).length := by omega
        obtain ⟨v1, v2, v3⟩ := w3 _ (List.getElem_mem hlt)
        have hpe := List.getElem?_eq_getElem hlt
        generalize (sE S 26 m)[p] = t at v1 v2 v3 hpe
        obtain ⟨y, rfl⟩ : ∃ y : Nat, t = y := ⟨t.toNat, (Int.toNat_of_nonneg v1).symm⟩
        rw [Int.toNat_natCast] at v2 v3
        obtain ⟨x, hx⟩ : ∃ x : Nat, sT S 7 0 y = x := ⟨(sT S 7 0 y).toNat, (Int.toNat_of_nonneg v2).symm⟩
        rw [hx] at v3
        have hdrop : (fch S i).drop p = x :: (fch S i).drop (p + 1) := by
          rw [hch, List.drop_eq_getElem_cons (by rw [List.length_map]; exact hlt), List.getElem_map]
          have : (sE S 26 m)[p] = (y : Int) := Option.some.inj ((List.getElem?_eq_getElem hlt).symm.trans hpe)
          rw [this, Int.toNat_natCast, hx, Int.toNat_natCast]
        rw [hdrop, List.any_cons]
        refine zW_p 1 rfl ?_
        refine hW_hasNext H1 rfl rfl rfl hb rfl rfl (by rw [hJ']; exact zw_up_same _ _ _) (by omega) rfl (by omega) ?_
        rw [if_pos hlt]
        refine zW_p 2 rfl ?_
        refine hW_next H1 rfl rfl rfl hb rfl rfl rfl (by rw [hJ']; exact zw_up_same _ _ _) hpe rfl (by omega) (fun σ2 e he H2 hs2 => ?_)
        refine hW_cast H2 rfl he rfl rfl rfl ?_
        have hJ2 : zw_up J' it (wIt ((p + 1 : Nat) : Int) p (Int32.ofInt (sM S 26 m)) b) = zw_up J it (wIt ((p + 1 : Nat) : Int) p (Int32.ofInt (sM S 26 m)) b) := by rw [hJ', zw_up_up]
        cases is with
        | true =>
          refine zW_p 7 rfl ?_
          refine zW_lv [(1, .ref b0), (2, iv (bi true)), (3, .ref it)] rfl ⟨rfl, rfl, rfl, trivial⟩ ?_
          obtain ⟨o, σ3, h1, h2, h3, h4⟩ := ihq (p + 1) true σ2 _ it b p (by omega) hb hJ hJ2 H2
          refine ⟨o, σ3, h1, by rw [h2]; simp, h3, ?_⟩
          have := (kc.of hs2).trans h4
          exact this.mono (by simp) (by simp)
        | false =>
          rw [if_neg (by decide), Bool.false_or]
          refine zW_p 4 rfl ?_
          refine hW_getr H2 rfl he rfl rfl rfl hx (fun bx hbx => ?_)
          refine zW_p 1 rfl ?_
          have hcmp : bx = b0 ↔ x = x0 := ⟨fun q => (H2.inj hbx.1 hb0.1 (by rw [hbx.2, hb0.2, q])).2, fun q => by rw [← hbx.2, ← hb0.2, q]⟩
          refine zW_br rfl rfl (fun hP => ?_) (fun hP => ?_)
          · have hxx := hcmp.mp hP
            have e1 : (x == x0) = true := by simp [hxx]
            refine zW_p 4 rfl ?_
            refine zW_lv [(1, .ref b0), (2, iv (bi true)), (3, .ref it)] rfl ⟨rfl, rfl, rfl, trivial⟩ ?_
            obtain ⟨o, σ3, h1, h2, h3, h4⟩ := ihq (p + 1) true σ2 _ it b p (by omega) hb hJ hJ2 H2
            refine ⟨o, σ3, h1, by rw [h2, e1]; simp, h3, ?_⟩
            have := (kc.of hs2).trans h4
            exact this.mono (by simp) (by simp)
          · have hxx : ¬ x = x0 := fun q => hP (hcmp.mpr q)
            have e1 : (x == x0) = false := by simp [hxx]
            refine zW_p 1 rfl ?_
            refine hW_getr H2 rfl he rfl rfl rfl hx (fun bx2 hbx2 => ?_)
            refine zW_p 1 rfl ?_
            obtain ⟨σ3, g1, g2, g3⟩ := ih (i := x) (by omega) H2 hbx2 hb0 hW
            refine wV rfl rfl rfl rfl rfl rfl rfl (H2.rc hbx2 rfl rfl) g1 (by omega) ?_
            rw [e1, Bool.false_or]
            have eW : tWs (fun y => y == x0 || tHas (fch S) n x0 y) (fun y => if y == x0 then 0 else tWalk (fch S) n x0 y) (x :: (fch S i).drop (p + 1)) = tWalk (fch S) n x0 x + (if tHas (fch S) n x0 x then 0 else tWs (fun y => y == x0 || tHas (fch S) n x0 y) (fun y => if y == x0 then 0 else tWalk (fch S) n x0 y) ((fch S i).drop (p + 1))) := by
              show (if (x == x0) = true then 0 else tWalk (fch S) n x0 x) + (if ((x == x0) || tHas (fch S) n x0 x) = true then 0 else _) = _
              rw [e1, if_neg (by decide), Bool.false_or]
            have fin : ∀ r : Bool, tHas (fch S) n x0 x = r → zW g (n + 1 + 2) 29 10 [(1, .ref b0), (2, iv (bi r)), (3, .ref it)] [] σ3 (fun o σ' => o = .inl (some (iv (bi (r || ((fch S i).drop (p + 1)).any (fun y => y == x0 || tHas (fch S) n x0 y))))) ∧ hRep g w0 σ' gh S J ∧ kc σ1 σ' (tWs (fun y => y == x0 || tHas (fch S) n x0 y) (fun y => if y == x0 then 0 else tWalk (fch S) n x0 y) (x :: (fch S i).drop (p + 1))) (4 * (tWs (fun y => y == x0 || tHas (fch S) n x0 y) (fun y => if y == x0 then 0 else tWalk (fch S) n x0 y) (x :: (fch S i).drop (p + 1))))) := by
              intro r hr
              obtain ⟨o, σ4, h1, h2, h3, h4⟩ := ihq (p + 1) r σ3 _ it b p (by omega) hb hJ hJ2 g2
              have := ((kc.of hs2).trans g3).trans h4
              refine ⟨o, σ4, h1, h2, h3, ?_⟩
              rw [eW, hr]
              exact this.mono (by omega) (by omega)
            cases hr : tHas (fch S) n x0 x with
            | true =>
              refine zW_p 4 rfl ?_
              exact zW_lv [(1, .ref b0), (2, iv (bi true)), (3, .ref it)] rfl ⟨rfl, rfl, rfl, trivial⟩ (zW_p 1 rfl (fin true hr))
            | false =>
              refine zW_p 3 rfl ?_
              exact zW_lv [(1, .ref b0), (2, iv (bi false)), (3, .ref it)] rfl ⟨rfl, rfl, rfl, trivial⟩ (zW_p 1 rfl (fin false hr))
    have main : zW g (n + 1 + 2) 29 0 (lv_args 0 [.ref a, .ref b0]) [] σ (fun o σ' => o = .inl (some (iv (bi (tHas (fch S) (n + 1) x0 i)))) ∧ hRep g w0 σ' gh S J ∧ kc σ σ' (tWalk (fch S) (n + 1) x0 i) (4 * tWalk (fch S) (n + 1) x0 i)) := by
      refine zW_p 3 rfl ?_
      refine hW_getr H rfl ha rfl rfl rfl hm (fun b hb => ?_)
      refine hW_iter H rfl rfl rfl hb rfl rfl rfl (by omega) (fun σ1 it hJ H1 k1 => ?_)
      refine zW_p 1 rfl ?_
      refine zW_lv [(1, .ref b0), (2, iv (bi false)), (3, .ref it)] rfl ⟨rfl, rfl, rfl, trivial⟩ ?_
      obtain ⟨o, σ2, h1, h2, h3, h4⟩ := loop (sE S 26 m).length 0 false σ1 _ it b (-1) (by omega) hb hJ rfl H1
      refine ⟨o, σ2, h1, by rw [h2, List.drop_zero]; rfl, h3, ?_⟩
      have := k1.trans h4
      rw [List.drop_zero, if_neg (by decide)] at this
      exact this.mono (Nat.le_refl _) (by show 4 + _ ≤ 4 * (1 + _); omega)
    obtain ⟨o, σ', h1, rfl, h3, h4⟩ := main
    exact ⟨σ', h1, h3, h4⟩
theorem M_has : ∀ (n : Nat) {i a x0 b0 : Nat} {σ : zS} {gh : Nat → Nat → Nat} {S : hS} {J : zw_W}, i < n → hRep g w0 σ gh S J → hat gh S 14 i a → hat gh S 14 x0 b0 → mW S →
    ∃ σ' : zS, zEnd g (n + 2) 254 [.ref a, .ref b0] σ (.inl (some (iv (bi (tHas (mch S) n x0 i))))) σ' ∧ hRep g w0 σ' gh S J ∧ kc σ σ' (tWalk (mch S) n x0 i) (4 * tWalk (mch S) n x0 i) := by
  intro n
  induction n with
  | zero => intro i a x0 b0 σ gh S J hi; omega
  | succ n ih =>
    intro i a x0 b0 σ gh S J hi H ha hb0 hW
    obtain ⟨w1, w2, w3⟩ := hW i ha.1
    obtain ⟨m, hm⟩ : ∃ m : Nat, sT S 14 6 i = m := ⟨(sT S 14 6 i).toNat, (Int.toNat_of_nonneg w2).symm⟩
    rw [hm] at w3
    have hch : mch S i = (sE S 41 m).map (fun t => t.toNat) := by unfold mch; rw [hm]; rfl
    have loop : ∀ (q p : Nat) (is : Bool) (σ1 : zS) (J' : zw_W) (it b : Nat) (l : Int), p + q = (sE S 41 m).length → hat gh S 41 m b → J it = none → J' = zw_up J it (wIt p l (Int32.ofInt (sM S 41 m)) b) → hRep g w0 σ1 gh S J' →
        zW g (n + 1 + 2) 254 10 [(1, .ref b0), (2, iv (bi is)), (3, .ref it)] [] σ1 (fun o σ' => o = .inl (some (iv (bi (is || ((mch S i).drop p).any (fun y => y == x0 || tHas (mch S) n x0 y))))) ∧ hRep g w0 σ' gh S J ∧ kc σ1 σ' (if is then 0 else tWs (fun y => y == x0 || tHas (mch S) n x0 y) (fun y => if y == x0 then 0 else tWalk (mch S) n x0 y) ((mch S i).drop p)) (4 * (if is then 0 else tWs (fun y => y == x0 || tHas (mch S) n x0 y) (fun y => if y == x0 then 0 else tWalk (mch S) n x0 y) ((mch S i).drop p)))) := by
      intro q
      induction q with
      | zero =>
        intro p is σ1 J' it b l hp hb hJ hJ' H1
        refine zW_p 1 rfl ?_
        refine hW_hasNext H1 rfl rfl rfl hb rfl rfl (by rw [hJ']; exact zw_up_same _ _ _) (by omega) rfl (by omega) ?_
        rw [if_neg (by omega)]
        refine zW_p 2 rfl ?_
        have hnil : (mch S i).drop p = [] := List.drop_eq_nil_of_le (by rw [hch, List.length_map]; omega)
        rw [hnil]
        refine zW_reti rfl rfl (by cases is <;> rfl) ⟨by rw [List.any_nil, Bool.or_false], H1.drop (fun c e hc => ?_), by cases is <;> exact kc.rfl'⟩
        rw [hJ', zw_up_ne _ _ (fun e => by rw [e, hJ] at hc; cases hc)]
        exact hc
      | succ q ihq =>
        intro p is σ1 J' it b l hp hb hJ hJ' H1
        have hlt : p < (sE S 41 m).length := by omega
        obtain ⟨v1, v3⟩ := w3 _ (List.getElem_mem hlt)
        have hpe := List.getElem?_eq_getElem hlt
        generalize (sE S 41 m)[p] = t at v1 v3 hpe
        obtain ⟨x, rfl⟩ : ∃ x : Nat, t = x := ⟨t.toNat, (Int.toNat_of_nonneg v1).symm⟩
        have hdrop : (mch S i).drop p = x :: (mch S i).drop (p + 1) := by
          rw [hch, List.drop_eq_getElem_cons (by rw [List.length_map]; exact hlt), List.getElem_map]
          have : (sE S 41 m)[p] = (x : Int) := Option.some.inj ((List.getElem?_eq_getElem hlt).symm.trans hpe)
          rw [this, Int.toNat_natCast]
        rw [hdrop, List.any_cons]
        refine zW_p 1 rfl ?_
        refine hW_hasNext H1 rfl rfl rfl hb rfl rfl (by rw [hJ']; exact zw_up_same _ _ _) (by omega) rfl (by omega) ?_
        rw [if_pos hlt]
        refine zW_p 2 rfl ?_
        refine hW_next H1 rfl rfl rfl hb rfl rfl rfl (by rw [hJ']; exact zw_up_same _ _ _) hpe rfl (by omega) (fun σ2 e he H2 hs2 => ?_)
        refine hW_cast H2 rfl he rfl rfl rfl ?_
        have hJ2 : zw_up J' it (wIt ((p + 1 : Nat) : Int) p (Int32.ofInt (sM S 41 m)) b) = zw_up J it (wIt ((p + 1 : Nat) : Int) p (Int32.ofInt (sM S 41 m)) b) := by rw [hJ', zw_up_up]
        cases is with
        | true =>
          refine zW_p 7 rfl ?_
          refine zW_lv [(1, .ref b0), (2, iv (bi true)), (3, .ref it)] rfl ⟨rfl, rfl, rfl, trivial⟩ ?_
          obtain ⟨o, σ3, h1, h2, h3, h4⟩ := ihq (p + 1) true σ2 _ it b p (by omega) hb hJ hJ2 H2
          refine ⟨o, σ3, h1, by rw [h2]; simp, h3, ?_⟩
          have := (kc.of hs2).trans h4
          exact this.mono (by simp) (by simp)
        | false =>
          rw [if_neg (by decide), Bool.false_or]
          refine zW_p 5 rfl ?_
          have hcmp : e = b0 ↔ x = x0 := ⟨fun q => (H2.inj he.1 hb0.1 (by rw [he.2, hb0.2, q])).2, fun q => by rw [← he.2, ← hb0.2, q]⟩
          refine zW_br rfl rfl (fun hP => ?_) (fun hP => ?_)
          · have hxx := hcmp.mp hP
            have e1 : (x == x0) = true := by simp [hxx]
            refine zW_p 4 rfl ?_
            refine zW_lv [(1, .ref b0), (2, iv (bi true)), (3, .ref it)] rfl ⟨rfl, rfl, rfl, trivial⟩ ?_
            obtain ⟨o, σ3, h1, h2, h3, h4⟩ := ihq (p + 1) true σ2 _ it b p (by omega) hb hJ hJ2 H2
            refine ⟨o, σ3, h1, by rw [h2, e1]; simp, h3, ?_⟩
            have := (kc.of hs2).trans h4
            exact this.mono (by simp) (by simp)
          · have hxx : ¬ x = x0 := fun q => hP (hcmp.mpr q)
            have e1 : (x == x0) = false := by simp [hxx]
            refine zW_p 2 rfl ?_
            obtain ⟨σ3, g1, g2, g3⟩ := ih (i := x) (by omega) H2 he hb0 hW
            refine wV rfl rfl rfl rfl rfl rfl rfl (H2.rc he rfl rfl) g1 (by omega) ?_
            rw [e1, Bool.false_or]
            have eW : tWs (fun y => y == x0 || tHas (mch S) n x0 y) (fun y => if y == x0 then 0 else tWalk (mch S) n x0 y) (x :: (mch S i).drop (p + 1)) = tWalk (mch S) n x0 x + (if tHas (mch S) n x0 x then 0 else tWs (fun y => y == x0 || tHas (mch S) n x0 y) (fun y => if y == x0 then 0 else tWalk (mch S) n x0 y) ((mch S i).drop (p + 1))) := by
              show (if (x == x0) = true then 0 else tWalk (mch S) n x0 x) + (if ((x == x0) || tHas (mch S) n x0 x) = true then 0 else _) = _
              rw [e1, if_neg (by decide), Bool.false_or]
            have fin : ∀ r : Bool, tHas (mch S) n x0 x = r → zW g (n + 1 + 2) 254 10 [(1, .ref b0), (2, iv (bi r)), (3, .ref it)] [] σ3 (fun o σ' => o = .inl (some (iv (bi (r || ((mch S i).drop (p + 1)).any (fun y => y == x0 || tHas (mch S) n x0 y))))) ∧ hRep g w0 σ' gh S J ∧ kc σ1 σ' (tWs (fun y => y == x0 || tHas (mch S) n x0 y) (fun y => if y == x0 then 0 else tWalk (mch S) n x0 y) (x :: (mch S i).drop (p + 1))) (4 * (tWs (fun y => y == x0 || tHas (mch S) n x0 y) (fun y => if y == x0 then 0 else tWalk (mch S) n x0 y) (x :: (mch S i).drop (p + 1))))) := by
              intro r hr
              obtain ⟨o, σ4, h1, h2, h3, h4⟩ := ihq (p + 1) r σ3 _ it b p (by omega) hb hJ hJ2 g2
              have := ((kc.of hs2).trans g3).trans h4
              refine ⟨o, σ4, h1, h2, h3, ?_⟩
              rw [eW, hr]
              exact this.mono (by omega) (by omega)
            cases hr : tHas (mch S) n x0 x with
            | true =>
              refine zW_p 4 rfl ?_
              exact zW_lv [(1, .ref b0), (2, iv (bi true)), (3, .ref it)] rfl ⟨rfl, rfl, rfl, trivial⟩ (zW_p 1 rfl (fin true hr))
            | false =>
              refine zW_p 3 rfl ?_
              exact zW_lv [(1, .ref b0), (2, iv (bi false)), (3, .ref it)] rfl ⟨rfl, rfl, rfl, trivial⟩ (zW_p 1 rfl (fin false hr))
    have main : zW g (n + 1 + 2) 254 0 (lv_args 0 [.ref a, .ref b0]) [] σ (fun o σ' => o = .inl (some (iv (bi (tHas (mch S) (n + 1) x0 i)))) ∧ hRep g w0 σ' gh S J ∧ kc σ σ' (tWalk (mch S) (n + 1) x0 i) (4 * tWalk (mch S) (n + 1) x0 i)) := by
      refine zW_p 3 rfl ?_
      refine hW_getr H rfl ha rfl rfl rfl hm (fun b hb => ?_)
      refine hW_iter H rfl rfl rfl hb rfl rfl rfl (by omega) (fun σ1 it hJ H1 k1 => ?_)
      refine zW_p 1 rfl ?_
      refine zW_lv [(1, .ref b0), (2, iv (bi false)), (3, .ref it)] rfl ⟨rfl, rfl, rfl, trivial⟩ ?_
      obtain ⟨o, σ2, h1, h2, h3, h4⟩ := loop (sE S 41 m).length 0 false σ1 _ it b (-1) (by omega) hb hJ rfl H1
      refine ⟨o, σ2, h1, by rw [h2, List.drop_zero]; rfl, h3, ?_⟩
      have := k1.trans h4
      rw [List.drop_zero, if_neg (by decide)] at this
      exact this.mono (Nat.le_refl _) (by show 4 + _ ≤ 4 * (1 + _); omega)
    obtain ⟨o, σ', h1, rfl, h3, h4⟩ := main
    exact ⟨σ', h1, h3, h4⟩
end ZTR2
