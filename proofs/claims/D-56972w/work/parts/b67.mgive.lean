/-! THE SIMULATION: the model gives what Foundrymark planned -/
set_option maxRecDepth 100000
section ZCB4
variable {z : Nat → Nat} {k o m l p : Nat} {X Y U T : hS} {t n left : Int} {es : List (Int × Int)}
theorem mDvN_succ {x : Int} (h : (sE U 42 m)[p]? = some x) : mDvN U o m (p + 1) = mDvStep o (mDvN U o m p) x := by
  unfold mDvN
  rw [take_snoc h, List.foldl_append]
  rfl
/-- behind the first p sources -/
def mdP (X U : hS) (o : Nat) (F : fRst) (st : List (Int × Int) × Int) : Prop := F.2.1 = st.2 ∧ (∀ l : Nat, sT F.1 14 2 l = sT U 14 2 l - pl st.1 l) ∧ (∀ l : Nat, sT F.1 14 4 l = sT U 14 4 l - pl (csL X st.1) l) ∧ sE F.1 40 o = sE U 40 o ++ st.1.map Prod.fst ∧ sT F.1 15 15 o = sT U 15 15 o + ((csL X st.1).map Prod.snd).sum
theorem mdG (hI : iAll z k X) (hk : k ≤ 1000) (ho : o < sn X 8) (hL : sE U 42 m = (dNL X o (sn X 6)).map (fun l : Nat => (l : Int))) (hU : ∀ l : Nat, l < sn X 6 → sT U 14 2 l = sT X 6 4 l ∧ sT U 14 3 l = sT X 6 5 l ∧ sT U 14 4 l = sT X 6 6 l) (h2 : sT U 15 2 o = sT X 8 2 o) (h40 : sE U 40 o = []) :
    ∀ p : Nat, p ≤ (dNL X o (sn X 6)).length → mdP X U o (mDvN U o m p) (((dNL X o (sn X 6)).take p).foldl (dSt X) ([], sT X 8 2 o)) ∧ ((mDvN U o m p).2.2.1 ≤ 1 + p ∧ (mDvN U o m p).2.2.2 ≤ 4 + 212 * p) ∧
      ∀ x : Int, (sE U 42 m)[p]? = some x → (0 ≤ (mDvN U o m p).2.1 ∧ (mDvN U o m p).2.1 ≤ 100) ∧ (0 ≤ sT (mDvN U o m p).1 14 3 x.toNat ∧ sT (mDvN U o m p).1 14 3 x.toNat ≤ sT (mDvN U o m p).1 14 2 x.toNat ∧ sT (mDvN U o m p).1 14 2 x.toNat ≤ 500) ∧ (sE (mDvN U o m p).1 40 o).length ≤ 1000 ∧ (0 < mDvP (mDvN U o m p).1 (mDvN U o m p).2.1 x → mGok (mDvN U o m p).1 x.toNat (mDvP (mDvN U o m p).1 (mDvN U o m p).2.1 x)) := by
  obtain ⟨c1, c2⟩ := dCand_ok hI ho
  have n1 : (dNL X o (sn X 6)).Nodup := c1.filter _
  have n2 : ∀ l ∈ dNL X o (sn X 6), l < sn X 6 ∧ sT X 6 1 l = sT X 8 1 o ∧ tHeld (fh X) (fch X) 100 l = false := fun l hl => by
    obtain ⟨h1, h2⟩ := List.mem_filter.mp hl
    exact ⟨(c2 l h1).1, (c2 l h1).2, of_decide_eq_true h2⟩
  have hq := (hI.or o ho).2.2.1
  have h100 : sn X 6 ≤ 100 := hI.fix.2.2.2.2.2.2.2.2.2.2.1
  have lenNL : (dNL X o (sn X 6)).length ≤ 100 := by
    have h := nodup_len (L := (dNL X o (sn X 6)).map (fun l : Nat => (l : Int))) (n := sn X 6) (n1.map (fun l : Nat => (l : Int)) (fun a b hab => by
      intro e
      exact hab (by omega))) (fun x hx => by
      obtain ⟨l, hl, rfl⟩ := List.mem_map.mp hx
      have := (n2 l hl).1
      omega)
    rw [List.length_map] at h
    omega
  -- the plan up to p
  have plan : ∀ p : Nat, esOk X o (sT X 8 2 o) (((dNL X o (sn X 6)).take p).foldl (dSt X) ([], sT X 8 2 o)).1 (((dNL X o (sn X 6)).take p).foldl (dSt X) ([], sT X 8 2 o)).2 ∧ 0 ≤ (((dNL X o (sn X 6)).take p).foldl (dSt X) ([], sT X 8 2 o)).2 ∧ ∀ e ∈ (((dNL X o (sn X 6)).take p).foldl (dSt X) ([], sT X 8 2 o)).1, e.1.toNat ∈ (dNL X o (sn X 6)).take p := fun p =>
    dPl_ok hI _ (by omega) (n1.sublist (List.take_sublist _ _)) (fun l hl => ⟨(n2 l (List.mem_of_mem_take hl)).1, (n2 l (List.mem_of_mem_take hl)).2.1⟩)
  -- what holds at a source
  have at_ : ∀ (p : Nat) (l : Nat) (F : fRst), (dNL X o (sn X 6))[p]? = some l → mdP X U o F (((dNL X o (sn X 6)).take p).foldl (dSt X) ([], sT X 8 2 o)) → sT F.1 14 3 l = sT U 14 3 l → sT F.1 14 2 l = sT X 6 4 l ∧ sT F.1 14 4 l = sT X 6 6 l ∧ mDvP F.1 F.2.1 (l : Int) = imin (((dNL X o (sn X 6)).take p).foldl (dSt X) ([], sT X 8 2 o)).2 (dav X l) := by
    intro p l F hl hP h3
    obtain ⟨p1, p2, p3, p4, p5⟩ := hP
    obtain ⟨q1, q2, q3⟩ := plan p
    have hm := List.mem_of_getElem? hl
    have hnot : (l : Int) ∉ ((((dNL X o (sn X 6)).take p).foldl (dSt X) ([], sT X 8 2 o)).1).map Prod.fst := fun hc => by
      obtain ⟨e, he, he2⟩ := List.mem_map.mp hc
      have h7 := q3 e he
      rw [show e.1.toNat = l by omega] at h7
      have hnd : ((dNL X o (sn X 6)).map (fun l : Nat => (l : Int))).Nodup := n1.map _ (fun a b hab e => hab (by omega))
      have hx := nodup_take (p := p) (x := (l : Int)) hnd (by rw [List.getElem?_map, hl]; rfl)
      rw [← List.map_take] at hx
      exact hx (List.mem_map.mpr ⟨l, h7, rfl⟩)
    obtain ⟨u1, u2, u3⟩ := hU l (n2 l hm).1
    have a2 : sT F.1 14 2 l = sT X 6 4 l := by rw [p2, pl_none hnot, u1]; omega
    refine ⟨a2, by rw [p3, pl_none (by rw [csL_fst]; exact hnot), u3]; omega, ?_⟩
    unfold mDvP mAvl dav av
    rw [Int.toNat_natCast, a2, h3, u2, p1, if_pos (n2 l hm).2.2]
    exact imin_comm
  intro p
  have getx : ∀ (p : Nat) (x : Int), (sE U 42 m)[p]? = some x → ∃ l : Nat, (dNL X o (sn X 6))[p]? = some l ∧ x = (l : Int) := fun p x hx => by
    rw [hL, List.getElem?_map] at hx
    cases hl : (dNL X o (sn X 6))[p]? with
    | none => rw [hl] at hx; cases hx
    | some l => rw [hl] at hx; exact ⟨l, rfl, (Option.some.inj hx).symm⟩
  have main : ∀ p : Nat, p ≤ (dNL X o (sn X 6)).length → mdP X U o (mDvN U o m p) (((dNL X o (sn X 6)).take p).foldl (dSt X) ([], sT X 8 2 o)) ∧ ((mDvN U o m p).2.2.1 ≤ 1 + p ∧ (mDvN U o m p).2.2.2 ≤ 4 + 212 * p) ∧ (sE (mDvN U o m p).1 40 o).length ≤ p := by
    intro p
    induction p with
    | zero =>
      intro _
      exact ⟨⟨h2, fun l => by show sT U 14 2 l = sT U 14 2 l - 0; omega, fun l => by show sT U 14 4 l = sT U 14 4 l - 0; omega, by show sE U 40 o = sE U 40 o ++ []; rw [List.append_nil], by show sT U 15 15 o = sT U 15 15 o + 0; omega⟩, ⟨Nat.le_refl _, Nat.le_refl _⟩, by show (sE U 40 o).length ≤ 0; rw [h40]; exact Nat.le_refl _⟩
    | succ p ih =>
      intro hp
      obtain ⟨g, ⟨g1, g2⟩, g3⟩ := ih (by omega)
      have hl : (dNL X o (sn X 6))[p]? = some ((dNL X o (sn X 6))[p]'(by omega)) := List.getElem?_eq_getElem (by omega)
      generalize (dNL X o (sn X 6))[p]'(by omega) = l at hl
      have hx : (sE U 42 m)[p]? = some ((l : Nat) : Int) := by rw [hL, List.getElem?_map, hl]; rfl
      have k3 := (mDv_keep (U := U) (o := o) (m := m) p).2.2 14 3 l (by omega) (by omega)
      obtain ⟨b1, b2, b3⟩ := at_ p l _ hl g k3
      rw [mDvN_succ hx, take_snoc hl, List.foldl_append, List.foldl_cons, List.foldl_nil]
      obtain ⟨p1, p2, p3, p4, p5⟩ := g
      unfold mDvStep
      rw [b3]
      generalize mDvN U o m p = F at *
      generalize ((dNL X o (sn X 6)).take p).foldl (dSt X) ([], sT X 8 2 o) = G at *
      obtain ⟨T, due, n1, n2⟩ := F
      obtain ⟨es, left⟩ := G
      have p1 : due = left := p1
      have p2 : ∀ l : Nat, sT T 14 2 l = sT U 14 2 l - pl es l := p2
      have p3 : ∀ l : Nat, sT T 14 4 l = sT U 14 4 l - pl (csL X es) l := p3
      have p4 : sE T 40 o = sE U 40 o ++ es.map Prod.fst := p4
      have p5 : sT T 15 15 o = sT U 15 15 o + ((csL X es).map Prod.snd).sum := p5
      have g1 : n1 ≤ 1 + p := g1
      have g2 : n2 ≤ 4 + 212 * p := g2
      have g3 : (sE T 40 o).length ≤ p := g3
      have b1 : sT T 14 2 l = sT X 6 4 l := b1
      have b2 : sT T 14 4 l = sT X 6 6 l := b2
      unfold dSt
      dsimp only
      by_cases h0 : 0 < imin left (dav X l)
      · rw [if_pos h0, if_pos h0]
        have ecost : mCost T ((l : Nat) : Int).toNat (imin left (dav X l)) = sT X 6 6 l * imin left (dav X l) / sT X 6 4 l := by
          unfold mCost
          rw [Int.toNat_natCast, b1, b2]
        have ecs : csL X (es ++ [((l : Int), imin left (dav X l))]) = csL X es ++ [((l : Int), sT X 6 6 l * imin left (dav X l) / sT X 6 4 l)] := by
          unfold csL
          rw [List.map_append]; rfl
        rw [ecost, p1]
        refine ⟨⟨rfl, fun i => ?_, fun i => ?_, ?_, ?_⟩, ⟨by show n1 + 1 ≤ 1 + (p + 1); omega, by show n2 + (2 * (sE T 40 o).length + 12) ≤ 4 + 212 * (p + 1); omega⟩, ?_⟩
        · show sT (ssE (sset (mGive T ((l : Nat) : Int).toNat _) 15 15 o _) 40 o _) 14 2 i = _
          unfold mGive
          rw [Int.toNat_natCast, sT_ssE, sT_set, if_neg (by omega), sT_set, pl_snoc]
          by_cases h : i = l
          · rw [if_pos ⟨rfl, rfl, h⟩, if_pos (by show (l : Int) = (i : Int); omega), h, p2]
            show _ = _ - (_ + imin left (dav X l))
            omega
          · rw [if_neg (fun w => h w.2.2), if_neg (by show ¬ (l : Int) = (i : Int); omega), sT_set, if_neg (by omega), p2]; omega
        · show sT (ssE (sset (mGive T ((l : Nat) : Int).toNat _) 15 15 o _) 40 o _) 14 4 i = _
          have ec2 : mCost T l (imin left (dav X l)) = sT X 6 6 l * imin left (dav X l) / sT X 6 4 l := by
            unfold mCost
            rw [b1, b2]
          unfold mGive
          rw [Int.toNat_natCast, sT_ssE, sT_set, if_neg (by omega), sT_set, if_neg (by omega), sT_set, ecs, pl_snoc, ec2]
          by_cases h : i = l
          · rw [if_pos ⟨rfl, rfl, h⟩, if_pos (by show (l : Int) = (i : Int); omega), h, p3]
            show _ = _ - (_ + sT X 6 6 l * imin left (dav X l) / sT X 6 4 l)
            omega
          · rw [if_neg (fun w => h w.2.2), if_neg (by show ¬ (l : Int) = (i : Int); omega), p3]; omega
        · show sE (ssE _ 40 o (sE T 40 o ++ [(l : Int)])) 40 o = _
          rw [sE_ssE, if_pos ⟨rfl, rfl⟩, p4, List.map_append, List.append_assoc]; rfl
        · show sT (ssE (sset (mGive T ((l : Nat) : Int).toNat _) 15 15 o _) 40 o _) 15 15 o = _
          rw [sT_ssE, sT_set, if_pos ⟨rfl, rfl, rfl⟩, ecs, List.map_append, List.sum_append, List.map_cons, List.map_nil, List.sum_cons, List.sum_nil, p5]
          show _ = _ + (_ + (sT X 6 6 l * imin left (dav X l) / sT X 6 4 l + 0))
          omega
        · show (sE (ssE _ 40 o (sE T 40 o ++ [(l : Int)])) 40 o).length ≤ p + 1
          rw [sE_ssE, if_pos ⟨rfl, rfl⟩, List.length_append]
          show (sE T 40 o).length + 1 ≤ p + 1
          omega
      · rw [if_neg h0, if_neg h0]
        exact ⟨⟨p1, p2, p3, p4, p5⟩, ⟨by show n1 ≤ 1 + (p + 1); omega, by show n2 ≤ 4 + 212 * (p + 1); omega⟩, by show (sE T 40 o).length ≤ p + 1; omega⟩
  intro hp
  obtain ⟨g, g1, g3⟩ := main p hp
  refine ⟨g, g1, fun x hx => ?_⟩
  obtain ⟨l, hl, rfl⟩ := getx p x hx
  have k3 := (mDv_keep (U := U) (o := o) (m := m) p).2.2 14 3 l (by omega) (by omega)
  obtain ⟨b1, b2, b3⟩ := at_ p l _ hl g k3
  obtain ⟨q1, q2, q3⟩ := plan p
  have hm := n2 l (List.mem_of_getElem? hl)
  obtain ⟨u1, u2, u3⟩ := hU l hm.1
  have hav := hI.Av l hm.1
  have cl := hI.cost_le hm.1
  have c0 := hI.co.1 l hm.1
  have hk' : (k : Int) * 1000000000 ≤ 1000 * 1000000000 := by omega
  have sum := q1.2.2.1
  have nn : 0 ≤ (((((dNL X o (sn X 6)).take p).foldl (dSt X) ([], sT X 8 2 o)).1).map Prod.snd).sum := by
    have : ∀ L : List (Int × Int), (∀ e ∈ L, 1 ≤ e.2) → 0 ≤ (L.map Prod.snd).sum := by
      intro L
      induction L with
      | nil => intro _; exact Int.le_refl _
      | cons y L ihL =>
        intro h
        rw [List.map_cons, List.sum_cons]
        have := h y List.mem_cons_self
        have := ihL (fun e he => h e (List.mem_cons_of_mem _ he))
        omega
    exact this _ (fun e he => by
      obtain ⟨l, -, -, -, h1, -⟩ := q1.1 e he
      exact h1)
  refine ⟨by rw [g.1]; exact ⟨q2, by omega⟩, ?_, by omega, fun h0 => ?_⟩
  · rw [Int.toNat_natCast, k3, b1, u2]
    exact ⟨hav.1, hav.2.1, hav.2.2.1⟩
  · rw [b3] at h0 ⊢
    unfold mGok
    rw [Int.toNat_natCast, b1, b2]
    have hd : dav X l = av X l := by unfold dav; rw [if_pos hm.2.2]
    have hi : imin (((dNL X o (sn X 6)).take p).foldl (dSt X) ([], sT X 8 2 o)).2 (dav X l) ≤ dav X l := by unfold imin; split <;> omega
    unfold av at hd
    exact ⟨⟨by omega, by omega⟩, hav.2.2.1, c0, by omega⟩
end ZCB4
