/-! THE SIMULATION: a delivery gives what was planned (Foundrymark) -/
set_option maxRecDepth 100000
/-- entries with their costs -/
def csL (S : hS) (es : List (Int × Int)) : List (Int × Int) := es.map (fun e => (e.1, sT S 6 6 e.1.toNat * e.2 / sT S 6 4 e.1.toNat))
theorem pl_snoc {L : List (Int × Int)} {q : Int × Int} {l : Nat} : pl (L ++ [q]) l = pl L l + if q.1 = (l : Int) then q.2 else 0 := by
  rw [pl_app, pl_cons]
  show pl L l + ((if q.1 = (l : Int) then q.2 else 0) + 0) = _
  omega
theorem pl_none {L : List (Int × Int)} {l : Nat} (h : (l : Int) ∉ L.map Prod.fst) : pl L l = 0 := pl_zero (fun q hq e => h (e ▸ List.mem_map_of_mem hq))
theorem csL_fst {S : hS} {es : List (Int × Int)} : (csL S es).map Prod.fst = es.map Prod.fst := by
  unfold csL
  rw [List.map_map]; rfl
theorem nodup_inj {L : List Int} {i j : Nat} {x : Int} (h : L.Nodup) (hi : L[i]? = some x) (hj : L[j]? = some x) : i = j := by
  obtain ⟨i1, i2⟩ := List.getElem?_eq_some_iff.mp hi
  obtain ⟨j1, j2⟩ := List.getElem?_eq_some_iff.mp hj
  have hp := List.pairwise_iff_getElem.mp h
  rcases Nat.lt_trichotomy i j with q | q | q
  · exact absurd (i2.trans j2.symm) (hp i j i1 j1 q)
  · exact q
  · exact absurd (j2.trans i2.symm) (hp j i j1 i1 q)
theorem nodup_take {L : List Int} {p : Nat} {x : Int} (h : L.Nodup) (hx : L[p]? = some x) : x ∉ L.take p := by
  intro hm
  obtain ⟨i, hi, e⟩ := List.getElem_of_mem hm
  rw [List.length_take] at hi
  rw [List.getElem_take] at e
  have := nodup_inj h (List.getElem?_eq_some_iff.mpr ⟨by omega, e⟩) hx
  omega
section ZCB2
variable {z : Nat → Nat} {k o m l p : Nat} {S T X : hS} {t n left : Int} {es : List (Int × Int)}
theorem fGvN_succ {t : Int} (h : (sE T 27 m)[p]? = some t) : fGvN T m (p + 1) = fGive (fGvN T m p) t.toNat := by
  unfold fGvN
  rw [take_snoc h, List.foldl_append]
  rfl
theorem fGive_T {t : Nat} {c j i : Nat} (h6 : ¬ (c = 6 ∧ (j = 4 ∨ j = 6))) (h7 : ¬ (c = 7 ∧ j = 2)) : sT (fGive X t) c j i = sT X c j i := by
  unfold fGive
  rw [sT_set, if_neg (by omega), sT_set, if_neg (by omega), sT_set, if_neg (by omega)]
theorem fGive_lot {t : Nat} : fLotOf (sset X 7 2 t (fCost X t)) (t : Int) = fLotOf X (t : Int) := by
  unfold fLotOf
  rw [sT_set, if_neg (by omega)]
theorem fGive_64 {t : Nat} {i : Nat} : sT (fGive X t) 6 4 i = if i = fLotOf X (t : Int) then sT X 6 4 i - sT X 7 1 t else sT X 6 4 i := by
  unfold fGive
  rw [sT_set]
  by_cases h : i = fLotOf X (t : Int)
  · rw [if_pos ⟨rfl, rfl, h⟩, if_pos h, h]
  · rw [if_neg (fun w => h w.2.2), if_neg h, sT_set, if_neg (by omega), sT_set, if_neg (by omega)]
theorem fGive_66 {t : Nat} {i : Nat} : sT (fGive X t) 6 6 i = if i = fLotOf X (t : Int) then sT X 6 6 i - fCost X t else sT X 6 6 i := by
  unfold fGive
  rw [sT_set, if_neg (by omega), sT_set]
  by_cases h : i = fLotOf X (t : Int)
  · rw [if_pos ⟨rfl, rfl, h⟩, if_pos h, h]
  · rw [if_neg (fun w => h w.2.2), if_neg h, sT_set, if_neg (by omega)]
theorem fGive_72 {t i : Nat} : sT (fGive X t) 7 2 i = if i = t then fCost X t else sT X 7 2 i := by
  unfold fGive
  rw [sT_set, if_neg (by omega), sT_set, if_neg (by omega), sT_set]
  by_cases h : i = t
  · rw [if_pos ⟨rfl, rfl, h⟩, if_pos h]
  · rw [if_neg (fun w => h w.2.2), if_neg h]
/-- behind p gives -/
def gvP (S : hS) (es : List (Int × Int)) (L : List Int) (p : Nat) (T G : hS) : Prop := (∀ l : Nat, sT G 6 4 l = sT S 6 4 l - pl (es.take p) l) ∧ (∀ l : Nat, sT G 6 6 l = sT S 6 6 l - pl (csL S (es.take p)) l) ∧ (∀ (q : Nat) (u : Int) (e : Int × Int), q < p → L[q]? = some u → es[q]? = some e → sT G 7 2 u.toNat = sT S 6 6 e.1.toNat * e.2 / sT S 6 4 e.1.toNat) ∧ ∀ i : Nat, (∀ u ∈ L.take p, u.toNat ≠ i) → sT G 7 2 i = sT T 7 2 i
theorem gvF (hI : iAll z k S) (hk : k ≤ 1000) (hG : plG S T) (he : tlD T (sn S 27) = es) (hO : esOk S o n es left) : ∀ p : Nat, p ≤ (sE T 27 (sn S 27)).length → gvP S es (sE T 27 (sn S 27)) p T (fGvN T (sn S 27) p) ∧ ∀ t : Int, (sE T 27 (sn S 27))[p]? = some t → fGok (fGvN T (sn S 27) p) t.toNat := by
  obtain ⟨a1, a2, a3, a4, a5, a6, a7, a8, a9⟩ := hG
  obtain ⟨o1, o2, o3, o4, o5⟩ := hO
  have hlen : es.length = (sE T 27 (sn S 27)).length := by rw [← he]; unfold tlD; rw [List.length_map]
  have key : ∀ (p : Nat) (t : Int), (sE T 27 (sn S 27))[p]? = some t → ∃ e : Int × Int, es[p]? = some e ∧ e ∈ es ∧ sT T 7 0 t.toNat = e.1 ∧ sT T 7 1 t.toNat = e.2 ∧ t ∈ sE T 27 (sn S 27) := fun p t ht => by
    refine ⟨(sT T 7 0 t.toNat, sT T 7 1 t.toNat), ?_, ?_, rfl, rfl, List.mem_of_getElem? ht⟩
    · rw [← he]; unfold tlD; rw [List.getElem?_map, ht]; rfl
    · rw [← he]; unfold tlD; exact List.mem_map.mpr ⟨t, List.mem_of_getElem? ht, rfl⟩
  have full : ∀ p : Nat, gvP S es (sE T 27 (sn S 27)) p T (fGvN T (sn S 27) p) → ∀ (t : Int) (e : Int × Int), (sE T 27 (sn S 27))[p]? = some t → es[p]? = some e → sT T 7 0 t.toNat = e.1 → sT T 7 1 t.toNat = e.2 → e ∈ es → fLotOf (fGvN T (sn S 27) p) ((t.toNat : Nat) : Int) = e.1.toNat ∧ sT (fGvN T (sn S 27) p) 6 4 e.1.toNat = sT S 6 4 e.1.toNat ∧ sT (fGvN T (sn S 27) p) 6 6 e.1.toNat = sT S 6 6 e.1.toNat ∧ sT (fGvN T (sn S 27) p) 7 1 t.toNat = e.2 := by
    intro p hp t e ht hes h0 h1 hem
    obtain ⟨p1, p2, -, -⟩ := hp
    obtain ⟨l, l1, l2, l3, l4⟩ := o1 e hem
    have hn : ((l : Nat) : Int) ∉ (es.take p).map Prod.fst := by
      rw [List.map_take]
      have := nodup_take (p := p) (x := e.1) o2 (by rw [List.getElem?_map, hes]; rfl)
      rw [l2] at this
      exact this
    have en : e.1.toNat = l := by omega
    refine ⟨?_, ?_, ?_, ?_⟩
    · unfold fLotOf
      rw [Int.toNat_natCast, fGv_sT (by omega) (by omega), h0]
    · rw [p1, en, pl_none hn]; omega
    · rw [p2, en, pl_none (by rw [csL_fst]; exact hn)]; omega
    · rw [fGv_sT (by omega) (by omega), h1]
  have main : ∀ p : Nat, p ≤ (sE T 27 (sn S 27)).length → gvP S es (sE T 27 (sn S 27)) p T (fGvN T (sn S 27) p) := by
    intro p
    induction p with
    | zero =>
      intro _
      refine ⟨fun l => ?_, fun l => ?_, fun q u e hq => absurd hq (Nat.not_lt_zero _), fun i _ => rfl⟩
      · show sT T 6 4 l = sT S 6 4 l - 0
        rw [a5 6 4 l (by decide)]; omega
      · show sT T 6 6 l = sT S 6 6 l - 0
        rw [a5 6 6 l (by decide)]; omega
    | succ p ih =>
      intro hp
      have g := ih (by omega)
      have ht : (sE T 27 (sn S 27))[p]? = some ((sE T 27 (sn S 27))[p]'(by omega)) := List.getElem?_eq_getElem (by omega)
      generalize (sE T 27 (sn S 27))[p]'(by omega) = t at ht
      obtain ⟨e, e1, e2, e3, e4, e5⟩ := key p t ht
      obtain ⟨f1, f2, f3, f4⟩ := full p g t e ht e1 e3 e4 e2
      obtain ⟨l, l1, l2, l3, l4⟩ := o1 e e2
      have el : e.1.toNat = l := by omega
      have ec : fCost (fGvN T (sn S 27) p) t.toNat = sT S 6 6 e.1.toNat * e.2 / sT S 6 4 e.1.toNat := by
        unfold fCost
        rw [f1, f2, f3, f4]
      obtain ⟨g1, g2, g3, g4⟩ := g
      rw [fGvN_succ ht]
      have etk : es.take (p + 1) = es.take p ++ [e] := take_snoc e1
      refine ⟨fun i => ?_, fun i => ?_, fun q u e' hq hu he' => ?_, fun i hi => ?_⟩
      · rw [fGive_64, f1, f4, etk, pl_snoc, g1]
        by_cases h : i = e.1.toNat
        · rw [if_pos h, if_pos (by omega)]; omega
        · rw [if_neg h, if_neg (by omega)]; omega
      · have ecs : csL S (es.take p ++ [e]) = csL S (es.take p) ++ [(e.1, sT S 6 6 e.1.toNat * e.2 / sT S 6 4 e.1.toNat)] := by
          unfold csL
          rw [List.map_append]; rfl
        rw [fGive_66, f1, ec, etk, ecs, pl_snoc, g2]
        by_cases h : i = e.1.toNat
        · rw [if_pos h, if_pos (by show e.1 = (i : Int); omega)]
          show _ = _ - (_ + (sT S 6 6 e.1.toNat * e.2 / sT S 6 4 e.1.toNat))
          omega
        · rw [if_neg h, if_neg (by show ¬ e.1 = (i : Int); omega)]; omega
      · rw [fGive_72]
        by_cases hqp : q = p
        · subst hqp
          rw [ht] at hu
          rw [e1] at he'
          cases hu
          cases he'
          rw [if_pos rfl, ec]
        · have hne : u.toNat ≠ t.toNat := by
            intro w
            have h1 := a7 u (List.mem_of_getElem? hu)
            have h2 := a7 t e5
            have : u = t := by omega
            subst this
            exact hqp (nodup_inj a8 hu ht)
          rw [if_neg hne]
          exact g3 q u e' (by omega) hu he'
      · have hi' : ∀ u ∈ (sE T 27 (sn S 27)).take p, u.toNat ≠ i := fun u hu => hi u (by rw [take_snoc ht]; exact List.mem_append_left _ hu)
        have hti : t.toNat ≠ i := hi t (by rw [take_snoc ht]; exact List.mem_append_right _ (List.mem_singleton.mpr rfl))
        rw [fGive_72, if_neg (fun w => hti w.symm)]
        exact g4 i hi'
  intro p hp
  refine ⟨main p hp, fun t ht => ?_⟩
  obtain ⟨e, e1, e2, e3, e4, e5⟩ := key p t ht
  obtain ⟨f1, f2, f3, f4⟩ := full p (main p hp) t e ht e1 e3 e4 e2
  obtain ⟨l, l1, l2, l3, l4, l5⟩ := o1 e e2
  have el : e.1.toNat = l := by omega
  have hav := hI.Av l l1
  have hd : dav S l ≤ av S l := by
    unfold dav
    split
    · exact Int.le_refl _
    · unfold av; omega
  have cl := hI.cost_le l1
  have c0 := hI.co.1 l l1
  unfold fGok
  rw [f1, f2, f3, f4, el]
  unfold av at hd
  have hk' : (k : Int) * 1000000000 ≤ 1000 * 1000000000 := by omega
  exact ⟨⟨l4, by omega⟩, hav.2.2.1, c0, by omega⟩
end ZCB2
