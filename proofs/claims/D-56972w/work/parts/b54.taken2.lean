/-! WHAT RESERVING PUTS INTO AN ORDER'S LIST: all components -/
set_option maxRecDepth 100000
/-- the lots that a component took to their end (each but the last) -/
def nlL (cs : List (Int × List (Int × Int))) : List Int := (cs.map (fun c => (c.2.dropLast).map Prod.fst)).flatten
/-- lots in rising order within a component; what a component took to its end isn't taken by a later one -/
def oOk (cs : List (Int × List (Int × Int))) : Prop := (∀ c ∈ cs, (c.2.map Prod.fst).Pairwise (· < ·)) ∧ cs.Pairwise (fun c d => ∀ x ∈ (c.2.dropLast).map Prod.fst, x ∉ d.2.map Prod.fst)
/-- entries by components: cs lists some of the components L, each with what was taken for it -/
def cOkL (X : hS) (o : Nat) (L : List Int) (cs : List (Int × List (Int × Int))) : Prop :=
  (cs.map Prod.fst).Sublist L ∧ (∀ c ∈ cs, c.2 ≠ [] ∧ (∀ e ∈ c.2, ∃ l : Nat, l < sn X 6 ∧ e.1 = l ∧ fPnum X l = sT X 4 0 c.1.toNat ∧ 1 ≤ e.2) ∧ sT X 8 2 o ≤ (c.2.map Prod.snd).sum) ∧ (nlL cs).Nodup ∧
  (∀ c ∈ cs, ∃ w : Nat, w < sn X 6 ∧ fPnum X w = sT X 4 0 c.1.toNat ∧ (w : Int) ∉ nlL cs ∧ ∃ d ∈ cs, ∃ e ∈ d.2, e.1 = (w : Int)) ∧ oOk cs
def cOk (X : hS) (o : Nat) : Prop := ∃ cs : List (Int × List (Int × Int)), (cs.map Prod.snd).flatten = fTl X o ∧ cOkL X o (fComps X o) cs
section ZDB
variable {m o : Nat} {pt n : Int} {S T U X : hS} {z : Nat → Nat}
theorem nlL_app {cs : List (Int × List (Int × Int))} {c : Int} {es : List (Int × Int)} : nlL (cs ++ [(c, es)]) = nlL cs ++ (es.dropLast).map Prod.fst := by
  unfold nlL
  rw [List.map_append, List.flatten_append, List.map_cons, List.map_nil, List.flatten_cons, List.flatten_nil, List.append_nil]
theorem ranG (hnew : sE S 26 (fOL S o) = []) (h2 : 1 ≤ sT S 8 2 o) (h4 : ∀ j ∈ fComps S o, 1 ≤ sT S 4 1 j.toNat) : ∀ p : Nat, p ≤ (fComps S o).length → rkG (fOL S o) S (fRAN S o p).1 ∧
    ((fRAN S o p).2.1 = true → ∃ cs : List (Int × List (Int × Int)), (cs.map Prod.snd).flatten = tlL (fRAN S o p).1 (fOL S o) ∧ cOkL S o ((fComps S o).take p) cs ∧ ∀ x ∈ nlL cs, av (fRAN S o p).1 x.toNat ≤ 0) := by
  intro p
  induction p with
  | zero =>
    intro _
    refine ⟨rkG.refl, fun _ => ⟨[], ?_, ⟨List.nil_sublist _, fun c hc => absurd hc List.not_mem_nil, List.nodup_nil, fun c hc => absurd hc List.not_mem_nil, fun c hc => absurd hc List.not_mem_nil, List.Pairwise.nil⟩, fun x hx => absurd hx List.not_mem_nil⟩⟩
    show [] = tlL S (fOL S o)
    unfold tlL
    rw [hnew]; rfl
  | succ p ih =>
    intro hp
    obtain ⟨g1, g2⟩ := ih (by omega)
    have hk : (fComps S o)[p]? = some ((fComps S o)[p]'(by omega)) := List.getElem?_eq_getElem (by omega)
    generalize (fComps S o)[p]'(by omega) = kk at hk
    have hkm := List.mem_of_getElem? hk
    rw [fRAN_succ hk, take_snoc hk]
    unfold fRAstep
    generalize fRAN S o p = F at *
    obtain ⟨T, fl, c1, c2⟩ := F
    have g1 : rkG (fOL S o) S T := g1
    have g2 : fl = true → ∃ cs : List (Int × List (Int × Int)), (cs.map Prod.snd).flatten = tlL T (fOL S o) ∧ cOkL S o ((fComps S o).take p) cs ∧ ∀ x ∈ nlL cs, av T x.toNat ≤ 0 := g2
    cases fl with
    | false =>
      rw [if_pos rfl]
      exact ⟨g1, fun h => absurd h Bool.false_ne_true⟩
    | true =>
      rw [if_neg (show ¬ (T, true, c1, c2).2.1 = false from fun h => absurd h.symm Bool.false_ne_true)]
      obtain ⟨cs, k1, ⟨k2, k3, k4, k5, k7, k8⟩, k6⟩ := g2 rfl
      by_cases hf : fFor T kk.toNat (sT T 8 3 o) = true
      · rw [if_pos hf]
        have e4 : ∀ j i : Nat, sT T 4 j i = sT S 4 j i := fun j i => g1.2.2.2.1 4 j i (by decide) (by omega)
        have e8 : ∀ j i : Nat, sT T 8 j i = sT S 8 j i := fun j i => g1.2.2.2.1 8 j i (by decide) (by omega)
        have e6 : sn T 6 = sn S 6 := g1.1 6 (by decide)
        have hlt : ∀ t ∈ sE T 26 (fOL S o), t.toNat < sn T 7 := g1.lt (fun t ht => by rw [hnew] at ht; exact absurd ht List.not_mem_nil)
        have hn1 : sT S 8 2 o ≤ sT S 8 2 o * sT S 4 1 kk.toNat := by
          have := Int.mul_le_mul_of_nonneg_left (h4 kk hkm) (show 0 ≤ sT S 8 2 o by omega)
          omega
        obtain ⟨es, q1, q2, ⟨q3, q3'⟩, q4, q5, q6, q7, q8⟩ := resG (S := T) (m := fOL S o) (pt := sT T 4 0 kk.toNat) (n := sT T 8 2 o * sT T 4 1 kk.toNat) hlt (by rw [e8, e4]; omega) (sn T 6) (Nat.le_refl _)
        refine ⟨g1.trans q1, fun hl => ?_⟩
        have hl0 : (fResN T (fOL S o) (sT T 4 0 kk.toNat) (sT T 8 2 o * sT T 4 1 kk.toNat) (sn T 6)).2.1 ≤ 0 := of_decide_eq_true hl
        have hsum : (es.map Prod.snd).sum = sT S 8 2 o * sT S 4 1 kk.toNat := by
          rw [e8, e4] at q3'
          rw [e8, e4, e4] at q3 hl0
          rw [e4] at q3'
          omega
        have hne : es ≠ [] := by
          rintro rfl
          rw [List.map_nil, List.sum_nil] at hsum
          omega
        have hpn : ∀ e ∈ es, ∃ l : Nat, l < sn S 6 ∧ e.1 = l ∧ fPnum S l = sT S 4 0 kk.toNat ∧ 1 ≤ e.2 ∧ 0 < av T l := fun e he => by
          obtain ⟨l, l1, l2, l3, l4, l5⟩ := q4 e he
          rw [g1.pn, e4] at l3
          exact ⟨l, by omega, l2, l3, l4, l5⟩
        have hlastm : es.getLast hne ∈ es := List.getLast_mem hne
        obtain ⟨w, w1, w2, w3, w4, w5⟩ := hpn _ hlastm
        have hdl : es.dropLast ++ [es.getLast hne] = es := List.dropLast_concat_getLast hne
        have hwd : (w : Int) ∉ (es.dropLast).map Prod.fst := by
          intro h
          rw [← hdl, List.map_append, List.map_cons, List.map_nil, List.pairwise_append] at q5
          have := q5.2.2 (w : Int) h (es.getLast hne).1 (List.mem_singleton.mpr rfl)
          omega
        have hwn : (w : Int) ∉ nlL cs := fun h => by
          have := k6 _ h
          rw [Int.toNat_natCast] at this
          omega
        have hdis : ∀ x ∈ nlL cs, x ∉ es.map Prod.fst := fun x hx h => by
          obtain ⟨e, he, rfl⟩ := List.mem_map.mp h
          obtain ⟨l, l1, l2, l3, l4, l5⟩ := hpn e he
          have := k6 _ hx
          rw [l2, Int.toNat_natCast] at this
          omega
        refine ⟨cs ++ [(kk, es)], ?_, ⟨?_, fun c hc => ?_, ?_, fun c hc => ?_, fun c hc => ?_, ?_⟩, fun x hx => ?_⟩
        · rw [List.map_append, List.flatten_append, k1, q2, List.map_cons, List.map_nil, List.flatten_cons, List.flatten_nil, List.append_nil]
        · rw [List.map_append]
          exact k2.append (List.Sublist.refl _)
        · rcases List.mem_append.mp hc with h | h
          · exact k3 c h
          · rw [List.mem_singleton] at h
            subst h
            refine ⟨hne, fun e he => ?_, by show sT S 8 2 o ≤ (es.map Prod.snd).sum; omega⟩
            obtain ⟨l, l1, l2, l3, l4, -⟩ := hpn e he
            exact ⟨l, l1, l2, l3, l4⟩
        · rw [nlL_app, List.nodup_append]
          refine ⟨k4, ?_, fun x hx y hy e => ?_⟩
          · have : (es.map Prod.fst).Nodup := q5.imp (fun h => by omega)
            exact this.sublist ((List.dropLast_sublist es).map _)
          · subst e
            obtain ⟨q, hq, hq2⟩ := List.mem_map.mp hy
            exact hdis x hx (hq2 ▸ List.mem_map_of_mem ((List.dropLast_sublist es).subset hq))
        · have new : ∀ c' : Int, sT S 4 0 c'.toNat = sT S 4 0 kk.toNat → ∃ w : Nat, w < sn S 6 ∧ fPnum S w = sT S 4 0 c'.toNat ∧ (w : Int) ∉ nlL (cs ++ [(kk, es)]) ∧ ∃ d ∈ cs ++ [(kk, es)], ∃ e ∈ d.2, e.1 = (w : Int) := fun c' hc' => by
            refine ⟨w, w1, by rw [hc']; exact w3, fun h => ?_, (kk, es), List.mem_append.mpr (Or.inr (List.mem_singleton.mpr rfl)), _, hlastm, w2⟩
            rw [nlL_app] at h
            rcases List.mem_append.mp h with h | h
            · exact hwn h
            · exact hwd h
          by_cases e : sT S 4 0 c.1.toNat = sT S 4 0 kk.toNat
          · exact new c.1 e
          · rcases List.mem_append.mp hc with h | h
            · obtain ⟨v, v1, v2, v3, d, d1, e', d2, d3⟩ := k5 c h
              refine ⟨v, v1, v2, fun h' => ?_, d, List.mem_append.mpr (Or.inl d1), e', d2, d3⟩
              rw [nlL_app] at h'
              rcases List.mem_append.mp h' with h' | h'
              · exact v3 h'
              · obtain ⟨q, hq, hq2⟩ := List.mem_map.mp h'
                obtain ⟨l, l1, l2, l3, -⟩ := hpn q ((List.dropLast_sublist es).subset hq)
                have : l = v := by omega
                subst this
                exact e (by rw [← v2, l3])
            · rw [List.mem_singleton] at h
              rw [h] at e
              exact absurd rfl e
        · rcases List.mem_append.mp hc with h | h
          · exact k7 c h
          · rw [List.mem_singleton] at h
            subst h
            exact q5
        · rw [List.pairwise_append]
          refine ⟨k8, List.pairwise_singleton _ _, fun c hc d hd x hx => ?_⟩
          rw [List.mem_singleton] at hd
          subst hd
          refine hdis x ?_
          unfold nlL
          exact List.mem_flatten.mpr ⟨_, List.mem_map_of_mem hc, hx⟩
        · rw [nlL_app] at hx
          rcases List.mem_append.mp hx with h | h
          · exact Int.le_trans (q1.2.2.2.2.2.2 _) (k6 x h)
          · obtain ⟨q, hq, rfl⟩ := List.mem_map.mp h
            exact Int.le_of_eq (q7 q hq)
      · rw [if_neg hf]
        refine ⟨g1, fun _ => ⟨cs, k1, ⟨k2.trans (List.sublist_append_left _ _), k3, k4, k5, k7, k8⟩, k6⟩⟩
/-- what an order has taken when it is promised -/
theorem raG (hnew : sE S 26 (fOL S o) = []) (h2 : 1 ≤ sT S 8 2 o) (h4 : ∀ j ∈ fComps S o, 1 ≤ sT S 4 1 j.toNat) (hok : (fRA z S o).2.1 = true) :
    ∃ T : hS, (fRA z S o).1 = sset T 8 7 o (z 1 : Nat) ∧ rkG (fOL S o) S T ∧ ∃ cs : List (Int × List (Int × Int)), (cs.map Prod.snd).flatten = tlL T (fOL S o) ∧ cOkL S o (fComps S o) cs := by
  obtain ⟨g1, g2⟩ := ranG (S := S) (o := o) hnew h2 h4 _ (Nat.le_refl _)
  unfold fRA at hok ⊢
  by_cases h : (fRAN S o (fComps S o).length).2.1 = true
  · rw [if_pos h]
    obtain ⟨cs, k1, k2, -⟩ := g2 h
    rw [List.take_length] at k2
    exact ⟨_, rfl, g1, cs, k1, k2⟩
  · rw [if_neg h] at hok
    exact absurd hok Bool.false_ne_true
/-- and when it isn't -/
theorem raG0 (hnew : sE S 26 (fOL S o) = []) (h2 : 1 ≤ sT S 8 2 o) (h4 : ∀ j ∈ fComps S o, 1 ≤ sT S 4 1 j.toNat) (hok : (fRA z S o).2.1 = false) :
    ∃ T : hS, (fRA z S o).1 = fTakeBack T o ∧ rkG (fOL S o) S T := by
  obtain ⟨g1, -⟩ := ranG (S := S) (o := o) hnew h2 h4 _ (Nat.le_refl _)
  unfold fRA at hok ⊢
  by_cases h : (fRAN S o (fComps S o).length).2.1 = true
  · rw [if_pos h] at hok
    exact absurd hok.symm Bool.false_ne_true
  · rw [if_neg h]
    exact ⟨_, rfl, g1⟩
end ZDB
