/-! THE SIMULATION: behind a delivery; Foundrymark's invariants -/
set_option maxRecDepth 100000
theorem pl_nd {l : Nat} : ∀ {L : List (Int × Int)}, (L.map Prod.fst).Nodup → ((∀ q ∈ L, q.1 ≠ (l : Int)) ∧ pl L l = 0) ∨ ∃ q ∈ L, q.1 = (l : Int) ∧ pl L l = q.2
  | [], _ => Or.inl ⟨fun q hq => absurd hq List.not_mem_nil, rfl⟩
  | x :: L, h => by
    rw [List.map_cons, List.nodup_cons] at h
    rw [pl_cons]
    by_cases e : x.1 = (l : Int)
    · refine Or.inr ⟨x, List.mem_cons_self, e, ?_⟩
      rw [if_pos e, pl_none (fun w => h.1 (by rw [e]; exact w))]
      omega
    · rw [if_neg e]
      rcases pl_nd (l := l) h.2 with ⟨h1, h2⟩ | ⟨q, h1, h2, h3⟩
      · refine Or.inl ⟨fun q hq => ?_, by omega⟩
        rcases List.mem_cons.mp hq with rfl | hq
        · exact e
        · exact h1 q hq
      · exact Or.inr ⟨q, List.mem_cons_of_mem _ h1, h2, by omega⟩
theorem isum_pl {n : Nat} : ∀ {L : List (Int × Int)}, (∀ q ∈ L, 0 ≤ q.1 ∧ q.1 < n) → isum n (fun l => pl L l) = (L.map Prod.snd).sum
  | [], _ => isum_z0 (fun _ _ => rfl)
  | x :: L, h => by
    have h1 := h x List.mem_cons_self
    have e : isum n (fun l => pl (x :: L) l) = isum n (fun l => pl L l) + x.2 := by
      refine isum_up (j := x.1.toNat) ?_ (fun i hi => ?_) (by omega)
      · show pl (x :: L) x.1.toNat = pl L x.1.toNat + x.2
        rw [pl_cons, if_pos (by omega)]; omega
      · show pl (x :: L) i = pl L i
        rw [pl_cons, if_neg (by omega)]; omega
    rw [e, isum_pl (fun q hq => h q (List.mem_cons_of_mem _ hq)), List.map_cons, List.sum_cons]
    omega
theorem isum_sub {n : Nat} {f g : Nat → Int} : isum n (fun i => f i - g i) = isum n f - isum n g := by
  have h := isum_add (f := fun i => f i - g i) (g := g) n
  have e : isum n (fun i => (f i - g i) + g i) = isum n f := isum_cg (fun i _ => by show f i - g i + g i = f i; omega)
  rw [e] at h
  omega
theorem isum_mono {f g : Nat → Int} : ∀ {n : Nat}, (∀ i : Nat, i < n → f i ≤ g i) → isum n f ≤ isum n g := by
  intro n
  induction n with
  | zero => intro _; exact Int.le_refl _
  | succ n ih =>
    intro h
    rw [isum_succ, isum_succ]
    have := ih (fun i hi => h i (by omega))
    have := h n (by omega)
    omega
section ZCB6
variable {z : Nat → Nat} {k o m : Nat} {X T : hS} {n left : Int} {es : List (Int × Int)}
theorem dZ_n {c : Nat} : sn (fDlZ z T o m) c = sn T c := by
  show sn (fDlU T m) c = _
  exact fGv_sn
theorem dZ_E {c i : Nat} : sE (fDlZ z T o m) c i = if c = 27 ∧ i = fDelL T o then sE T 27 m else sE T c i := by
  show sE (ssE (fDlU T m) 27 (fDelL T o) (sE T 27 m)) c i = _
  rw [sE_ssE]
  split
  · rfl
  · exact fGv_sE
theorem dZ_U {c j i : Nat} (h : ¬ (c = 8 ∧ (j = 7 ∨ j = 12) ∧ i = o)) : sT (fDlZ z T o m) c j i = sT (fDlU T m) c j i := by
  unfold fDlZ
  rw [sT_set, if_neg (by omega), sT_set, if_neg (by omega), sT_ssE]
theorem dZ_T {c j i : Nat} (h : ¬ (c = 8 ∧ (j = 7 ∨ j = 12) ∧ i = o)) (h6 : ¬ (c = 6 ∧ (j = 4 ∨ j = 6))) (h7 : ¬ (c = 7 ∧ j = 2)) : sT (fDlZ z T o m) c j i = sT T c j i := by
  rw [dZ_U h]
  exact fGv_sT h6 h7
theorem dZ_87 : sT (fDlZ z T o m) 8 7 o = (z 5 : Nat) := by
  unfold fDlZ
  rw [sT_set, if_pos ⟨rfl, rfl, rfl⟩]
theorem dZ_812 : sT (fDlZ z T o m) 8 12 o = sT T 0 6 0 := by
  unfold fDlZ
  rw [sT_set, if_neg (by omega), sT_set, if_pos ⟨rfl, rfl, rfl⟩]
theorem dZ_c {c : Nat} (h : c ≠ 6 ∧ c ≠ 7 ∧ c ≠ 8 ∧ c ≠ 27) : ceq T (fDlZ z T o m) c := ⟨dZ_n, fun j i => dZ_T (by omega) (by omega) (by omega), fun i => by rw [dZ_E, if_neg (by omega)]⟩
/-- what was given, in all -/
def dvF (X T : hS) (m : Nat) (es : List (Int × Int)) : Prop := (∀ l : Nat, sT (fDlU T m) 6 4 l = sT X 6 4 l - pl es l) ∧ (∀ l : Nat, sT (fDlU T m) 6 6 l = sT X 6 6 l - pl (csL X es) l) ∧ (sE T 27 m).map (fun t => sT (fDlU T m) 7 2 t.toNat) = (csL X es).map Prod.snd ∧ (∀ i : Nat, i < sn X 7 → sT (fDlU T m) 7 2 i = sT X 7 2 i) ∧ (∀ t ∈ sE T 27 m, 0 ≤ sT (fDlU T m) 7 2 t.toNat) ∧ (∀ i : Nat, i < sn T 7 → 0 ≤ sT (fDlU T m) 7 2 i)
theorem dvF_of (hX : iAll z k X) (hk : k ≤ 1000) (hG : plG X T) (hO : esOk X o n es left) (he : tlD T (sn X 27) = es) : dvF X T (sn X 27) es := by
  have hlen : es.length = (sE T 27 (sn X 27)).length := by rw [← he]; unfold tlD; rw [List.length_map]
  obtain ⟨g1, g2, g3, g4⟩ := (gvF hX hk hG he hO (sE T 27 (sn X 27)).length (Nat.le_refl _)).1
  have hes : es.take (sE T 27 (sn X 27)).length = es := List.take_of_length_le (by omega)
  rw [hes] at g1 g2
  rw [List.take_length] at g4
  have h7 : ∀ t ∈ sE T 27 (sn X 27), ∃ e ∈ es, sT (fDlU T (sn X 27)) 7 2 t.toNat = sT X 6 6 e.1.toNat * e.2 / sT X 6 4 e.1.toNat := fun t ht => by
    obtain ⟨q, hq, e⟩ := List.getElem_of_mem ht
    exact ⟨es[q]'(by omega), List.getElem_mem _, g3 q t _ hq (by rw [List.getElem?_eq_getElem hq, e]) (List.getElem?_eq_getElem (by omega))⟩
  have hold : ∀ i : Nat, i < sn X 7 → sT (fDlU T (sn X 27)) 7 2 i = sT X 7 2 i := fun i hi => by
    show sT (fGvN T (sn X 27) _) 7 2 i = _
    rw [g4 i (fun u hu w => by
      have := hG.2.2.2.2.2.2.1 u hu
      omega)]
    exact hG.2.2.2.2.2.1 2 i hi
  have hnn : ∀ t ∈ sE T 27 (sn X 27), 0 ≤ sT (fDlU T (sn X 27)) 7 2 t.toNat := fun t ht => by
    obtain ⟨e, he1, he2⟩ := h7 t ht
    obtain ⟨l, l1, l2, l3, l4, l5⟩ := hO.1 e he1
    rw [he2]
    have c0 := hX.co.1 l l1
    have el : e.1.toNat = l := by omega
    have hav := hX.Av l l1
    rw [el]
    exact Int.ediv_nonneg (Int.mul_nonneg c0 (by omega)) (by omega)
  refine ⟨g1, g2, ?_, hold, hnn, fun i hi => ?_⟩
  · refine List.ext_getElem? (fun q => ?_)
    rw [List.getElem?_map, List.getElem?_map]
    unfold csL
    rw [List.getElem?_map]
    by_cases hq : q < (sE T 27 (sn X 27)).length
    · rw [List.getElem?_eq_getElem hq, List.getElem?_eq_getElem (show q < es.length by omega)]
      exact congrArg some (g3 q _ _ hq (List.getElem?_eq_getElem hq) (List.getElem?_eq_getElem (by omega)))
    · rw [List.getElem?_eq_none (by omega), List.getElem?_eq_none (by omega)]; rfl
  · by_cases e : ∃ u ∈ sE T 27 (sn X 27), u.toNat = i
    · obtain ⟨u, hu, rfl⟩ := e
      exact hnn u hu
    · show 0 ≤ sT (fGvN T (sn X 27) _) 7 2 i
      rw [g4 i (fun u hu w => e ⟨u, hu, w⟩)]
      by_cases hi7 : i < sn X 7
      · rw [hG.2.2.2.2.2.1 2 i hi7]; exact hX.co.2.2.1 i hi7
      · rw [(hG.2.2.2.2.2.2.2.2 i (by omega) hi).2.2]; exact Int.le_refl _
theorem es_pl (hX : iAll z k X) (hO : esOk X o n es left) (l : Nat) (hl : l < sn X 6) : (0 ≤ pl es l ∧ pl es l ≤ av X l) ∧ (0 ≤ pl (csL X es) l ∧ pl (csL X es) l ≤ sT X 6 6 l) := by
  obtain ⟨o1, o2, -⟩ := hO
  have hd := dav_range hX hl
  have hdv : dav X l ≤ av X l := by
    have hav := hX.Av l hl
    unfold dav
    split
    · exact Int.le_refl _
    · unfold av; omega
  have c0 := hX.co.1 l hl
  have hav := hX.Av l hl
  constructor
  · rcases pl_nd (l := l) o2 with ⟨-, h⟩ | ⟨q, h1, h2, h3⟩
    · rw [h]; exact ⟨Int.le_refl _, by omega⟩
    · obtain ⟨l', l1, l2, l3, l4, l5⟩ := o1 q h1
      have : l' = l := by omega
      subst this
      rw [h3]; exact ⟨by omega, by omega⟩
  · rcases pl_nd (L := csL X es) (l := l) (by rw [csL_fst]; exact o2) with ⟨-, h⟩ | ⟨q, h1, h2, h3⟩
    · rw [h]; exact ⟨Int.le_refl _, c0⟩
    · unfold csL at h1
      obtain ⟨e, he, rfl⟩ := List.mem_map.mp h1
      obtain ⟨l', l1, l2, l3, l4, l5⟩ := o1 e he
      have h2 : e.1 = (l : Int) := h2
      have : l' = l := by omega
      subst this
      rw [h3]
      have el : e.1.toNat = l' := by omega
      show 0 ≤ sT X 6 6 e.1.toNat * e.2 / sT X 6 4 e.1.toNat ∧ sT X 6 6 e.1.toNat * e.2 / sT X 6 4 e.1.toNat ≤ _
      rw [el]
      unfold av at hdv
      have h4 : 0 < sT X 6 4 l' := by omega
      refine ⟨Int.ediv_nonneg (Int.mul_nonneg c0 (by omega)) (by omega), ?_⟩
      refine Int.ediv_le_of_le_mul h4 ?_
      exact Int.mul_le_mul_of_nonneg_left (by omega) c0
theorem delInv (hz : zInj z) (hX : iAll z k X) (hk : k ≤ 1000) (hG : plG X T) (ho : o < sn X 8) (hst : fDelOk z X o = true) (hO : esOk X o n es left) (he : tlD T (sn X 27) = es) : iAll z k (fDlZ z T o (sn X 27)) := by
  have hI := hG.inv hX
  obtain ⟨d4, d6, d7, d7o, d7n, d7a⟩ := dvF_of hX hk hG hO he
  have E6 := fun j i => (hG.ceq (c := 6) (by decide)).2.1 j i
  have n6 : sn T 6 = sn X 6 := (hG.ceq (c := 6) (by decide)).1
  have n8 : sn T 8 = sn X 8 := (hG.ceq (c := 8) (by decide)).1
  have e8 := fun j i => (hG.ceq (c := 8) (by decide)).2.1 j i
  have hpl := fun l hl => es_pl hX hO l hl
  have ho' : o < sn T 8 := by omega
  have eT : ∀ t ∈ sE T 27 (sn X 27), sn X 7 ≤ t.toNat := fun t ht => (hG.2.2.2.2.2.2.1 t ht).2.1
  obtain ⟨oL1, oL2, oL3, oL4⟩ := hG.oL hX ho
  have emD : sn X 27 ≠ fDelL T o := by omega
  have hemp : sE T 27 (fDelL T o) = [] := by
    rw [oL3, hG.e27 oL4]
    refine (hX.em o ho).2.1 (fun w => ?_)
    have hz5 : (z 5 : Int) ≠ (z 0 : Nat) := fun e => absurd (hz 5 0 (by decide) (by decide) (by omega)) (by decide)
    have hz54 : (z 5 : Int) ≠ (z 4 : Nat) := fun e => absurd (hz 5 4 (by decide) (by decide) (by omega)) (by decide)
    unfold fDelOk fStg at hst
    rw [w, decide_eq_false hz5, decide_eq_false hz54, Bool.and_false] at hst
    cases hst
  have stc : ((sT T 8 1 o).toNat % 2 = 1 ∧ sT T 8 7 o = (z 0 : Nat)) ∨ sT T 8 7 o = (z 4 : Nat) := by
    rw [e8, e8]
    unfold fDelOk fStg at hst
    rcases (Bool.or_eq_true _ _).mp hst with h | h
    · obtain ⟨h1, h2⟩ := (Bool.and_eq_true _ _).mp h
      exact Or.inl ⟨of_decide_eq_true h1, of_decide_eq_true h2⟩
    · exact Or.inr (of_decide_eq_true h)
  have nst : ∀ s : Nat, s = 1 ∨ s = 2 ∨ s = 3 → sT T 8 7 o ≠ (z s : Nat) := fun s hs w => by
    rcases stc with ⟨-, h⟩ | h
    · exact absurd (hz s 0 (by omega) (by decide) (by omega)) (by omega)
    · exact absurd (hz s 4 (by omega) (by decide) (by omega)) (by omega)
  have z5 : ∀ s : Nat, s < 5 → (z 5 : Int) ≠ (z s : Nat) := fun s hs w => absurd (hz 5 s (by decide) (by omega) (by omega)) (by omega)
  obtain ⟨i1, i2, i3, i4, i5, i6, i7, i8, i9, i10, i11, i12, i13, i14⟩ := hI
  have u := fun (c : Nat) (h : c ≠ 6 ∧ c ≠ 7 ∧ c ≠ 8 ∧ c ≠ 27) => dZ_c (z := z) (T := T) (o := o) (m := sn X 27) h
  generalize hD : fDlZ z T o (sn X 27) = D at *
  have Dn : ∀ c : Nat, sn D c = sn T c := fun c => by rw [← hD]; exact dZ_n
  have v6 : ∀ q i : Nat, q ≠ 4 ∧ q ≠ 6 → sT D 6 q i = sT T 6 q i := fun q i h => by rw [← hD]; exact dZ_T (by omega) (by omega) (by omega)
  have v7 : ∀ q i : Nat, q ≠ 2 → sT D 7 q i = sT T 7 q i := fun q i h => by rw [← hD]; exact dZ_T (by omega) (by omega) (by omega)
  have v8 : ∀ q i : Nat, ¬ ((q = 7 ∨ q = 12) ∧ i = o) → sT D 8 q i = sT T 8 q i := fun q i h => by rw [← hD]; exact dZ_T (by omega) (by omega) (by omega)
  have D87 : sT D 8 7 o = (z 5 : Nat) := by rw [← hD]; exact dZ_87
  have D812 : sT D 8 12 o = sT T 0 6 0 := by rw [← hD]; exact dZ_812
  have D4 : ∀ l : Nat, sT D 6 4 l = sT X 6 4 l - pl es l := fun l => by rw [← hD, dZ_U (by omega)]; exact d4 l
  have D6 : ∀ l : Nat, sT D 6 6 l = sT X 6 6 l - pl (csL X es) l := fun l => by rw [← hD, dZ_U (by omega)]; exact d6 l
  have D72 : ∀ i : Nat, sT D 7 2 i = sT (fDlU T (sn X 27)) 7 2 i := fun i => by rw [← hD, dZ_U (by omega)]
  have DE : ∀ c i : Nat, ¬ (c = 27 ∧ i = fDelL T o) → sE D c i = sE T c i := fun c i h => by rw [← hD, dZ_E, if_neg h]
  have DEo : sE D 27 (fDelL T o) = sE T 27 (sn X 27) := by rw [← hD, dZ_E, if_pos ⟨rfl, rfl⟩]
  have E26 : ∀ i : Nat, sE D 26 i = sE T 26 i := fun i => DE 26 i (by omega)
  have epc : ∀ x : Int, fPc D x = fPc T x := fPc_congr ((u 21 (by decide)).2.2 0)
  have enp : np D = np T := by
    show (sE D 21 0).length = (sE T 21 0).length
    rw [DE 21 0 (by omega)]
  have eOL : ∀ q : Nat, fOL D q = fOL T q := fun q => congrArg Int.toNat (v8 5 q (by omega))
  have eDL : ∀ q : Nat, fDelL D q = fDelL T q := fun q => congrArg Int.toNat (v8 6 q (by omega))
  have eTl : ∀ q : Nat, fTl D q = fTl T q := fun q => fTl_congr (eOL q) (E26 _) (fun t _ => ⟨v7 0 _ (by decide), v7 1 _ (by decide)⟩)
  have dne : ∀ q : Nat, q < sn T 8 → q ≠ o → fDelL T q ≠ fDelL T o := fun q hq hne w => by
    have h1 := (i6 q hq).2.2.2.2.2.2.1
    have h2 := (i6 o ho').2.2.2.2.2.2.1
    unfold fDelL at w
    exact hne (i7.2.1 q o hq ho' (by omega))
  have eDv : ∀ q : Nat, q < sn T 8 → q ≠ o → fDv D q = fDv T q := fun q hq hne => by
    unfold fDv
    rw [eDL, DE 27 _ (fun w => dne q hq hne w.2)]
    exact List.map_congr_left (fun t _ => by rw [v7 0 _ (by decide), v7 1 _ (by decide)])
  have eDvo : fDv D o = es := by
    unfold fDv
    rw [eDL, DEo, ← he]
    exact List.map_congr_left (fun t _ => by rw [v7 0 _ (by decide), v7 1 _ (by decide)])
  have eDvT : fDv T o = [] := by
    unfold fDv
    rw [hemp]; rfl
  have st2 : ∀ q s : Nat, s = 1 ∨ s = 2 ∨ s = 3 → (sT D 8 7 q = (z s : Nat) ↔ sT T 8 7 q = (z s : Nat)) := fun q s hs => by
    by_cases e : q = o
    · rw [e, D87]
      exact ⟨fun w => absurd w (z5 s (by omega)), fun w => absurd w (nst s hs)⟩
    · rw [v8 7 q (by omega)]
  have ePr : ∀ q : Nat, fPr z D q = fPr z T q := fun q => decide_eq_decide.mpr (st2 q 1 (by omega))
  refine ⟨?_, i2.cg (u 2 (by decide)) (u 3 (by decide)) (u 4 (by decide)) (u 5 (by decide)) (u 21 (by decide)) (u 24 (by decide)) (u 25 (by decide)) (by rw [Dn]; exact Nat.le_refl _), i3.cg (u 0 (by decide)) (u 1 (by decide)) (Dn 45), ?_, ?_, ?_, ?_, ?_, ?_, ?_, ?_, ?_, ?_, i14.cg (u 9 (by decide)) (u 28 (by decide)) (u 48 (by decide))⟩
  · unfold fFix at i1 ⊢
    have f0 := u 0 (by decide)
    rw [f0.1, f0.2.1, f0.2.1, f0.2.1, f0.2.1, f0.2.1, DE 20 0 (by omega), DE 21 0 (by omega), DE 22 0 (by omega), DE 23 0 (by omega), Dn, Dn, Dn]
    exact i1
  · unfold iLo at i4 ⊢
    simp only [Dn, E26, enp, epc, v6 0 _ (by decide), v6 1 _ (by decide), v6 2 _ (by decide), v6 3 _ (by decide), v6 7 _ (by decide), v7 0 _ (by decide)]
    exact i4
  · obtain ⟨b1, b2, b3⟩ := i5
    refine ⟨fun i hi t ht => ?_, fun i hi t ht => ?_, fun t ht => ?_⟩
    · rw [Dn] at hi
      rw [E26] at ht
      rw [Dn]
      exact b1 i hi t ht
    · rw [Dn] at hi
      rw [Dn]
      by_cases e : i = fDelL T o
      · rw [e, DEo] at ht
        exact b2 (sn X 27) (by rw [hG.2.1]; omega) t ht
      · rw [DE 27 i (by omega)] at ht
        exact b2 i hi t ht
    · rw [Dn] at ht
      rw [Dn, v7 0 _ (by decide), v7 1 _ (by decide)]
      exact b3 t ht
  · intro q hq
    rw [Dn] at hq
    obtain ⟨a0, a1, a2, a3, a4, a5, a6, a7, a8, a9, a10, a11, a12, a13, a14, a15, a16⟩ := i6 q hq
    simp only [epc, enp, Dn, v6 1 _ (by decide)]
    rw [v8 0 q (by omega), v8 1 q (by omega), v8 2 q (by omega), v8 3 q (by omega), v8 4 q (by omega), v8 5 q (by omega), v8 6 q (by omega), v8 8 q (by omega), v8 9 q (by omega), v8 10 q (by omega), v8 11 q (by omega), v8 13 q (by omega)]
    by_cases e : q = o
    · subst e
      rw [D87, D812]
      refine ⟨a0, a1, a2, a3, a4, a5, a6, ⟨5, by decide, rfl⟩, a8, a9, a10, a11, i3.2.1, fun _ => Or.inr rfl, fun w => ?_, fun _ w => absurd rfl w, a16⟩
      rcases w with w | w
      · exact absurd w (z5 0 (by decide))
      · exact absurd w (z5 1 (by decide))
    · rw [v8 7 q (by omega), v8 12 q (by omega)]
      exact ⟨a0, a1, a2, a3, a4, a5, a6, a7, a8, a9, a10, a11, a12, a13, a14, a15, a16⟩
  · obtain ⟨a1, a2, a3, a4⟩ := i7
    have w5 : ∀ q : Nat, sT D 8 5 q = sT T 8 5 q := fun q => v8 5 q (by omega)
    have w6 : ∀ q : Nat, sT D 8 6 q = sT T 8 6 q := fun q => v8 6 q (by omega)
    simp only [iSp, Dn, w5, w6, v6 3 _ (by decide)]
    refine ⟨a1, a2, fun l y hl hy h => ?_, a4⟩
    by_cases e : y = o
    · rw [e, D87]; exact Or.inr rfl
    · rw [v8 7 y (by omega)]; exact a3 l y hl hy h
  · have hqk : ∀ q : Nat, fQok D q ↔ fQok T q := fun q => by
      unfold fQok fOpL
      rw [v8 1 q (by omega), v8 9 q (by omega), v8 8 q (by omega), (u 2 (by decide)).2.1, (u 25 (by decide)).2.2]
    obtain ⟨a1, a2, a3⟩ := i8
    have d45 : ∀ i : Nat, sE D 45 i = sE T 45 i := fun i => DE 45 i (by omega)
    simp only [iQw, Dn, d45, (u 1 (by decide)).2.1, hqk, st2 _ 2 (by omega), st2 _ 3 (by omega)]
    exact ⟨a1, a2, a3⟩
  · intro l hl
    rw [Dn] at hl
    obtain ⟨a1, a2, a3⟩ := i9 l hl
    obtain ⟨⟨q1, q2⟩, -⟩ := hpl l (by omega)
    have c1 : isum (sn T 8) (fun q => if fPr z D q = true then pl (fTl D q) l else 0) = isum (sn T 8) (fun q => if fPr z T q = true then pl (fTl T q) l else 0) := isum_cg (fun q _ => by show (if fPr z D q = true then pl (fTl D q) l else 0) = _; rw [ePr, eTl])
    have c2 : isum (sn T 8) (fun q => (if fPr z D q = true then 0 else pl (fTl D q) l) + pl (fDv D q) l) = isum (sn T 8) (fun q => (if fPr z T q = true then 0 else pl (fTl T q) l) + pl (fDv T q) l) + pl es l := by
      have h1 : isum (sn T 8) (fun q => (if fPr z D q = true then 0 else pl (fTl D q) l) + pl (fDv D q) l) = isum (sn T 8) (fun q => ((if fPr z T q = true then 0 else pl (fTl T q) l) + pl (fDv T q) l) + if q = o then pl es l else 0) := isum_cg (fun q hq => by
        rw [ePr, eTl]
        by_cases e : q = o
        · rw [e, eDvo, eDvT, if_pos rfl, pl_nil]; omega
        · rw [eDv q hq e, if_neg e]; omega)
      rw [h1]
      exact isum_up (j := o) (by show _ + (if o = o then _ else _) = _; rw [if_pos rfl]) (fun q hq => by show _ + (if q = o then _ else _) = _; rw [if_neg hq]; omega) ho'
    unfold av at q2
    rw [E6] at a1 a2 a3
    rw [E6] at a2 a3
    rw [Dn, c1, c2, v6 5 l (by decide), D4, v6 2 l (by decide), E6, E6]
    refine ⟨a1, by omega, by omega⟩
  · obtain ⟨a1, a2, a3, a4, a5, a6⟩ := i10
    have uwD : fUw z D o = false := by
      unfold fUw fStg
      rw [D87, decide_eq_false (z5 2 (by decide)), decide_eq_false (z5 3 (by decide))]; rfl
    have uwT : fUw z T o = false := by
      unfold fUw fStg
      rw [decide_eq_false (nst 2 (by omega)), decide_eq_false (nst 3 (by omega))]; rfl
    have co : ∀ q : Nat, q < sn T 8 → fCoO z D q = fCoO z T q + (if q = o then ((csL X es).map Prod.snd).sum else 0) := fun q hq => by
      unfold fCoO
      rw [eDL]
      by_cases e : q = o
      · subst e
        have e3 : (sE T 27 (sn X 27)).map (fun t => sT D 7 2 t.toNat) = (csL X es).map Prod.snd := by
          rw [← d7]
          exact List.map_congr_left (fun t _ => D72 t.toNat)
        rw [uwD, uwT, DEo, e3, hemp, if_neg (by decide), if_neg (by decide), if_pos rfl, List.map_nil, List.sum_nil]; omega
      · have f1 : fUw z D q = fUw z T q := by
          unfold fUw fStg
          rw [v8 7 q (by omega)]
        have hq8 : q < sn X 8 := by omega
        obtain ⟨-, -, p3, p4⟩ := hG.oL hX hq8
        rw [f1, if_neg e, v8 10 q (by omega), DE 27 _ (fun w => dne q hq e w.2)]
        have e4 : (sE T 27 (fDelL T q)).map (fun t => sT D 7 2 t.toNat) = (sE T 27 (fDelL T q)).map (fun t => sT T 7 2 t.toNat) := List.map_congr_left (fun t ht => by
          rw [p3, hG.e27 p4] at ht
          have := hX.tk.2.1 _ p4 t ht
          rw [D72, d7o _ (by omega), hG.2.2.2.2.2.1 2 _ (by omega)])
        rw [e4]; omega
    have cs : fSumO z D (sn T 8) = fSumO z T (sn T 8) := by
      have e1 : isum (sn T 8) (fCoO z D) = isum (sn T 8) (fCoO z T) + ((csL X es).map Prod.snd).sum := by
        have h1 : isum (sn T 8) (fCoO z D) = isum (sn T 8) (fun q => fCoO z T q + (if q = o then ((csL X es).map Prod.snd).sum else 0)) := isum_cg co
        rw [h1]
        exact isum_up (j := o) (by show fCoO z T o + (if o = o then _ else _) = _; rw [if_pos rfl]) (fun q hq => by show fCoO z T q + (if q = o then _ else _) = _; rw [if_neg hq]; omega) ho'
      have e2 : isum (sn T 6) (fun l => sT D 6 6 l) = isum (sn T 6) (fun l => sT T 6 6 l) - ((csL X es).map Prod.snd).sum := by
        have h1 : isum (sn T 6) (fun l => sT D 6 6 l) = isum (sn T 6) (fun l => sT T 6 6 l - pl (csL X es) l) := isum_cg (fun l _ => by rw [D6, E6])
        have h2 : isum (sn T 6) (fun l => pl (csL X es) l) = ((csL X es).map Prod.snd).sum := isum_pl (fun q hq => by
          unfold csL at hq
          obtain ⟨e, he', rfl⟩ := List.mem_map.mp hq
          obtain ⟨l, l1, l2, -⟩ := hO.1 e he'
          show 0 ≤ e.1 ∧ e.1 < _
          omega)
        rw [h1, isum_sub, h2]
      have e3 : fSumO z D (sn T 8) = sT T 0 9 0 + isum (sn T 6) (fun l => sT D 6 6 l) + isum (sn T 8) (fCoO z D) := by
        unfold fSumO fSumL
        rw [Dn, (u 0 (by decide)).2.1]
        rfl
      have e4 : fSumO z T (sn T 8) = sT T 0 9 0 + isum (sn T 6) (fun l => sT T 6 6 l) + isum (sn T 8) (fCoO z T) := rfl
      rw [e3, e4, e1, e2]
      omega
    refine ⟨fun l hl => ?_, fun q hq => ?_, fun t ht => ?_, ?_, ?_, ?_⟩
    · rw [Dn] at hl
      have := (hpl l (by omega)).2
      rw [D6]; omega
    · rw [Dn] at hq
      rw [v8 10 q (by omega)]; exact a2 q hq
    · rw [Dn] at ht
      rw [D72]; exact d7a t ht
    · rw [(u 0 (by decide)).2.1]; exact a4
    · rw [Dn, cs, (u 0 (by decide)).2.1, (u 0 (by decide)).2.1]; exact a5
    · rw [(u 0 (by decide)).2.1, (u 0 (by decide)).2.1]; exact a6
  · intro q hq hb t ht
    rw [Dn] at hq
    rw [ePr] at hb
    rw [eOL, E26] at ht
    have e7 : fLotOf D t = fLotOf T t := by unfold fLotOf; rw [v7 0 _ (by decide)]
    have eh : fh D = fh T := by funext i; unfold fh; rw [v6 7 i (by decide)]
    have ec : fch D = fch T := by
      funext i
      exact fch_congr (v6 3 i (by decide)) (E26 _) (fun t _ => v7 0 _ (by decide))
    rw [e7, eh, ec]
    exact i11 q hq hb t ht
  · intro q hq
    rw [Dn] at hq
    obtain ⟨a1, a2, a3⟩ := i12 q hq
    rw [eOL, eDL, E26]
    by_cases e : q = o
    · subst e
      rw [D87]
      exact ⟨fun w => absurd w (z5 0 (by decide)), fun w => absurd rfl w, a3⟩
    · rw [v8 7 q (by omega), DE 27 _ (fun w => dne q hq e w.2)]
      exact ⟨a1, a2, a3⟩
  · obtain ⟨a1, a2, a3, a4, a5⟩ := i13
    have cn1 : isum (sn T 8) (fun q => if sT T 8 7 q = (z 4 : Nat) ∨ sT T 8 7 q = (z 5 : Nat) then (1 : Int) else 0) ≤ isum (sn T 8) (fun q => if sT D 8 7 q = (z 4 : Nat) ∨ sT D 8 7 q = (z 5 : Nat) then (1 : Int) else 0) := by
      refine isum_mono (fun q _ => ?_)
      by_cases e : q = o
      · rw [e, D87, if_pos (Or.inr rfl)]
        split <;> omega
      · rw [v8 7 q (by omega)]; exact Int.le_refl _
    have f0 := u 0 (by decide)
    refine ⟨by rw [f0.2.1]; exact a1, by rw [f0.2.1]; exact a2, by rw [f0.2.1, Dn]; exact a3, ?_, fun x hx => by rw [DE 28 x (by omega), f0.2.1]; exact a5 x hx⟩
    rw [Dn, Dn, f0.2.1]
    omega
end ZCB6
