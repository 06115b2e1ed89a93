/-! THE SIMULATION: what isSound adds up -/
set_option maxRecDepth 100000
theorem isum_add {f g : Nat → Int} : ∀ n : Nat, isum n (fun i => f i + g i) = isum n f + isum n g := by
  intro n
  induction n with
  | zero => rfl
  | succ n ih =>
    rw [isum_succ, isum_succ, isum_succ, ih]
    omega
theorem isum_zero : ∀ n : Nat, isum n (fun _ => (0 : Int)) = 0 := by
  intro n
  induction n with
  | zero => rfl
  | succ n ih => rw [isum_succ, ih]; rfl
theorem isum_swap {f : Nat → Nat → Int} (m : Nat) : ∀ n : Nat, isum n (fun i => isum m (fun j => f i j)) = isum m (fun j => isum n (fun i => f i j)) := by
  intro n
  induction n with
  | zero => exact (isum_zero m).symm
  | succ n ih =>
    rw [isum_succ, ih, ← isum_add]
    exact isum_cg (fun j _ => isum_succ.symm)
theorem cntP_sum {f : Nat → Bool × Nat} : ∀ n : Nat, ((cntP f n).1 : Int) = isum n (fun i => if (f i).1 = true then 1 else 0) := by
  intro n
  induction n with
  | zero => rfl
  | succ n ih =>
    rw [cntP_succ, isum_succ, ← ih]
    show (((cntP f n).1 + (if (f n).1 = true then 1 else 0) : Nat) : Int) = _
    split <;> rfl
theorem r01_count {r : List Int} {N : Nat} (hl : r.length = N) (h01 : r01 r) {P : Nat → Bool} (hP : ∀ x : Nat, x < N → (mkd r x ↔ P x = true)) : r.sum = isum N (fun x => if P x = true then 1 else 0) := by
  have key : ∀ p : Nat, p ≤ N → (r.take p).sum = isum p (fun x => if P x = true then 1 else 0) := by
    intro p
    induction p with
    | zero => intro _; rfl
    | succ p ih =>
      intro hp
      have hlt : p < r.length := by omega
      rw [List.take_succ_eq_append_getElem hlt, List.sum_append, ih (by omega), isum_succ]
      congr 1
      have hm : mkd r p ↔ r[p] = 1 := by
        unfold mkd
        rw [List.getD_eq_getElem?_getD, List.getElem?_eq_getElem hlt]
        exact Iff.rfl
      rw [List.sum_cons, List.sum_nil]
      by_cases e : P p = true
      · rw [if_pos e, hm.mp ((hP p (by omega)).mpr e)]
        rfl
      · rw [if_neg e]
        rcases h01 _ (List.getElem_mem hlt) with q | q
        · rw [q]; rfl
        · exact absurd ((hP p (by omega)).mp (hm.mpr q)) e
  have := key N (Nat.le_refl _)
  rw [← hl, List.take_length] at this
  rw [this, hl]
theorem inStep_any {ch : Nat → List Nat} {x : Nat} : ∀ (L : List Nat) (s : Bool × Nat), (L.foldl (inStep ch x) s).1 = (s.1 || L.any (fun y => decide (y = x) || tHas ch 100 x y)) := by
  intro L
  induction L with
  | nil => intro s; simp
  | cons a L ih =>
    intro s
    rw [List.foldl_cons, ih, List.any_cons]
    unfold inStep
    cases h : s.1 with
    | true => simp [h]
    | false => simp
theorem gadd_get {r : List Int} {a l : Nat} {v : Int} (hl : l < r.length) : (gadd r a v).getD l 0 = r.getD l 0 + (if a = l then v else 0) := by
  unfold gadd
  rw [List.getD_eq_getElem?_getD, List.getD_eq_getElem?_getD]
  by_cases e : a = l
  · subst e
    rw [List.getElem?_set_self hl, if_pos rfl]
    rw [List.getD_eq_getElem?_getD]
    rfl
  · rw [List.getElem?_set_ne e, if_neg e, Int.add_zero, List.getD_eq_getElem?_getD]
theorem gadd_fold {S : hS} {w : Int → Int} {l : Nat} : ∀ (L : List Int) (r : List Int), l < r.length → (L.foldl (fun r t => gadd r (fLotOf S t) (w t)) r).getD l 0 = r.getD l 0 + (L.map (fun t => if fLotOf S t = l then w t else 0)).sum := by
  intro L
  induction L with
  | nil => intro r _; simp
  | cons a L ih =>
    intro r hl
    rw [List.foldl_cons, ih _ (by rw [gadd_len]; exact hl), gadd_get hl, List.map_cons, List.sum_cons]
    omega
section ZBS
variable {z : Nat → Nat} {k : Nat} {X Y : hS}
theorem iAll.hlt (hI : iAll z k X) : ∀ i : Nat, i < sn X 6 → ∀ y ∈ fch X i, y < i := by
  intro i hi y hy
  obtain ⟨t, ht, rfl⟩ := List.mem_map.mp hy
  have := (hI.W i hi).2.2 t ht
  omega
theorem iAll.n6 (hI : iAll z k X) : sn X 6 ≤ 100 := hI.fix.2.2.2.2.2.2.2.2.2.2.1
theorem inO_iff (x o : Nat) : (fInO X x o).1 = true ↔ ∃ t ∈ sE X 27 (fDelL X o), tIn (fch X) x (fLotOf X t) := by
  unfold fInO fInQ
  rw [inStep_any, Bool.false_or, List.take_length, List.any_map, List.any_eq_true]
  constructor
  · rintro ⟨t, ht, h⟩
    refine ⟨t, ht, ?_⟩
    have h : (decide (fLotOf X t = x) || tHas (fch X) 100 x (fLotOf X t)) = true := h
    rw [Bool.or_eq_true, decide_eq_true_iff] at h
    exact h.imp Eq.symm id
  · rintro ⟨t, ht, h⟩
    refine ⟨t, ht, ?_⟩
    show (decide (fLotOf X t = x) || tHas (fch X) 100 x (fLotOf X t)) = true
    rw [Bool.or_eq_true, decide_eq_true_iff]
    exact h.imp Eq.symm id
theorem rc_iff (hI : iAll z k X) {o : Nat} (ho : o < sn X 8) : ∀ x : Nat, x < sn X 6 → (mkd (fRc X o).1 x ↔ (fInO X x o).1 = true) := by
  have h6 := hI.n6
  have hlt := hI.hlt
  have key : ∀ (L : List Int) (s : List Int × Nat), (∀ t ∈ L, fLotOf X t < sn X 6) → s.1.length = sn X 6 → r01 s.1 → rcl (fch X) (sn X 6) (sn X 6) s.1 → ∀ x : Nat, x < sn X 6 → (mkd (L.foldl (fun s t => tReach (fch X) 100 (fLotOf X t) s) s).1 x ↔ mkd s.1 x ∨ ∃ t ∈ L, tIn (fch X) x (fLotOf X t)) := by
    intro L
    induction L with
    | nil =>
      intro s _ _ _ _ x _
      exact ⟨fun h => Or.inl h, fun h => h.elim id (fun ⟨y, hy, _⟩ => absurd hy List.not_mem_nil)⟩
    | cons a L ih =>
      intro s hL hl h1 hc x hx
      have aN := hL a List.mem_cons_self
      have hr := reach_spec hlt h6 100 (fLotOf X a) s (by omega) aN hl h1 (fun j hj hjN => hc j hjN hjN)
      have hk := tReach_keep (fch X) 100 (fLotOf X a) s
      have hc2 : rcl (fch X) (sn X 6) (sn X 6) (tReach (fch X) 100 (fLotOf X a) s).1 := by
        intro j hjB hjN hm y hy
        have hyj := hlt j hjN y hy
        rcases (hr j hjN).mp hm with h | h
        · exact (hr y (by omega)).mpr (Or.inl (hc j hjB hjN h y hy))
        · exact (hr y (by omega)).mpr (Or.inr (tIn_child hlt h6 hy (fLotOf X a + 1) (fLotOf X a) (by omega) aN h))
      rw [List.foldl_cons, ih _ (fun t ht => hL t (List.mem_cons_of_mem _ ht)) (hk.1.trans hl) (hk.2.1 h1) hc2 x hx, hr x hx]
      constructor
      · rintro ((h | h) | ⟨y, hy, h⟩)
        · exact Or.inl h
        · exact Or.inr ⟨a, List.mem_cons_self, h⟩
        · exact Or.inr ⟨y, List.mem_cons_of_mem _ hy, h⟩
      · rintro (h | ⟨y, hy, h⟩)
        · exact Or.inl (Or.inl h)
        · rcases List.mem_cons.mp hy with rfl | hy
          · exact Or.inl (Or.inr h)
          · exact Or.inr ⟨y, hy, h⟩
  intro x hx
  have hm0 : ∀ y : Nat, ¬ mkd (List.replicate (sn X 6) (0 : Int)) y := by
    intro y hy
    unfold mkd at hy
    rw [List.getD_eq_getElem?_getD, List.getElem?_replicate] at hy
    split at hy
    · cases hy
    · cases hy
  unfold fRc fRch
  rw [List.take_length, key _ _ (fun t ht => by have := hI.dlv ho t ht; unfold fLotOf; omega) List.length_replicate (fun y hy => Or.inl (List.eq_of_mem_replicate hy)) (fun j _ _ hm => absurd hm (hm0 j)) x hx, inO_iff]
  exact ⟨fun h => h.elim (fun q => absurd q (hm0 x)) id, fun h => Or.inr h⟩
theorem rc_sum (hI : iAll z k X) {o : Nat} (ho : o < sn X 8) : (fRc X o).1.sum = isum (sn X 6) (fun x => if (fInO X x o).1 = true then 1 else 0) := r01_count fRch_keep.1 fRch_keep.2 (rc_iff hI ho)
theorem back_for (hI : iAll z k X) : fBack X (sn X 8) = fFor_ X (sn X 6) := by
  show isum (sn X 8) (fun o => (fRc X o).1.sum) = isum (sn X 6) (fun l => ((cntP (fInO X l) (sn X 8)).1 : Int))
  rw [isum_cg (fun o ho => rc_sum hI ho), isum_swap]
  exact isum_cg (fun l _ => (cntP_sum _).symm)
theorem pl_map (hI : iAll z k X) (l : Nat) : ∀ L : List Int, (∀ t ∈ L, 0 ≤ sT X 7 0 t.toNat) → (L.map (fun t => if fLotOf X t = l then sT X 7 1 t.toNat else 0)).sum = pl (L.map (fun t => (sT X 7 0 t.toNat, sT X 7 1 t.toNat))) l := by
  intro L
  induction L with
  | nil => intro _; rfl
  | cons a L ih =>
    intro h
    rw [List.map_cons, List.sum_cons, List.map_cons, pl_cons, ih (fun t ht => h t (List.mem_cons_of_mem _ ht))]
    have h0 := h a List.mem_cons_self
    congr 1
    unfold fLotOf
    by_cases e : sT X 7 0 a.toNat = (l : Int)
    · rw [if_pos (by omega), if_pos e]
    · rw [if_neg (by omega), if_neg e]
theorem gone_sum (hI : iAll z k X) {l : Nat} (hl : l < sn X 6) : ∀ p : Nat, p ≤ sn X 8 → (fGone z X p).getD l 0 = isum p (fun o => (if fPr z X o = true then 0 else pl (fTl X o) l) + pl (fDv X o) l) := by
  intro p
  induction p with
  | zero =>
    intro _
    unfold fGone
    show (List.replicate (sn X 6) (0 : Int)).getD l 0 = 0
    rw [List.getD_eq_getElem?_getD, List.getElem?_replicate, if_pos hl]
    rfl
  | succ p ih =>
    intro hp
    have hop : p < sn X 8 := by omega
    have hO := hI.or p hop
    have h26 : ∀ t ∈ sE X 26 (fOL X p), 0 ≤ sT X 7 0 t.toNat := fun t ht => by
      have h1 := hI.tk.1 (fOL X p) (by have := hO.2.2.2.2.2.1; unfold fOL; omega) t ht
      exact (hI.tk.2.2 t.toNat (by omega)).1.1
    have h27 : ∀ t ∈ sE X 27 (fDelL X p), 0 ≤ sT X 7 0 t.toNat := fun t ht => (hI.dlv hop t ht).1
    rw [fGone_succ, isum_succ, ← ih (by omega)]
    unfold fGoneO gDl gTk
    rw [List.take_length, List.take_length]
    have len1 : l < (fGone z X p).length := by rw [fGone_len]; exact hl
    have e1 : fStg z X p 1 = fPr z X p := rfl
    rw [gadd_fold _ _ (by rw [fold_keep (f := fun r (t : Int) => gadd r (fLotOf X t) (if fStg z X p 1 = true then 0 else sT X 7 1 t.toNat)) (fun r => r.length) (fun _ _ => gadd_len)]; exact len1), gadd_fold _ _ len1]
    rw [pl_map hI l _ h27]
    rw [e1]
    by_cases e : fPr z X p = true
    · rw [if_pos e]
      simp only [e, if_true]
      have z0 : ((sE X 26 (fOL X p)).map (fun t => if fLotOf X t = l then (0 : Int) else 0)).sum = 0 := by
        have : (fun t : Int => if fLotOf X t = l then (0 : Int) else 0) = fun _ => 0 := by
          funext t
          split <;> rfl
        rw [this]
        generalize sE X 26 (fOL X p) = L
        induction L with
        | nil => rfl
        | cons a L ih => rw [List.map_cons, List.sum_cons, ih]; rfl
      rw [z0]
      unfold fDv
      omega
    · rw [if_neg e]
      simp only [e, if_false, Bool.false_eq_true]
      rw [pl_map hI l _ h26]
      unfold fDv fTl
      omega
/-- what is reserved was promised of it: it is not on hold -/
theorem pl_pos {l : Nat} : ∀ {L : List (Int × Int)}, 0 < pl L l → ∃ q ∈ L, q.1 = (l : Int)
  | [], h => absurd h (by rw [pl_nil]; decide)
  | q :: L, h => by
    rw [pl_cons] at h
    by_cases e : q.1 = (l : Int)
    · exact ⟨q, List.mem_cons_self, e⟩
    · rw [if_neg e] at h
      rw [Int.zero_add] at h
      obtain ⟨r, hr, h2⟩ := pl_pos h
      exact ⟨r, List.mem_cons_of_mem _ hr, h2⟩
theorem isum_pos {f : Nat → Int} : ∀ {n : Nat}, 0 < isum n f → ∃ i : Nat, i < n ∧ 0 < f i := by
  intro n
  induction n with
  | zero =>
    intro h
    have h : (0 : Int) < 0 := h
    omega
  | succ n ih =>
    intro h
    rw [isum_succ] at h
    by_cases e : 0 < f n
    · exact ⟨n, by omega, e⟩
    · obtain ⟨i, h1, h2⟩ := ih (by omega)
      exact ⟨i, by omega, h2⟩
theorem iAll.pok (hI : iAll z k X) : ∀ l : Nat, l < sn X 6 → fPok z X l := by
  intro l hl
  obtain ⟨r1, r2, r3⟩ := hI.res l hl
  have lo := (hI.lo l hl).2.2.1
  have av := hI.Av l hl
  refine ⟨by rw [gone_sum hI hl _ (Nat.le_refl _)]; exact r3, by omega, by omega, by omega, fun hpos => ?_⟩
  rw [r1] at hpos
  obtain ⟨o, ho, h2⟩ := isum_pos hpos
  by_cases e : fPr z X o = true
  · rw [if_pos e] at h2
    obtain ⟨q, hq, h3⟩ := pl_pos h2
    obtain ⟨t, ht, rfl⟩ := List.mem_map.mp hq
    have := hI.hd o ho e t ht
    have e2 : fLotOf X t = l := by
      have h3 : sT X 7 0 t.toNat = (l : Int) := h3
      unfold fLotOf
      omega
    rw [e2] at this
    exact this
  · rw [if_neg e] at h2
    exact absurd h2 (by decide)
end ZBS
