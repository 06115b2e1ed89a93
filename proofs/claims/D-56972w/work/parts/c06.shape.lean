/-! THE ROOM: the lots of a state are a structure of flows -/
set_option maxRecDepth 100000
section ZSH
theorem ns_cnt {P : Nat → Prop} [DecidablePred P] {n : Nat} : ∀ M : List Nat, (∀ x ∈ M, x < n) → ns n (fun z => if P z then M.count z else 0) = (M.map (fun x => if P x then 1 else 0)).sum
  | [], _ => by
    have h : ns n (fun z => if P z then ([] : List Nat).count z else 0) = ns n (fun _ => 0) := ns_cg (fun z _ => by rw [List.count_nil]; split <;> rfl)
    rw [h, ns_zero]; rfl
  | x :: M, hM => by
    have hx := hM x List.mem_cons_self
    have ih := ns_cnt (P := P) M (fun y hy => hM y (List.mem_cons_of_mem _ hy))
    have e : ns n (fun z => if P z then (x :: M).count z else 0) = ns n (fun z => if P z then M.count z else 0) + ns n (fun z => if z = x then (if P x then 1 else 0) else 0) := by
      rw [← ns_add]
      refine ns_cg (fun z _ => ?_)
      by_cases hz : z = x
      · subst hz
        rw [if_pos rfl, List.count_cons_self]
        by_cases hp : P z
        · rw [if_pos hp, if_pos hp, if_pos hp]
        · rw [if_neg hp, if_neg hp, if_neg hp]
      · rw [if_neg hz, List.count_cons_of_ne (fun w => hz w.symm)]
        exact (Nat.add_zero _).symm
    rw [e, ih, ns_one hx, List.map_cons, List.sum_cons]
    omega
theorem count_nd : ∀ {M : List Nat}, M.Nodup → ∀ z : Nat, M.count z ≤ 1
  | [], _, z => by rw [List.count_nil]; omega
  | x :: M, h, z => by
    rw [List.nodup_cons] at h
    by_cases e : x = z
    · subst e
      rw [List.count_cons_self, List.count_eq_zero.mpr h.1]; omega
    · rw [List.count_cons_of_ne e]
      exact count_nd h.2 z
/-- distinct lots of one kind, and one more -/
theorem nd_len {P : Nat → Prop} [DecidablePred P] {n w : Nat} {M : List Nat} (h : M.Nodup) (hM : ∀ x ∈ M, x < n ∧ P x) (hw : w < n) (hPw : P w) (hn : w ∉ M) : M.length + 1 ≤ ns n (fun z => if P z then 1 else 0) := by
  have hnd : (w :: M).Nodup := List.nodup_cons.mpr ⟨hn, h⟩
  have h1 : ns n (fun z => if P z then (w :: M).count z else 0) = ((w :: M).map (fun x => if P x then 1 else 0)).sum := ns_cnt _ (fun x hx => by
    rcases List.mem_cons.mp hx with rfl | hx
    · exact hw
    · exact (hM x hx).1)
  have h2 : ((w :: M).map (fun x => if P x then 1 else 0)).sum = (w :: M).length := by
    have : ∀ L : List Nat, (∀ x ∈ L, P x) → (L.map (fun x => if P x then 1 else 0)).sum = L.length := by
      intro L
      induction L with
      | nil => intro _; rfl
      | cons y L ih =>
        intro hL
        rw [List.map_cons, List.sum_cons, if_pos (hL y List.mem_cons_self), ih (fun x hx => hL x (List.mem_cons_of_mem _ hx)), List.length_cons]
        omega
    exact this _ (fun x hx => by
      rcases List.mem_cons.mp hx with rfl | hx
      · exact hPw
      · exact (hM x hx).2)
  have h3 : ns n (fun z => if P z then (w :: M).count z else 0) ≤ ns n (fun z => if P z then 1 else 0) := ns_le (fun z _ => by
    by_cases hp : P z
    · rw [if_pos hp, if_pos hp]; exact count_nd hnd z
    · rw [if_neg hp, if_neg hp]; exact Nat.le_refl _)
  rw [h1, h2, List.length_cons] at h3
  exact h3
theorem ns_pcs {P : Nat → Prop} [DecidablePred P] {n : Nat} : ∀ M : List (Int × Int), (∀ x ∈ M, 0 ≤ x.1 ∧ x.1 < n ∧ 0 ≤ x.2) → ns n (fun z => if P z then (pl M z).toNat else 0) = (M.map (fun x => if P x.1.toNat then x.2.toNat else 0)).sum
  | [], _ => by
    have h : ns n (fun z => if P z then (pl [] z).toNat else 0) = ns n (fun _ => 0) := ns_cg (fun z _ => by rw [pl_nil]; split <;> rfl)
    rw [h, ns_zero]; rfl
  | x :: M, hM => by
    obtain ⟨x1, x2, x3⟩ := hM x List.mem_cons_self
    have ih := ns_pcs (P := P) M (fun y hy => hM y (List.mem_cons_of_mem _ hy))
    have hnn : ∀ z : Nat, 0 ≤ pl M z := fun z => pl_nn (fun q hq => (hM q (List.mem_cons_of_mem _ hq)).2.2)
    have e : ns n (fun z => if P z then (pl (x :: M) z).toNat else 0) = ns n (fun z => if P z then (pl M z).toNat else 0) + ns n (fun z => if z = x.1.toNat then (if P x.1.toNat then x.2.toNat else 0) else 0) := by
      rw [← ns_add]
      refine ns_cg (fun z _ => ?_)
      have hz0 := hnn z
      rw [pl_cons]
      by_cases hz : z = x.1.toNat
      · subst hz
        rw [if_pos rfl, if_pos (show x.1 = (x.1.toNat : Int) by omega)]
        by_cases hp : P x.1.toNat
        · rw [if_pos hp, if_pos hp, if_pos hp]; omega
        · rw [if_neg hp, if_neg hp, if_neg hp]
      · rw [if_neg hz, if_neg (show ¬ x.1 = (z : Int) by omega), Int.zero_add]
        exact (Nat.add_zero _).symm
    rw [e, ih, ns_one (show x.1.toNat < n by omega), List.map_cons, List.sum_cons]
    omega
end ZSH
/-- a lot's part, how many pieces it had, its entries and their pieces -/
def ptL (X : hS) (l : Nat) : Nat := (fPnum X l).toNat
def qL (X : hS) (l : Nat) : Nat := (sT X 6 2 l).toNat
def eL (X : hS) (y z : Nat) : Nat := (fch X y).count z
def pcL (X : hS) (y z : Nat) : Nat := (pl (tlL X (sT X 6 3 y).toNat) z).toNat
/-- a part's components, by their parts -/
def cP (X : hS) (A : Nat) : List Nat := if fPc X A % 2 = 0 then (sE X 24 (fPc X A / 2)).map (fun j => (sT X 4 0 j.toNat).toNat) else []
def cL (X : hS) (A B : Nat) : Nat := (cP X A).count B
def bL (X : hS) (B : Nat) : Nat := ns (sn X 6) (fun l => if ptL X l = B then 1 else 0)
def mkL (X : hS) (B : Nat) : Bool := decide (fPc X B % 2 = 0)
/-- lots and their orders -/
def iLt (z : Nat → Nat) (X : hS) : Prop := ∀ l : Nat, l < sn X 6 → ((sT X 6 1 l).toNat % 2 = 1 ∧ sE X 26 (sT X 6 3 l).toNat = []) ∨
  ((sT X 6 1 l).toNat % 2 = 0 ∧ sT X 6 2 l ≤ 100 ∧ ∃ o : Nat, o < sn X 8 ∧ sT X 8 13 o = (l : Nat) ∧ sT X 8 5 o = sT X 6 3 l ∧ sT X 8 1 o = sT X 6 1 l ∧ sT X 6 2 l ≤ sT X 8 2 o ∧ fPr z X o = false)
/-- what was taken is cut by components -/
def iCk (X : hS) : Prop := ∀ o : Nat, o < sn X 8 → sE X 26 (fOL X o) ≠ [] → cOk X o
section ZSH2
variable {z : Nat → Nat} {k : Nat} {X : hS}
theorem ptL_at (hI : iAll z k X) {l : Nat} (hl : l < sn X 6) : ∃ p : Nat, p < np X ∧ sT X 6 1 l = fPc X p ∧ fPnum X l = p ∧ ptL X l = p := by
  obtain ⟨p, h1, h2, h3⟩ := hI.lo.pnum hI.pt hl
  exact ⟨p, h1, h2, h3, by unfold ptL; rw [h3, Int.toNat_natCast]⟩
theorem ch_ts (hI : iAll z k X) {y : Nat} (hy : y < sn X 6) : fch X y = (tlL X (sT X 6 3 y).toNat).map (fun e => e.1.toNat) ∧ ∀ e ∈ tlL X (sT X 6 3 y).toNat, 0 ≤ e.1 ∧ e.1 < (sn X 6 : Nat) ∧ 1 ≤ e.2 := by
  have h3 := (hI.lo y hy).2.2.2.1
  refine ⟨?_, fun e he => ?_⟩
  · unfold fch tlL
    rw [List.map_map]; rfl
  · unfold tlL at he
    obtain ⟨t, ht, rfl⟩ := List.mem_map.mp he
    have h1 := hI.tk.1 (sT X 6 3 y).toNat (by omega) t ht
    have h2 := hI.tk.2.2 t.toNat (by omega)
    exact ⟨h2.1.1, h2.1.2, h2.2.1⟩
/-- a made lot's entries by components -/
theorem lot_cs (hI : iAll z k X) (hL : iLt z X) (hC : iCk X) {y : Nat} (hy : y < sn X 6) (hne : tlL X (sT X 6 3 y).toNat ≠ []) :
    ∃ (p o : Nat) (cs : List (Int × List (Int × Int))), p < np X ∧ ptL X y = p ∧ fPc X p % 2 = 0 ∧ o < sn X 8 ∧ sT X 8 13 o = (y : Nat) ∧ sT X 6 2 y ≤ sT X 8 2 o ∧ fOL X o = (sT X 6 3 y).toNat ∧ (cs.map Prod.snd).flatten = tlL X (sT X 6 3 y).toNat ∧ cOkL X o (sE X 24 (fPc X p / 2)) cs := by
  obtain ⟨p, hp, e1, e2, e3⟩ := ptL_at hI hy
  rcases hL y hy with ⟨h1, h2⟩ | ⟨h1, -, o, ho, h3, h4, h5, h6, h7⟩
  · exact absurd (by unfold tlL; rw [h2]; rfl) hne
  · have hev : fPc X p % 2 = 0 := by rw [e1, Int.toNat_natCast] at h1; exact h1
    have eo : fOL X o = (sT X 6 3 y).toNat := by unfold fOL; rw [h4]
    obtain ⟨cs, c1, c2⟩ := hC o ho (fun w => hne (by unfold tlL; rw [← eo, w]; rfl))
    have ec : fComps X o = sE X 24 (fPc X p / 2) := by
      unfold fComps
      rw [h5, e1, Int.toNat_natCast]
      rcases hI.pt.pc hp with ⟨q1, q2, q3⟩ | ⟨q1, q2, q3⟩
      · rw [(hI.pt.2.2.2.1 _ q2).1, Int.toNat_natCast]
      · omega
    rw [ec] at c2
    refine ⟨p, o, cs, hp, e3, hev, ho, h3, h6, eo, ?_, c2⟩
    rw [c1]
    unfold fTl tlL
    rw [eo]
theorem cmp_part (hI : iAll z k X) {p : Nat} (hp : p < np X) (hev : fPc X p % 2 = 0) {c : Int} (hc : c ∈ sE X 24 (fPc X p / 2)) : 0 ≤ sT X 4 0 c.toNat ∧ sT X 4 0 c.toNat < p := by
  rcases hI.pt.pc hp with ⟨q1, q2, q3⟩ | ⟨q1, q2, q3⟩
  · have h1 := hI.pt.2.2.2.2.2.1 _ q2 c hc
    have h2 := hI.pt.2.2.2.2.2.2.1 c.toNat (by omega)
    omega
  · omega
/-- entries of all components: those that are not the last of theirs, and components that lie wholly in W -/
theorem cs_cnt {P : Int → Prop} [DecidablePred P] {Q : Nat} : ∀ cs : List (Int × List (Int × Int)), (∀ c ∈ cs, c.2 ≠ [] ∧ (Q : Int) ≤ (c.2.map Prod.snd).sum ∧ ∀ e ∈ c.2, 0 ≤ e.2) →
    ∃ f : Nat, f ≤ (cs.filter (fun c => c.2.any (fun e => decide (P e.1)))).length ∧ (((cs.map Prod.snd).flatten.map (fun e => if P e.1 then 1 else 0)).sum ≤ ((cs.filter (fun c => c.2.any (fun e => decide (P e.1)))).map (fun c => c.2.length - 1)).sum + f) ∧ f * Q ≤ ((cs.map Prod.snd).flatten.map (fun e => if P e.1 then e.2.toNat else 0)).sum
  | [], _ => ⟨0, Nat.le_refl _, Nat.le_refl _, by rw [Nat.zero_mul]; exact Nat.zero_le _⟩
  | c :: cs, h => by
    obtain ⟨f, f1, f2, f3⟩ := cs_cnt (P := P) (Q := Q) cs (fun d hd => h d (List.mem_cons_of_mem _ hd))
    obtain ⟨h1, h2, h3⟩ := h c List.mem_cons_self
    have cnt : ∀ L : List (Int × Int), (L.map (fun e => if P e.1 then 1 else 0)).sum ≤ L.length ∧ ((¬ ∀ e ∈ L, P e.1) → (L.map (fun e => if P e.1 then 1 else 0)).sum + 1 ≤ L.length) ∧ ((∀ e ∈ L, ¬ P e.1) → (L.map (fun e => if P e.1 then 1 else 0)).sum = 0) := by
      intro L
      induction L with
      | nil => exact ⟨Nat.le_refl _, fun w => absurd (fun e he => absurd he List.not_mem_nil) w, fun _ => rfl⟩
      | cons a L ih =>
        obtain ⟨i1, i2, i3⟩ := ih
        rw [List.map_cons, List.sum_cons, List.length_cons]
        refine ⟨by split <;> omega, fun w => ?_, fun w => ?_⟩
        · by_cases ha : P a.1
          · rw [if_pos ha]
            have := i2 (fun q => w (fun e he => by
              rcases List.mem_cons.mp he with rfl | he
              · exact ha
              · exact q e he))
            omega
          · rw [if_neg ha]; omega
        · rw [if_neg (w a List.mem_cons_self), i3 (fun e he => w e (List.mem_cons_of_mem _ he))]
    have pcs : ∀ L : List (Int × Int), (∀ e ∈ L, P e.1) → (∀ e ∈ L, 0 ≤ e.2) → ((L.map (fun e => if P e.1 then e.2.toNat else 0)).sum : Nat) = (L.map Prod.snd).sum.toNat ∧ 0 ≤ (L.map Prod.snd).sum := by
      intro L
      induction L with
      | nil => intro _ _; exact ⟨rfl, Int.le_refl _⟩
      | cons a L ih =>
        intro w1 w2
        obtain ⟨i1, i2⟩ := ih (fun e he => w1 e (List.mem_cons_of_mem _ he)) (fun e he => w2 e (List.mem_cons_of_mem _ he))
        have a0 := w2 a List.mem_cons_self
        rw [List.map_cons, List.sum_cons, List.map_cons, List.sum_cons, if_pos (w1 a List.mem_cons_self), i1]
        omega
    rw [List.map_cons, List.flatten_cons, List.map_append, List.sum_append, List.map_append, List.sum_append, List.filter_cons]
    have hlen : 1 ≤ c.2.length := by
      cases hc : c.2 with
      | nil => exact absurd hc h1
      | cons a t => rw [List.length_cons]; omega
    obtain ⟨q1, q2, q3⟩ := cnt c.2
    by_cases hany : c.2.any (fun e => decide (P e.1)) = true
    · rw [if_pos hany, List.length_cons, List.map_cons, List.sum_cons]
      by_cases hall : ∀ e ∈ c.2, P e.1
      · obtain ⟨p1, p2⟩ := pcs c.2 hall h3
        refine ⟨f + 1, by omega, by omega, ?_⟩
        rw [Nat.add_mul, Nat.one_mul, p1]
        have : Q ≤ (c.2.map Prod.snd).sum.toNat := by omega
        omega
      · have := q2 hall
        exact ⟨f, by omega, by omega, by omega⟩
    · rw [if_neg hany]
      have hno : ∀ e ∈ c.2, ¬ P e.1 := fun e he w => hany (List.any_eq_true.mpr ⟨e, he, decide_eq_true w⟩)
      have := q3 hno
      exact ⟨f, by omega, by omega, by omega⟩
end ZSH2
