/-! THE ROOM: searches along a list, lot by lot (plain) -/
set_option maxRecDepth 100000
/-- a list's lots, each once, in the order of their first places -/
def dds : Nat → List Nat → List Nat
  | 0, _ => []
  | _ + 1, [] => []
  | n + 1, z :: L => z :: dds n (L.filter (fun y => !(y == z)))
/-- how many of D are of z's part -/
def cntD (pt : Nat → Nat) (D : List Nat) (z : Nat) : Nat := (D.filter (fun d => decide (pt d = pt z))).length
/-- a sum over lots, each with its place among those of its part -/
def sumD (pt : Nat → Nat) (Bd : Nat → Nat → Nat) : List Nat → List Nat → Nat
  | _, [] => 0
  | D, z :: R => Bd z (cntD pt D z) + sumD pt Bd (z :: D) R
section ZH8
variable {ch : Nat → List Nat} {n z : Nat}
/-- a lot without x is walked each time -/
theorem lW_skip {x : Nat} (hx : inn ch n x z = false) : ∀ L : List Nat, lW ch n x L ≤ L.count z * tN ch n z + lW ch n x (L.filter (fun y => !(y == z)))
  | [] => by
    show 0 ≤ _
    exact Nat.zero_le _
  | y :: L => by
    have ih := lW_skip hx L
    rw [lW_cons]
    by_cases h : y = z
    · subst h
      have e1 : (y :: L).filter (fun w => !(w == y)) = L.filter (fun w => !(w == y)) := List.filter_cons_of_neg (by rw [beq_self_eq_true]; decide)
      rw [e1, List.count_cons_self, hx, if_neg (by decide), iw_out hx, Nat.add_mul, Nat.one_mul]
      omega
    · have hb : (y == z) = false := by
        cases hh : y == z with
        | true => exact absurd (beq_iff_eq.mp hh) h
        | false => rfl
      have e1 : (y :: L).filter (fun w => !(w == z)) = y :: L.filter (fun w => !(w == z)) := List.filter_cons_of_pos (by rw [hb]; rfl)
      rw [e1, List.count_cons_of_ne h, lW_cons]
      split
      · omega
      · omega
theorem sum_skip : ∀ (O L : List Nat), (∀ x ∈ O, inn ch n x z = false) → (O.map (fun x => lW ch n x L)).sum ≤ O.length * (L.count z * tN ch n z) + (O.map (fun x => lW ch n x (L.filter (fun y => !(y == z))))).sum
  | [], _, _ => Nat.zero_le _
  | x :: O, L, h => by
    have h1 := lW_skip (h x List.mem_cons_self) L
    have h2 := sum_skip O L (fun y hy => h y (List.mem_cons_of_mem _ hy))
    rw [List.map_cons, List.sum_cons, List.map_cons, List.sum_cons, List.length_cons, Nat.add_mul, Nat.one_mul]
    omega
theorem out_inn {U : List Nat} : ∀ x ∈ out ch n U z, inn ch n x z = false := fun x hx => by
  have := (List.mem_filter.mp hx).2
  cases hh : inn ch n x z with
  | true => rw [hh] at this; exact absurd this (by decide)
  | false => rfl
theorem got_inn {U : List Nat} : ∀ x ∈ got ch n U z, inn ch n x z = true := fun x hx => (List.mem_filter.mp hx).2
/-- one lot of a list, all its places at once -/
theorem lot_step {L U : List Nat} : (U.map (fun x => lW ch n x (z :: L))).sum ≤ ((got ch n U z).map (fun x => iw ch n x z)).sum + (out ch n U z).length * ((L.count z + 1) * tN ch n z) + ((out ch n U z).map (fun x => lW ch n x (L.filter (fun y => !(y == z))))).sum := by
  rw [lW_sum U]
  have h := sum_skip (out ch n U z) L out_inn
  rw [Nat.add_mul, Nat.one_mul, Nat.mul_add]
  omega
theorem filter_len {z : Nat} (L : List Nat) : (L.filter (fun y => !(y == z))).length ≤ L.length := List.length_filter_le _ _
theorem filter_count {z w : Nat} (h : w ≠ z) (L : List Nat) : (L.filter (fun y => !(y == z))).count w = L.count w := by
  refine List.count_filter ?_
  cases hh : w == z with
  | true => exact absurd (beq_iff_eq.mp hh) h
  | false => rfl
theorem sum_filter_ne {f : Nat → Nat} {z : Nat} : ∀ L : List Nat, (L.map f).sum = L.count z * f z + ((L.filter (fun y => !(y == z))).map f).sum
  | [] => by show 0 = 0 * _ + 0; omega
  | y :: L => by
    have ih := sum_filter_ne (f := f) (z := z) L
    rw [List.map_cons, List.sum_cons, ih]
    by_cases h : y = z
    · subst h
      have e1 : (y :: L).filter (fun w => !(w == y)) = L.filter (fun w => !(w == y)) := List.filter_cons_of_neg (by rw [beq_self_eq_true]; decide)
      rw [e1, List.count_cons_self, Nat.add_mul, Nat.one_mul]
      omega
    · have hb : (y == z) = false := by
        cases hh : y == z with
        | true => exact absurd (beq_iff_eq.mp hh) h
        | false => rfl
      have e1 : (y :: L).filter (fun w => !(w == z)) = y :: L.filter (fun w => !(w == z)) := List.filter_cons_of_pos (by rw [hb]; rfl)
      rw [e1, List.count_cons_of_ne h, List.map_cons, List.sum_cons]
      omega
/-- what may be left to look for once the lots D were searched: nothing of D's trees -/
def lftU (ch : Nat → List Nat) (n : Nat) (D U : List Nat) : Prop := ∀ x ∈ U, ∀ d ∈ D, inn ch n x d = false
/-- a list, searched for all of U and walked l times more, lot by lot -/
theorem list_lots {pt : Nat → Nat} {l : Nat} {Bd : Nat → Nat → Nat} {C : Nat → Nat} {PD PU : Nat → Prop} : ∀ (m : Nat) (L D U : List Nat), L.length ≤ m → U.Nodup → lftU ch n D U → (∀ z ∈ L, z ∉ D) → (∀ z ∈ L, L.count z = C z) → (∀ d ∈ D, PD d) → (∀ x ∈ U, PU x) → (∀ z ∈ L, PD z) →
    (∀ z ∈ L, ∀ D U : List Nat, U.Nodup → lftU ch n D U → z ∉ D → D.Nodup → (∀ d ∈ D, PD d) → (∀ x ∈ U, PU x) → (l + (out ch n U z).length) * (C z * tN ch n z) + ((got ch n U z).map (fun x => iw ch n x z)).sum ≤ Bd z (cntD pt D z)) → D.Nodup →
    l * (L.map (tN ch n)).sum + (U.map (fun x => lW ch n x L)).sum ≤ sumD pt Bd D (dds m L)
  | m, [], D, U, _, _, _, _, _, _, _, _, _, _ => by
    have : ∀ U : List Nat, (U.map (fun x => lW ch n x [])).sum = 0 := by
      intro U
      induction U with
      | nil => rfl
      | cons x U ih => rw [List.map_cons, List.sum_cons, ih]; rfl
    rw [this]
    show l * 0 + 0 ≤ _
    omega
  | 0, z :: L, _, _, h, _, _, _, _, _, _, _, _, _ => absurd h (by rw [List.length_cons]; omega)
  | m + 1, z :: L, D, U, h, hU, hl, hD, hC, hPD, hPU, hPL, hB, hnd => by
    have hz := hB z List.mem_cons_self D U hU hl (hD z List.mem_cons_self) hnd hPD hPU
    have hstep := lot_step (ch := ch) (n := n) (z := z) (L := L) (U := U)
    have hc0 : L.count z + 1 = C z := by
      have := hC z List.mem_cons_self
      rw [List.count_cons_self] at this
      exact this
    have ih := list_lots (pt := pt) (l := l) (Bd := Bd) (C := C) (PD := PD) (PU := PU) m (L.filter (fun y => !(y == z))) (z :: D) (out ch n U z) (by
        have := filter_len (z := z) L
        rw [List.length_cons] at h
        omega) (hU.filter _) (fun x hx d hd => by
        rcases List.mem_cons.mp hd with e | hd
        · rw [e]; exact out_inn x hx
        · exact hl x (List.mem_filter.mp hx).1 d hd) (fun w hw hd => by
        obtain ⟨h1, h2⟩ := List.mem_filter.mp hw
        rcases List.mem_cons.mp hd with e | hd
        · rw [e, beq_self_eq_true] at h2; exact absurd h2 (by decide)
        · exact hD w (List.mem_cons_of_mem _ h1) hd) (fun w hw => by
        obtain ⟨h1, h2⟩ := List.mem_filter.mp hw
        have hne : w ≠ z := fun e => by rw [e, beq_self_eq_true] at h2; exact absurd h2 (by decide)
        rw [filter_count hne]
        have := hC w (List.mem_cons_of_mem _ h1)
        rw [List.count_cons_of_ne (fun e => hne e.symm)] at this
        exact this) (fun d hd => by
        rcases List.mem_cons.mp hd with e | hd
        · rw [e]; exact hPL z List.mem_cons_self
        · exact hPD d hd) (fun x hx => hPU x (List.mem_filter.mp hx).1) (fun w hw => hPL w (List.mem_cons_of_mem _ (List.mem_filter.mp hw).1)) (fun w hw => hB w (List.mem_cons_of_mem _ (List.mem_filter.mp hw).1)) (List.nodup_cons.mpr ⟨hD z List.mem_cons_self, hnd⟩)
    have hs := sum_filter_ne (f := tN ch n) (z := z) L
    show l * ((z :: L).map (tN ch n)).sum + (U.map (fun x => lW ch n x (z :: L))).sum ≤ Bd z (cntD pt D z) + sumD pt Bd (z :: D) (dds m (L.filter (fun y => !(y == z))))
    rw [hc0] at hstep
    have e : ((z :: L).map (tN ch n)).sum = C z * tN ch n z + ((L.filter (fun y => !(y == z))).map (tN ch n)).sum := by
      rw [List.map_cons, List.sum_cons, hs, ← hc0, Nat.add_mul, Nat.one_mul]
      omega
    rw [e, Nat.mul_add]
    rw [Nat.add_mul] at hz
    omega
/-- sums by parts -/
theorem sumD_le {pt : Nat → Nat} {Bd : Nat → Nat → Nat} {Pq : Nat → Nat → Nat} {rr : Nat → Nat} {A : Nat} : ∀ (R D : List Nat), (∀ z ∈ R, pt z < A) → (∀ z ∈ R, ∀ i : Nat, Bd z i ≤ Pq (pt z) i + rr z) →
    sumD pt Bd D R ≤ ns A (fun Q => ns (R.filter (fun d => decide (pt d = Q))).length (fun i => Pq Q ((D.filter (fun d => decide (pt d = Q))).length + i))) + (R.map rr).sum
  | [], _, _, _ => Nat.zero_le _
  | z :: R, D, hp, hb => by
    have ih := sumD_le (Pq := Pq) (rr := rr) R (z :: D) (fun w hw => hp w (List.mem_cons_of_mem _ hw)) (fun w hw => hb w (List.mem_cons_of_mem _ hw))
    have h1 := hb z List.mem_cons_self (cntD pt D z)
    show Bd z (cntD pt D z) + sumD pt Bd (z :: D) R ≤ _
    rw [List.map_cons, List.sum_cons]
    have hone := ns_one (n := A) (j := pt z) (v := Pq (pt z) (cntD pt D z)) (hp z List.mem_cons_self)
    have e2 : ∀ (m : Nat) (f : Nat → Nat), ns (m + 1) f = f 0 + ns m (fun i => f (i + 1)) := by
      intro m f
      induction m with
      | zero => show 0 + f 0 = f 0 + 0; omega
      | succ m ih =>
        show ns (m + 1) f + f (m + 1) = f 0 + (ns m (fun i => f (i + 1)) + f (m + 1))
        rw [ih]; omega
    have key : ns A (fun Q => ns (R.filter (fun d => decide (pt d = Q))).length (fun i => Pq Q (((z :: D).filter (fun d => decide (pt d = Q))).length + i))) + Pq (pt z) (cntD pt D z) ≤ ns A (fun Q => ns ((z :: R).filter (fun d => decide (pt d = Q))).length (fun i => Pq Q ((D.filter (fun d => decide (pt d = Q))).length + i))) := by
      rw [← hone, ← ns_add]
      refine ns_le (fun Q _ => ?_)
      by_cases hQ : pt z = Q
      · have f1 : (z :: D).filter (fun d => decide (pt d = Q)) = z :: D.filter (fun d => decide (pt d = Q)) := List.filter_cons_of_pos (decide_eq_true hQ)
        have f2 : (z :: R).filter (fun d => decide (pt d = Q)) = z :: R.filter (fun d => decide (pt d = Q)) := List.filter_cons_of_pos (decide_eq_true hQ)
        rw [f1, f2, List.length_cons, List.length_cons, e2, if_pos hQ.symm]
        have e5 : Pq Q ((D.filter (fun d => decide (pt d = Q))).length + 0) = Pq Q (D.filter (fun d => decide (pt d = Q))).length := by rw [Nat.add_zero]
        have e3 : Pq (pt z) (cntD pt D z) = Pq Q (D.filter (fun d => decide (pt d = Q))).length := by
          subst hQ
          rfl
        have e4 : ns (R.filter (fun d => decide (pt d = Q))).length (fun i => Pq Q ((D.filter (fun d => decide (pt d = Q))).length + 1 + i)) = ns (R.filter (fun d => decide (pt d = Q))).length (fun i => Pq Q ((D.filter (fun d => decide (pt d = Q))).length + (i + 1))) := ns_cg (fun i _ => by rw [show (D.filter (fun d => decide (pt d = Q))).length + 1 + i = (D.filter (fun d => decide (pt d = Q))).length + (i + 1) by omega])
        rw [e3, e4]
        omega
      · have f1 : (z :: D).filter (fun d => decide (pt d = Q)) = D.filter (fun d => decide (pt d = Q)) := List.filter_cons_of_neg (by rw [decide_eq_false hQ]; decide)
        have f2 : (z :: R).filter (fun d => decide (pt d = Q)) = R.filter (fun d => decide (pt d = Q)) := List.filter_cons_of_neg (by rw [decide_eq_false hQ]; decide)
        rw [f1, f2, if_neg (fun e => hQ e.symm), Nat.add_zero]
        exact Nat.le_refl _
    omega
/-- the order of first places: each lot of the list once -/
theorem dds_mem {w : Nat} : ∀ (m : Nat) (L : List Nat), w ∈ dds m L → w ∈ L
  | 0, _, h => absurd h List.not_mem_nil
  | _ + 1, [], h => absurd h List.not_mem_nil
  | m + 1, z :: L, h => by
    rcases List.mem_cons.mp h with e | h
    · rw [e]; exact List.mem_cons_self
    · exact List.mem_cons_of_mem _ (List.mem_filter.mp (dds_mem m _ h)).1
theorem dds_nodup : ∀ (m : Nat) (L : List Nat), (dds m L).Nodup
  | 0, _ => List.nodup_nil
  | _ + 1, [] => List.nodup_nil
  | m + 1, z :: L => List.nodup_cons.mpr ⟨fun h => by
      have := (List.mem_filter.mp (dds_mem m _ h)).2
      rw [beq_self_eq_true] at this
      exact absurd this (by decide), dds_nodup m _⟩
/-- sums over a list are sums over its lots, by how often they stand there -/
theorem dds_sum {f : Nat → Nat} : ∀ (m : Nat) (L : List Nat), L.length ≤ m → (L.map f).sum = ((dds m L).map (fun z => L.count z * f z)).sum
  | 0, [], _ => rfl
  | _ + 1, [], _ => rfl
  | 0, z :: L, h => absurd h (by rw [List.length_cons]; omega)
  | m + 1, z :: L, h => by
    have hl : (L.filter (fun y => !(y == z))).length ≤ m := by
      have := filter_len (z := z) L
      rw [List.length_cons] at h
      omega
    have ih := dds_sum (f := f) m (L.filter (fun y => !(y == z))) hl
    have hs := sum_filter_ne (f := f) (z := z) L
    show ((z :: L).map f).sum = (((z :: dds m (L.filter (fun y => !(y == z)))) : List Nat).map (fun w => (z :: L).count w * f w)).sum
    rw [List.map_cons, List.sum_cons, List.map_cons, List.sum_cons, hs, ih, List.count_cons_self, Nat.add_mul, Nat.one_mul]
    have e : (dds m (L.filter (fun y => !(y == z)))).map (fun w => (L.filter (fun y => !(y == z))).count w * f w) = (dds m (L.filter (fun y => !(y == z)))).map (fun w => (z :: L).count w * f w) := List.map_congr_left (fun w hw => by
      have h2 := (List.mem_filter.mp (dds_mem m _ hw)).2
      have hne : w ≠ z := fun e => by rw [e, beq_self_eq_true] at h2; exact absurd h2 (by decide)
      rw [filter_count hne, List.count_cons_of_ne (fun e => hne e.symm)])
    rw [e]
    omega
end ZH8
