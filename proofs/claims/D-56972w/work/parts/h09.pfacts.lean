/-! THE ROOM: further visits below the tables; a lot's entries on a part, by its lots there -/
set_option maxRecDepth 100000
theorem ckLeF1 : ckLe tPF1 tPF2 = true := by decide +kernel
theorem ckLeF2 : ckLe tPF2 tPF3 = true := by decide +kernel
theorem ckLeF3 : ckLe tPF3 tPF4 = true := by decide +kernel
section ZH9
theorem pF_up {c l k : Nat} (hc : c + 1 ≤ 4) (hk : k ≤ 62) (h : l + k ≤ 84) : pF c l k ≤ pF (c + 1) l k := by
  have key : ∀ T T' : Nat, ckLe T T' = true → tp T l k ≤ tp T' l k := fun T T' hT =>
    Nat.le_of_ble_eq_true (allN_at (allN_at hT k (by omega)) l (by show l < 85 - k; omega))
  have h5 : c = 0 ∨ c = 1 ∨ c = 2 ∨ c = 3 := by omega
  rcases h5 with rfl | rfl | rfl | rfl
  · rw [pF0]; exact Nat.zero_le _
  · exact key _ _ ckLeF1
  · exact key _ _ ckLeF2
  · exact key _ _ ckLeF3
theorem pF_ups {c l k : Nat} (q : Nat) (hc : c + q ≤ 4) (hk : k ≤ 62) (h : l + k ≤ 84) : pF c l k ≤ pF (c + q) l k := by
  induction q with
  | zero => exact Nat.le_refl _
  | succ q ih => exact Nat.le_trans (ih (by omega)) (pF_up (by omega) hk h)
theorem nzm0 {e k : Nat} : nzm 0 e k ≤ 1 := by
  unfold nzm
  refine Nat.le_trans (Nat.min_le_left _ _) ?_
  have : nzT (tJ 0 0) 1 k = (1 + tat 0 (64 * (1 - 1) + k)) / 1 := rfl
  rw [this, tat0]
  exact Nat.le_refl _
theorem tPX_d {d : Nat} (h1 : 1 ≤ d) (h4 : d ≤ 4) : (ckDg (tPX 2 d) = true ∧ ckDg (tPX 3 d) = true ∧ ckDg (tPX 4 d) = true) ∧ (ckZ 1 2 (tJ 0 d) (tPX 2 d) = true ∧ ckZ 2 3 (tJ 0 d) (tPX 3 d) = true ∧ ckZ 3 4 (tJ 0 d) (tPX 4 d) = true) ∧ ckLe (tPX 2 d) (tPX 3 d) = true ∧ ckLe (tPX 3 d) (tPX 4 d) = true := by
  have h5 : d = 1 ∨ d = 2 ∨ d = 3 ∨ d = 4 := by omega
  rcases h5 with rfl | rfl | rfl | rfl
  · exact ⟨⟨ckDgX21, ckDgX31, ckDgX41⟩, ⟨ckZ21, ckZ31, ckZ41⟩, ckLe23_1, ckLe34_1⟩
  · exact ⟨⟨ckDgX22, ckDgX32, ckDgX42⟩, ⟨ckZ22, ckZ32, ckZ42⟩, ckLe23_2, ckLe34_2⟩
  · exact ⟨⟨ckDgX23, ckDgX33, ckDgX43⟩, ⟨ckZ23, ckZ33, ckZ43⟩, ckLe23_3, ckLe34_3⟩
  · exact ⟨⟨ckDgX24, ckDgX34, ckDgX44⟩, ⟨ckZ24, ckZ34, ckZ44⟩, ckLe23_4, ckLe34_4⟩
theorem tp_dg {T : Nat} (hT : ckDg T = true) : ∀ u l k : Nat, u ≤ k → k ≤ 62 → l + k ≤ 84 → tp T (l + u) (k - u) ≤ tp T l k := by
  intro u
  induction u with
  | zero => intro l k _ _ _; exact Nat.le_refl _
  | succ u ih =>
    intro l k hu hk hl
    have h1 := ih (l + 1) (k - 1) (by omega) (by omega) (by omega)
    rw [show l + 1 + u = l + (u + 1) by omega, show k - 1 - u = k - (u + 1) by omega] at h1
    have h2 := Nat.le_of_ble_eq_true (allN_at (allN_at hT (k - 1) (by omega)) l (by show l < 84 - (k - 1); omega))
    have h2 : tp T (l + 1) (k - 1) ≤ tp T l (k - 1 + 1) := h2
    rw [show k - 1 + 1 = k by omega] at h2
    omega
/-- e visits in all, lots outside the tree counted, below the table -/
theorem pX_u {e e' d l u k N : Nat} (he : 2 ≤ e) (hee : e ≤ e') (he4 : e' ≤ 4) (hd : d ≤ 4) (hu : u ≤ k) (hk : k ≤ 62) (hl : l + k ≤ 84) (hN : N ≤ nzm d e (k - u)) :
    (e - 1) * ((l + u) * N) ≤ pX e' d l k := by
  unfold pX
  rw [if_neg (by omega)]
  by_cases h0 : d = 0
  · subst h0
    rw [if_pos rfl]
    have h1 := Nat.le_trans hN nzm0
    have h2 : (l + u) * N ≤ (l + k) * 1 := Nat.mul_le_mul (by omega) h1
    rw [Nat.mul_one] at h2
    exact Nat.mul_le_mul (by omega) h2
  · rw [if_neg h0]
    obtain ⟨⟨g2, g3, g4⟩, ⟨z2, z3, z4⟩, le23, le34⟩ := tPX_d (d := d) (by omega) hd
    have up : tp (tPX e d) l k ≤ tp (tPX e' d) l k := by
      have l23 := Nat.le_of_ble_eq_true (allN_at (allN_at le23 k (by omega)) l (by show l < 85 - k; omega))
      have l34 := Nat.le_of_ble_eq_true (allN_at (allN_at le34 k (by omega)) l (by show l < 85 - k; omega))
      have h5 : (e = 2 ∨ e = 3 ∨ e = 4) ∧ (e' = 2 ∨ e' = 3 ∨ e' = 4) := by omega
      rcases h5 with ⟨rfl | rfl | rfl, rfl | rfl | rfl⟩ <;> omega
    refine Nat.le_trans ?_ up
    have key : ∀ T q : Nat, ckDg T = true → ckZ q e (tJ 0 d) T = true → q = e - 1 → (e - 1) * ((l + u) * N) ≤ tp T l k := by
      intro T q hT hz hq
      subst hq
      have h1 := tp_dg hT u l k hu hk hl
      have h2 := Nat.le_of_ble_eq_true (allN_at (allN_at hz (k - u) (by omega)) (l + u) (by show l + u < 85 - (k - u); omega))
      have h2 : (e - 1) * (l + u) * nzm d e (k - u) ≤ tp T (l + u) (k - u) := h2
      have h3 : (e - 1) * ((l + u) * N) ≤ (e - 1) * (l + u) * nzm d e (k - u) := by
        rw [← Nat.mul_assoc]
        exact Nat.mul_le_mul_left _ hN
      omega
    have h5 : e = 2 ∨ e = 3 ∨ e = 4 := by omega
    rcases h5 with rfl | rfl | rfl
    · exact key _ 1 g2 z2 rfl
    · exact key _ 2 g3 z3 rfl
    · exact key _ 3 g4 z4 rfl
/-- more visits, more cells -/
theorem pX_up {e e' d l k : Nat} (hee : e ≤ e') (he4 : e' ≤ 4) (hd : d ≤ 4) (hk : k ≤ 62) (hl : l + k ≤ 84) : pX e d l k ≤ pX e' d l k := by
  unfold pX
  by_cases h1 : e ≤ 1
  · rw [if_pos h1]; exact Nat.zero_le _
  · have h2 : ¬ e' ≤ 1 := by omega
    rw [if_neg h1, if_neg h2]
    by_cases h0 : d = 0
    · rw [if_pos h0, if_pos h0]
      exact Nat.mul_le_mul_right _ (by omega)
    · rw [if_neg h0, if_neg h0]
      obtain ⟨-, -, le23, le34⟩ := tPX_d (d := d) (by omega) hd
      have l23 := Nat.le_of_ble_eq_true (allN_at (allN_at le23 k (by omega)) l (by show l < 85 - k; omega))
      have l34 := Nat.le_of_ble_eq_true (allN_at (allN_at le34 k (by omega)) l (by show l < 85 - k; omega))
      have h5 : (e = 2 ∨ e = 3 ∨ e = 4) ∧ (e' = 2 ∨ e' = 3 ∨ e' = 4) := by omega
      rcases h5 with ⟨rfl | rfl | rfl, rfl | rfl | rfl⟩ <;> omega
variable {z : Nat → Nat} {k : Nat} {X : hS}
theorem gR4 {e : Nat} (h1 : 1 ≤ e) (h4 : e ≤ 4) : gR (e - 1) = e := by
  have h5 : e = 1 ∨ e = 2 ∨ e = 3 ∨ e = 4 := by omega
  rcases h5 with rfl | rfl | rfl | rfl <;> decide +kernel
/-- a lot with e pieces at least: its nodes, lots outside its tree counted off -/
theorem nz_lot (hI : iAll z k X) (hL : iLt z X) (hC : iCk X) {y e : Nat} (hy : y < sn X 6) (h1 : 1 ≤ e) (h4 : e ≤ 4) (hq : e ≤ qL X y) (h62 : kB X (ptL X y) ≤ 62) :
    nT X y ≤ nzT (tJ 0 (cN X (ptL X y))) e (kB X (ptL X y) - (uoL X y).length) ∧ (uoL X y).length ≤ kB X (ptL X y) := by
  have h := load_tab hI hL hC hy (r := e - 1) (M := e) (by omega) (Nat.le_of_eq (gR4 h1 h4).symm) hq h62
  rw [gR4 h1 h4] at h
  refine ⟨?_, h.2⟩
  show nT X y ≤ (e + tat (tJ 0 (cN X (ptL X y))) (64 * (e - 1) + (kB X (ptL X y) - (uoL X y).length))) / e
  rw [Nat.le_div_iff_mul_le (by omega), Nat.mul_comm]
  exact h.1
theorem nzm_lot (hI : iAll z k X) (hL : iLt z X) (hC : iCk X) {y e : Nat} (hy : y < sn X 6) (h1 : 2 ≤ e) (h4 : e ≤ 4) (hq : e ≤ qL X y) (h62 : kB X (ptL X y) ≤ 62) :
    nT X y ≤ nzm (cN X (ptL X y)) e (kB X (ptL X y) - (uoL X y).length) := by
  have a := (nz_lot hI hL hC hy (e := 1) (by omega) (by omega) (by omega) h62).1
  have b := (nz_lot hI hL hC hy (e := 2) (by omega) (by omega) (by omega) h62).1
  have c := (nz_lot hI hL hC hy (e := e) (by omega) (by omega) (by omega) h62).1
  unfold nzm
  omega
/-- a lot taken e times by one lot has e pieces at least -/
theorem cnt_q (hI : iAll z k X) (hL : iLt z X) (hC : iCk X) {r y : Nat} (hr : r < sn X 6) (hy : y < sn X 6) : (fch X r).count y ≤ qL X y := by
  have h := mZ_q hI hL hC (R := [r]) (List.nodup_cons.mpr ⟨List.not_mem_nil, List.nodup_nil⟩) (fun w hw => by rw [List.mem_singleton] at hw; rw [hw]; exact hr) hy
  have e : mZ X [r] y = (fch X r).count y + 0 := rfl
  rw [e] at h
  exact h
/-- all but the greatest of a list's lots on a part -/
theorem gr_len {pt : Nat → Nat} {B N : Nat} {M : List Nat} (hM : ∀ x ∈ M, x < N) : (∃ x ∈ M, pt x = B) →
    ns N (fun l => if pt l = B ∧ (M.contains l && M.any (fun m => decide (l < m ∧ pt m = pt l))) = true then 1 else 0) + 1 ≤ ns N (fun l => if pt l = B ∧ l ∈ M then 1 else 0) := by
  rintro ⟨x, hx, hxB⟩
  obtain ⟨m, m1, m2, m3⟩ := exmax (P := fun l => pt l = B ∧ l ∈ M) N ⟨x, hM x hx, hxB, hx⟩
  have hone := ns_one (n := N) (j := m) (v := 1) m1
  rw [← hone, ← ns_add]
  refine ns_le (fun l hl => ?_)
  by_cases hlm : l = m
  · subst hlm
    rw [if_pos rfl, if_pos m2, if_neg (fun c => by
      have h2 := c.2
      rw [Bool.and_eq_true, List.any_eq_true] at h2
      obtain ⟨-, b, hb, hd⟩ := h2
      obtain ⟨d1, d2⟩ := of_decide_eq_true hd
      have := m3 b (hM b hb) ⟨by rw [d2]; exact m2.1, hb⟩
      omega)]
    omega
  · rw [if_neg hlm]
    by_cases hc : pt l = B ∧ (M.contains l && M.any (fun m => decide (l < m ∧ pt m = pt l))) = true
    · have h2 := hc.2
      rw [Bool.and_eq_true] at h2
      rw [if_pos hc, if_pos ⟨hc.1, List.contains_iff_mem.mp h2.1⟩]
      omega
    · rw [if_neg hc]
      split <;> omega
/-- a made lot's entries on a part: its components there, and one less than its lots there; they are those of its order -/
theorem ent_s (hI : iAll z k X) (hL : iLt z X) (hC : iCk X) {y : Nat} (hy : y < sn X 6) (B : Nat) :
    pS (sn X 6) (ptL X) B (fun _ => true) (eL X y) = 0 ∨ ∃ o : Nat, o < sn X 8 ∧ sT X 8 13 o = (y : Nat) ∧ ofs (fTl X o) = fch X y ∧ pS (sn X 6) (ptL X) B (fun _ => true) (eL X y) ≤ cL X (ptL X y) B + trB X o B := by
  obtain ⟨c1, c2⟩ := ch_ts (y := y) hI hy
  have s1 : pS (sn X 6) (ptL X) B (fun _ => true) (eL X y) = ((tlL X (sT X 6 3 y).toNat).map (fun e => if ptL X e.1.toNat = B then 1 else 0)).sum := by
    have := ns_cnt (P := fun x => ptL X x = B ∧ (fun _ => true) x = true) (n := sn X 6) (fch X y) (hI.chlt y hy)
    unfold pS eL
    refine this.trans ?_
    rw [c1, List.map_map]
    congr 1
    refine List.map_congr_left (fun e _ => ?_)
    show (if ptL X e.1.toNat = B ∧ true = true then 1 else 0) = _
    by_cases h : ptL X e.1.toNat = B
    · rw [if_pos ⟨h, rfl⟩, if_pos h]
    · rw [if_neg (fun w => h w.1), if_neg h]
  by_cases hne : tlL X (sT X 6 3 y).toNat = []
  · left
    rw [s1, hne]; rfl
  · right
    obtain ⟨p, o, cs, hp, e1, hev, ho, h13, hq, hol, hfl, k1, k2, k3, k4, k5⟩ := lot_cs hI hL hC hy hne
    have hTl : fTl X o = tlL X (sT X 6 3 y).toNat := by
      unfold fTl tlL
      rw [hol]
    refine ⟨o, ho, h13, by rw [hTl, c1]; rfl, ?_⟩
    have hin : ∀ c ∈ cs, c.2 ≠ [] ∧ ∀ e ∈ c.2, ptL X e.1.toNat = (sT X 4 0 c.1.toNat).toNat := fun c hc => by
      obtain ⟨q1, q2, -⟩ := k2 c hc
      refine ⟨q1, fun e he => ?_⟩
      obtain ⟨l, l1, l2, l3, l4⟩ := q2 e he
      have : e.1.toNat = l := by omega
      rw [this]
      unfold ptL
      rw [l3]
    obtain ⟨nl, f, g1, g2, g3, g4⟩ := oWhole (pt := fun a => ptL X a.toNat) (g := fun j => (sT X 4 0 j.toNat).toNat) (B := B) cs k5 hin
    rw [hfl] at g2 g4
    rw [s1]
    have hf : f ≤ cL X (ptL X y) B := by
      refine Nat.le_trans g3 ?_
      rw [e1]
      unfold cL cP
      rw [if_pos hev]
      exact (k1.map _).count_le B
    have hnn : ∀ a ∈ (tlL X (sT X 6 3 y).toNat).map Prod.fst, 0 ≤ a ∧ a.toNat < sn X 6 ∧ a.toNat ∈ ofs (fTl X o) := fun a ha => by
      obtain ⟨e, he, rfl⟩ := List.mem_map.mp ha
      have := c2 e he
      refine ⟨this.1, by omega, ?_⟩
      rw [hTl]
      exact List.mem_map.mpr ⟨e, he, rfl⟩
    have hnd : (nl.map Int.toNat).Nodup := by
      rw [List.nodup_iff_pairwise_ne, List.pairwise_map]
      refine List.Pairwise.imp_of_mem ?_ (List.nodup_iff_pairwise_ne.mp g1)
      intro a b ha hb hab e
      have h1 := (hnn a (g2 a ha).1).1
      have h2 := (hnn b (g2 b hb).1).1
      exact hab (by omega)
    have hm := ns_mem (n := sn X 6) (P := fun l => ptL X l = B ∧ t26 X o l = true) (f := fun _ => 1) hnd (fun a ha => by
      obtain ⟨a', ha', rfl⟩ := List.mem_map.mp ha
      obtain ⟨h1, h2, b, h3, h4, h5⟩ := g2 a' ha'
      obtain ⟨p1, p2, p3⟩ := hnn a' h1
      obtain ⟨r1, r2, r3⟩ := hnn b h3
      refine ⟨p2, h2, ?_⟩
      unfold t26
      rw [Bool.and_eq_true, List.any_eq_true]
      exact ⟨List.contains_iff_mem.mpr p3, b.toNat, r3, decide_eq_true ⟨by omega, by rw [h4]; exact h2.symm⟩⟩)
    have hlen : ∀ M : List Nat, (M.map (fun _ => 1)).sum = M.length := by
      intro M
      induction M with
      | nil => rfl
      | cons m M ih => rw [List.map_cons, List.sum_cons, ih, List.length_cons]; omega
    rw [hlen, List.length_map] at hm
    have g4 : ((tlL X (sT X 6 3 y).toNat).map (fun e => if ptL X e.1.toNat = B then 1 else 0)).sum = nl.length + f := g4
    unfold trB
    omega
/-- how many lots of part B stand in a list -/
def sB (X : hS) (M : List Nat) (B : Nat) : Nat := ns (sn X 6) (fun l => if ptL X l = B ∧ l ∈ M then 1 else 0)
theorem ent_sB (hI : iAll z k X) (hL : iLt z X) (hC : iCk X) {y : Nat} (hy : y < sn X 6) (B : Nat) :
    pS (sn X 6) (ptL X) B (fun _ => true) (eL X y) + 1 ≤ cT X (ptL X y) B + sB X (fch X y) B ∨ pS (sn X 6) (ptL X) B (fun _ => true) (eL X y) = 0 := by
  obtain ⟨p, hp, -, -, e3⟩ := ptL_at hI hy
  have eT : cT X (ptL X y) B = cL X (ptL X y) B := if_pos (by omega)
  rcases ent_s hI hL hC hy B with h | ⟨o, ho, h13, hof, h⟩
  · exact Or.inr h
  · by_cases h0 : pS (sn X 6) (ptL X) B (fun _ => true) (eL X y) = 0
    · exact Or.inr h0
    · left
      have hex : ∃ x ∈ fch X y, ptL X x = B := by
        refine Decidable.byContradiction (fun hne => h0 ?_)
        unfold pS
        refine (ns_cg (g := fun _ => 0) (fun x _ => ?_)).trans (ns_zero _)
        by_cases hB : ptL X x = B ∧ true = true
        · rw [if_pos hB]
          exact List.count_eq_zero.mpr (fun hm => hne ⟨x, hm, hB.1⟩)
        · rw [if_neg hB]
      have hg := gr_len (pt := ptL X) (B := B) (N := sn X 6) (M := fch X y) (hI.chlt y hy) hex
      have e2 : trB X o B = ns (sn X 6) (fun l => if ptL X l = B ∧ ((fch X y).contains l && (fch X y).any (fun m => decide (l < m ∧ ptL X m = ptL X l))) = true then 1 else 0) := by
        unfold trB t26
        rw [hof]
      rw [e2] at h
      rw [eT]
      unfold sB
      omega
end ZH9
