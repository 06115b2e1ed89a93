/-! THE ROOM: THE P-LEMMA -/
set_option maxRecDepth 100000
section ZH12
variable {z : Nat → Nat} {k : Nat} {X : hS}
/-- a child's further visits, below its part's table -/
def rrP (X : hS) (B l y w : Nat) : Nat :=
  if bL X (ptL X w) = 1 then pX (cT X B (ptL X w)) (cN X (ptL X w)) (l + btw (bL X) B (ptL X w)) (kB X (ptL X w)) else if bL X (ptL X w) = 2 then pX ((fch X y).count w) (cN X (ptL X w)) (l + btw (bL X) B (ptL X w) + 1) (kB X (ptL X w)) else ((fch X y).count w - 1) * pX 2 (cN X (ptL X w)) (l + btw (bL X) B (ptL X w) + (bL X (ptL X w) - 1)) (kB X (ptL X w))
theorem btw_own {Q B : Nat} (h : Q < B) : btw (bL X) B Q + bL X Q + kB X Q ≤ kB X B ∧ ns B (bL X) - ns Q (bL X) = btw (bL X) B Q + bL X Q := by
  have h1 := own_gap (c := cT X) (b := bL X) (mk := mkL X) (m := Q) (n := B) (by omega)
  have h2 := ns_up (f := bL X) (m := Q + 1) (n := B) (by omega)
  have e : ns (Q + 1) (bL X) = ns Q (bL X) + bL X Q := rfl
  have e2 : kB X Q = ns Q (ownP (cT X) (bL X) (mkL X)) := rfl
  have e3 : kB X B = ns B (ownP (cT X) (bL X) (mkL X)) := rfl
  unfold btw
  exact ⟨by omega, by omega⟩
/-- entries of y on part Q, lot by lot -/
theorem ents_dds (hI : iAll z k X) {y Q : Nat} (hy : y < sn X 6) : (((dds (fch X y).length (fch X y)).filter (fun d => decide (ptL X d = Q))).map (fun w => (fch X y).count w)).sum = pS (sn X 6) (ptL X) Q (fun _ => true) (eL X y) ∧ ((dds (fch X y).length (fch X y)).filter (fun d => decide (ptL X d = Q))).length = sB X (fch X y) Q := by
  have hnd := dds_nodup (fch X y).length (fch X y)
  have hmem : ∀ w, w ∈ dds (fch X y).length (fch X y) ↔ w ∈ fch X y := fun w => ⟨dds_mem _ _, fun h => by
    have hs := dds_sum (f := fun x => if x = w then 1 else 0) (fch X y).length (fch X y) (Nat.le_refl _)
    refine Decidable.byContradiction (fun hne => ?_)
    have z1 : ((dds (fch X y).length (fch X y)).map (fun x => (fch X y).count x * (if x = w then 1 else 0))).sum = 0 := by
      have : ∀ M : List Nat, w ∉ M → (M.map (fun x => (fch X y).count x * (if x = w then 1 else 0))).sum = 0 := by
        intro M
        induction M with
        | nil => intro _; rfl
        | cons m M ih =>
          intro hm
          rw [List.map_cons, List.sum_cons, ih (fun h => hm (List.mem_cons_of_mem _ h)), if_neg (fun e => hm (by rw [e]; exact List.mem_cons_self)), Nat.mul_zero]
      exact this _ hne
    rw [z1] at hs
    have : ∀ M : List Nat, w ∈ M → 1 ≤ (M.map (fun x => if x = w then 1 else 0)).sum := by
      intro M
      induction M with
      | nil => intro hm; exact absurd hm List.not_mem_nil
      | cons m M ih =>
        intro hm
        rw [List.map_cons, List.sum_cons]
        rcases List.mem_cons.mp hm with e | hm
        · rw [if_pos e.symm]; omega
        · have := ih hm
          omega
    have := this _ h
    omega⟩
  have hlt := hI.chlt y hy
  constructor
  · rw [ns_mapsum (n := sn X 6) _ (fun w hw => hlt w ((hmem w).mp (List.mem_filter.mp hw).1))]
    unfold pS eL
    refine ns_cg (fun w _ => ?_)
    by_cases h : ptL X w = Q ∧ true = true
    · rw [if_pos h]
      by_cases hw : w ∈ fch X y
      · have : w ∈ (dds (fch X y).length (fch X y)).filter (fun d => decide (ptL X d = Q)) := List.mem_filter.mpr ⟨(hmem w).mpr hw, decide_eq_true h.1⟩
        have c1 := count_nd (hnd.filter (fun d => decide (ptL X d = Q))) w
        have c2 := List.count_pos_iff.mpr this
        rw [show ((dds (fch X y).length (fch X y)).filter (fun d => decide (ptL X d = Q))).count w = 1 by omega, Nat.one_mul]
      · rw [List.count_eq_zero.mpr hw, Nat.mul_zero]
    · rw [if_neg h]
      have : w ∉ (dds (fch X y).length (fch X y)).filter (fun d => decide (ptL X d = Q)) := fun hm => h ⟨of_decide_eq_true (List.mem_filter.mp hm).2, rfl⟩
      rw [List.count_eq_zero.mpr this, Nat.zero_mul]
  · have e : ∀ M : List Nat, (M.map (fun _ => 1)).sum = M.length := by
      intro M
      induction M with
      | nil => rfl
      | cons m M ih => rw [List.map_cons, List.sum_cons, ih, List.length_cons]; omega
    rw [← e, ns_mapsum (n := sn X 6) _ (fun w hw => hlt w ((hmem w).mp (List.mem_filter.mp hw).1))]
    unfold sB
    refine ns_cg (fun w _ => ?_)
    rw [Nat.mul_one]
    by_cases h : ptL X w = Q ∧ w ∈ fch X y
    · rw [if_pos h]
      have : w ∈ (dds (fch X y).length (fch X y)).filter (fun d => decide (ptL X d = Q)) := List.mem_filter.mpr ⟨(hmem w).mpr h.2, decide_eq_true h.1⟩
      have c1 := count_nd (hnd.filter (fun d => decide (ptL X d = Q))) w
      have c2 := List.count_pos_iff.mpr this
      omega
    · rw [if_neg h]
      exact List.count_eq_zero.mpr (fun hm => h ⟨of_decide_eq_true (List.mem_filter.mp hm).2, (hmem w).mp (List.mem_filter.mp hm).1⟩)
theorem sB_le {M : List Nat} {Q : Nat} : sB X M Q ≤ bL X Q := ns_le (fun l _ => by
  by_cases h : ptL X l = Q ∧ l ∈ M
  · rw [if_pos h, if_pos h.1]; exact Nat.le_refl _
  · rw [if_neg h]; exact Nat.zero_le _)
/-- a lot is taken by each component once at most, and but for the list's other lots -/
theorem cnt_c (hI : iAll z k X) (hL : iLt z X) (hC : iCk X) {y w : Nat} (hy : y < sn X 6) (hw : w ∈ fch X y) : (fch X y).count w ≤ cT X (ptL X y) (ptL X w) := by
  have hw6 := hI.chlt y hy w hw
  have hc1 := List.count_pos_iff.mpr hw
  have e1 : (fch X y).count w + sB X (fch X y) (ptL X w) ≤ pS (sn X 6) (ptL X) (ptL X w) (fun _ => true) (eL X y) + 1 := by
    have hone := ns_one (n := sn X 6) (j := w) (v := (fch X y).count w) hw6
    have hone1 := ns_one (n := sn X 6) (j := w) (v := 1) hw6
    have h : ns (sn X 6) (fun i => if i = w then (fch X y).count w else 0) + sB X (fch X y) (ptL X w) ≤ pS (sn X 6) (ptL X) (ptL X w) (fun _ => true) (eL X y) + ns (sn X 6) (fun i => if i = w then 1 else 0) := by
      unfold sB pS eL
      rw [← ns_add, ← ns_add]
      refine ns_le (fun i _ => ?_)
      by_cases hi : i = w
      · subst hi
        rw [if_pos rfl, if_pos rfl, if_pos ⟨rfl, hw⟩, if_pos ⟨rfl, rfl⟩]
        exact Nat.le_refl _
      · rw [if_neg hi, if_neg hi]
        by_cases hm : ptL X i = ptL X w ∧ i ∈ fch X y
        · have := List.count_pos_iff.mpr hm.2
          rw [if_pos hm, if_pos ⟨hm.1, rfl⟩]
          omega
        · rw [if_neg hm]; exact Nat.zero_le _
    omega
  rcases ent_sB hI hL hC hy (ptL X w) with h | h
  · omega
  · have : (fch X y).count w ≤ 0 := by
      rw [← h]
      have := ns_ge (f := fun l => if ptL X l = ptL X w ∧ true = true then eL X y l else 0) hw6
      have e : (if ptL X w = ptL X w ∧ true = true then eL X y w else 0) = eL X y w := if_pos ⟨rfl, rfl⟩
      rw [e] at this
      exact this
    omega
/-- a child's further visits -/
theorem rr_ok (hI : iAll z k X) (hL : iLt z X) (hC : iCk X) {y w l l' : Nat} (hy : y < sn X 6) (hw : w ∈ fch X y) (h62 : kB X (ptL X y) ≤ 62) (h84 : l + kB X (ptL X y) ≤ 84) (hl' : l' + 1 ≤ l + btw (bL X) (ptL X y) (ptL X w) + bL X (ptL X w)) :
    ((fch X y).count w - 1) * ((l' + (uoL X w).length) * nT X w) ≤ rrP X (ptL X y) l y w := by
  have hw6 := hI.chlt y hy w hw
  obtain ⟨hlt, hc0⟩ := (flT hI hL hC).1 y w hy hw6 (List.count_pos_iff.mpr hw)
  obtain ⟨o1, -⟩ := btw_own (X := X) (B := ptL X y) (Q := ptL X w) hlt
  have hb1 := bL_pos (X := X) hw6
  have hq := cnt_q hI hL hC hy hw6
  have hu := (nz_lot hI hL hC hw6 (e := 1) (by omega) (by omega) (qL_pos hI hw6) (by omega)).2
  unfold rrP
  by_cases hc : (fch X y).count w ≤ 1
  · rw [show (fch X y).count w - 1 = 0 by omega, Nat.zero_mul]
    exact Nat.zero_le _
  · have c4 : cT X (ptL X y) (ptL X w) ≤ 4 := Nat.le_trans (ns_ge (f := cT X (ptL X y)) hlt) (skC hI _).1
    have e1 : (fch X y).count w ≤ pS (sn X 6) (ptL X) (ptL X w) (fun _ => true) (eL X y) := by
      have := ns_ge (f := fun l => if ptL X l = ptL X w ∧ true = true then eL X y l else 0) hw6
      have e : (if ptL X w = ptL X w ∧ true = true then eL X y w else 0) = eL X y w := if_pos ⟨rfl, rfl⟩
      rw [e] at this
      exact this
    by_cases hb : bL X (ptL X w) = 1
    · rw [if_pos hb]
      have hcc : (fch X y).count w ≤ cT X (ptL X y) (ptL X w) := by
        have hs := sB_le (X := X) (M := fch X y) (Q := ptL X w)
        rcases ent_sB hI hL hC hy (ptL X w) with h | h <;> omega
      have h := pX_u (e := (fch X y).count w) (e' := cT X (ptL X y) (ptL X w)) (d := cN X (ptL X w)) (l := l + btw (bL X) (ptL X y) (ptL X w)) (u := (uoL X w).length) (k := kB X (ptL X w)) (N := nT X w) (by omega) hcc c4 (skC hI _).1 hu (by omega) (by omega) (nzm_lot hI hL hC hw6 (by omega) (by omega) hq (by omega))
      refine Nat.le_trans (Nat.mul_le_mul_left _ (Nat.mul_le_mul_right _ ?_)) h
      omega
    · rw [if_neg hb]
      by_cases hb2 : bL X (ptL X w) = 2
      · rw [if_pos hb2]
        have hcc := cnt_c hI hL hC hy hw
        have h := pX_u (e := (fch X y).count w) (e' := (fch X y).count w) (d := cN X (ptL X w)) (l := l + btw (bL X) (ptL X y) (ptL X w) + 1) (u := (uoL X w).length) (k := kB X (ptL X w)) (N := nT X w) (by omega) (Nat.le_refl _) (by omega) (skC hI _).1 hu (by omega) (by omega) (nzm_lot hI hL hC hw6 (by omega) (by omega) hq (by omega))
        refine Nat.le_trans (Nat.mul_le_mul_left _ (Nat.mul_le_mul_right _ ?_)) h
        omega
      · rw [if_neg hb2]
        refine Nat.mul_le_mul_left _ ?_
        have h := pX_u (e := 2) (e' := 2) (d := cN X (ptL X w)) (l := l + btw (bL X) (ptL X y) (ptL X w) + (bL X (ptL X w) - 1)) (u := (uoL X w).length) (k := kB X (ptL X w)) (N := nT X w) (by omega) (by omega) (by omega) (skC hI _).1 hu (by omega) (by omega) (nzm_lot hI hL hC hw6 (by omega) (by omega) (by omega) (by omega))
        have h : 1 * _ ≤ _ := h
        rw [Nat.one_mul] at h
        refine Nat.le_trans (Nat.mul_le_mul_right _ ?_) h
        omega
/-- the further visits of one part's lots -/
theorem part_rr (hI : iAll z k X) (hL : iLt z X) (hC : iCk X) {y l Q : Nat} (hy : y < sn X 6) (h62 : kB X (ptL X y) ≤ 62) (h84 : l + kB X (ptL X y) ≤ 84) :
    (dds (fch X y).length (fch X y)).filter (fun d => decide (ptL X d = Q)) = [] ∨ ((0 < cT X (ptL X y) Q ∧ 0 < bL X Q) ∧ Q < ptL X y ∧ (((dds (fch X y).length (fch X y)).filter (fun d => decide (ptL X d = Q))).map (rrP X (ptL X y) l y)).sum ≤ pRep (cT X (ptL X y) Q) (ns Q (cT X Q)) (bL X Q - 1) (l + btw (bL X) (ptL X y) Q) (ns Q (ownP (cT X) (bL X) (mkL X)))) := by
  obtain ⟨e1, e2⟩ := ents_dds (Q := Q) hI hy
  have hsb := sB_le (X := X) (M := fch X y) (Q := Q)
  have hmm : ∀ w ∈ (dds (fch X y).length (fch X y)).filter (fun d => decide (ptL X d = Q)), w ∈ fch X y ∧ ptL X w = Q := fun w hw => ⟨dds_mem _ _ (List.mem_filter.mp hw).1, of_decide_eq_true (List.mem_filter.mp hw).2⟩
  generalize (dds (fch X y).length (fch X y)).filter (fun d => decide (ptL X d = Q)) = R at *
  cases R with
  | nil => exact Or.inl rfl
  | cons w R =>
    right
    obtain ⟨hw, hwQ⟩ := hmm w List.mem_cons_self
    have hw6 := hI.chlt y hy w hw
    obtain ⟨hlt, hc0⟩ := (flT hI hL hC).1 y w hy hw6 (List.count_pos_iff.mpr hw)
    rw [hwQ] at hlt hc0
    have hb1 : 1 ≤ bL X Q := by
      have := bL_pos (X := X) hw6
      rw [hwQ] at this
      exact this
    obtain ⟨o1, -⟩ := btw_own (X := X) (B := ptL X y) (Q := Q) hlt
    refine ⟨⟨hc0, hb1⟩, hlt, ?_⟩
    unfold pRep
    by_cases hb : bL X Q = 1
    · rw [if_pos (by omega)]
      have hR : R = [] := by
        cases R with
        | nil => rfl
        | cons w2 R2 =>
          rw [List.length_cons, List.length_cons] at e2
          omega
      subst hR
      show rrP X (ptL X y) l y w + 0 ≤ _
      unfold rrP
      rw [hwQ, if_pos hb]
      exact Nat.le_refl _
    · rw [if_neg (by omega)]
      by_cases hb2 : bL X Q = 2
      · rw [if_pos (by omega)]
        have hcw : ∀ v ∈ w :: R, 1 ≤ (fch X y).count v ∧ (fch X y).count v ≤ cT X (ptL X y) Q ∧ rrP X (ptL X y) l y v = pX ((fch X y).count v) (cN X Q) (l + btw (bL X) (ptL X y) Q + 1) (kB X Q) := fun v hv => by
          obtain ⟨h1, h2⟩ := hmm v hv
          have h3 := cnt_c hI hL hC hy h1
          rw [h2] at h3
          refine ⟨List.count_pos_iff.mpr h1, h3, ?_⟩
          unfold rrP
          rw [h2, if_neg hb, if_pos hb2]
        have c4 : cT X (ptL X y) Q ≤ 4 := Nat.le_trans (ns_ge (f := cT X (ptL X y)) hlt) (skC hI _).1
        have eN : ns Q (cT X Q) = cN X Q := rfl
        have eK : ns Q (ownP (cT X) (bL X) (mkL X)) = kB X Q := rfl
        rw [eN, eK]
        have up : ∀ e e' : Nat, e ≤ e' → e' ≤ 4 → pX e (cN X Q) (l + btw (bL X) (ptL X y) Q + 1) (kB X Q) ≤ pX e' (cN X Q) (l + btw (bL X) (ptL X y) Q + 1) (kB X Q) := fun e e' h1 h2 => pX_up h1 h2 (skC hI _).1 (by omega) (by omega)
        have x1 : pX 1 (cN X Q) (l + btw (bL X) (ptL X y) Q + 1) (kB X Q) = 0 := if_pos (by decide)
        obtain ⟨a1, a2, a3⟩ := hcw w List.mem_cons_self
        rcases R with _ | ⟨w2, _ | ⟨w3, R3⟩⟩
        · show rrP X (ptL X y) l y w + 0 ≤ _
          rw [a3]
          by_cases hc1 : cT X (ptL X y) Q ≤ 1
          · rw [if_pos hc1, show (fch X y).count w = 1 by omega, x1]
            exact Nat.le_refl _
          · rw [if_neg hc1]
            have := up _ _ a2 c4
            omega
        · show rrP X (ptL X y) l y w + (rrP X (ptL X y) l y w2 + 0) ≤ _
          obtain ⟨b1, b2, b3⟩ := hcw w2 (List.mem_cons_of_mem _ List.mem_cons_self)
          have hE : (fch X y).count w + (fch X y).count w2 ≤ cT X (ptL X y) Q + 1 := by
            have e1 : (fch X y).count w + ((fch X y).count w2 + 0) = pS (sn X 6) (ptL X) Q (fun _ => true) (eL X y) := e1
            have e2 : 2 = sB X (fch X y) Q := e2
            rcases ent_sB hI hL hC hy Q with h | h <;> omega
          rw [a3, b3]
          by_cases hc1 : cT X (ptL X y) Q ≤ 1
          · rw [if_pos hc1, show (fch X y).count w = 1 by omega, show (fch X y).count w2 = 1 by omega, x1]
            exact Nat.le_refl _
          · rw [if_neg hc1]
            generalize (fch X y).count w = ea at *
            generalize (fch X y).count w2 = eb at *
            by_cases ha : ea = 1
            · have := up _ _ b2 c4
              rw [ha, x1]
              omega
            · by_cases hb : eb = 1
              · have := up _ _ a2 c4
                rw [hb, x1]
                omega
              · by_cases ha2 : ea = 2
                · have := up eb (cT X (ptL X y) Q - 1) (by omega) (by omega)
                  rw [ha2]
                  omega
                · have hb2 : eb = 2 := by omega
                  have := up ea (cT X (ptL X y) Q - 1) (by omega) (by omega)
                  rw [hb2]
                  omega
        · exact absurd e2 (by rw [List.length_cons, List.length_cons, List.length_cons]; omega)
      · rw [if_neg (by omega)]
        have hsum : ∀ M : List Nat, (∀ v ∈ M, v ∈ fch X y ∧ ptL X v = Q) → (M.map (rrP X (ptL X y) l y)).sum + M.length * pX 2 (cN X Q) (l + btw (bL X) (ptL X y) Q + (bL X Q - 1)) (kB X Q) ≤ (M.map (fun v => (fch X y).count v)).sum * pX 2 (cN X Q) (l + btw (bL X) (ptL X y) Q + (bL X Q - 1)) (kB X Q) := by
          intro M
          induction M with
          | nil =>
            intro _
            show 0 + 0 * _ ≤ 0 * _
            rw [Nat.zero_mul]
            exact Nat.le_refl _
          | cons v M ih =>
            intro hM
            have ih := ih (fun u hu => hM u (List.mem_cons_of_mem _ hu))
            obtain ⟨hv, hvQ⟩ := hM v List.mem_cons_self
            have hv1 := List.count_pos_iff.mpr hv
            have er : rrP X (ptL X y) l y v = ((fch X y).count v - 1) * pX 2 (cN X Q) (l + btw (bL X) (ptL X y) Q + (bL X Q - 1)) (kB X Q) := by
              unfold rrP
              rw [hvQ, if_neg hb, if_neg hb2]
            rw [List.map_cons, List.sum_cons, List.length_cons, List.map_cons, List.sum_cons, er, Nat.add_mul, Nat.add_mul, Nat.one_mul]
            have e4 : ((fch X y).count v - 1) * pX 2 (cN X Q) (l + btw (bL X) (ptL X y) Q + (bL X Q - 1)) (kB X Q) + pX 2 (cN X Q) (l + btw (bL X) (ptL X y) Q + (bL X Q - 1)) (kB X Q) = (fch X y).count v * pX 2 (cN X Q) (l + btw (bL X) (ptL X y) Q + (bL X Q - 1)) (kB X Q) := by
              rw [← Nat.succ_mul, show Nat.succ ((fch X y).count v - 1) = (fch X y).count v by omega]
            omega
        have hs := hsum (w :: R) hmm
        have hE : ((w :: R).map (fun v => (fch X y).count v)).sum ≤ (cT X (ptL X y) Q - 1) + (w :: R).length := by
          have hpos : 1 ≤ ((w :: R).map (fun v => (fch X y).count v)).sum := by
            rw [List.map_cons, List.sum_cons]
            have := List.count_pos_iff.mpr hw
            omega
          rcases ent_sB hI hL hC hy Q with h | h <;> omega
        have hm := Nat.mul_le_mul_right (pX 2 (cN X Q) (l + btw (bL X) (ptL X y) Q + (bL X Q - 1)) (kB X Q)) hE
        rw [Nat.add_mul] at hm
        have eN : ns Q (cT X Q) = cN X Q := rfl
        have eK : ns Q (ownP (cT X) (bL X) (mkL X)) = kB X Q := rfl
        rw [eN, eK]
        omega
/-- what the lots of one part bring -/
theorem part_ok (hI : iAll z k X) (hL : iLt z X) (hC : iCk X) {y l Q : Nat} (hy : y < sn X 6) (h62 : kB X (ptL X y) ≤ 62) (h84 : l + kB X (ptL X y) ≤ 84) :
    ns ((dds (fch X y).length (fch X y)).filter (fun d => decide (ptL X d = Q))).length (fun i => pP (cN X Q) (l + btw (bL X) (ptL X y) Q + bL X Q - 1 - (0 + i)) (kB X Q)) + (((dds (fch X y).length (fch X y)).filter (fun d => decide (ptL X d = Q))).map (rrP X (ptL X y) l y)).sum ≤ pPt (cT X) (bL X) (mkL X) (ptL X y) l Q := by
  have e2 := (ents_dds (Q := Q) hI hy).2
  have hsb := sB_le (X := X) (M := fch X y) (Q := Q)
  rcases part_rr hI hL hC (l := l) (Q := Q) hy h62 h84 with h | ⟨hp, hlt, h⟩
  · rw [h]; exact Nat.zero_le _
  · unfold pPt
    rw [if_pos hp]
    refine Nat.add_le_add ?_ h
    have := ns_top (f := fun i => pP (cN X Q) (l + btw (bL X) (ptL X y) Q + i) (kB X Q)) (b := bL X Q) (s := ((dds (fch X y).length (fch X y)).filter (fun d => decide (ptL X d = Q))).length) (by omega)
    refine Nat.le_trans (Nat.le_of_eq (ns_cg (fun i hi => ?_))) this
    rw [show l + btw (bL X) (ptL X y) Q + bL X Q - 1 - (0 + i) = l + btw (bL X) (ptL X y) Q + (bL X Q - 1 - i) by omega]
/-- THE P-LEMMA -/
theorem p_lemma (hI : iAll z k X) (hL : iLt z X) (hC : iCk X) : ∀ (n y l : Nat) (G : List Nat), y < n → y < sn X 6 → kB X (ptL X y) ≤ 62 → l + kB X (ptL X y) ≤ 84 → G.Nodup → (∀ x ∈ G, hB X x y = true ∧ x ≠ y) →
    (l + (uoL X y).length) * nT X y + (G.map (fun x => iw (fch X) 100 x y)).sum ≤ pP (cN X (ptL X y)) l (kB X (ptL X y)) := by
  intro n
  induction n with
  | zero => intro y l G h; omega
  | succ n ih =>
    intro y l G hyn hy h62 h84 hG hGy
    have h100 := hI.n100
    have hch := hI.chl y hy
    -- what may be found below y
    have hGlt : ∀ x ∈ G, x < sn X 6 ∧ ptL X x < ptL X y := fun x hx => by
      rcases tree_lt hI hL hC (y + 1) y x (by omega) hy (inn_tIn.mp (hGy x hx).1) with e | e
      · exact absurd e (hGy x hx).2
      · exact e
    have hUo : ∀ x ∈ uoL X y, x < sn X 6 ∧ ptL X x < ptL X y ∧ hB X x y = false := fun x hx => by
      obtain ⟨h1, h2⟩ := List.mem_filter.mp hx
      rw [Bool.and_eq_true] at h2
      refine ⟨List.mem_range.mp h1, of_decide_eq_true h2.1, ?_⟩
      have := h2.2
      cases hh : hB X x y with
      | true => rw [hh] at this; exact absurd this (by decide)
      | false => rfl
    have hUnd : (uoL X y ++ G).Nodup := by
      rw [List.nodup_append]
      refine ⟨List.nodup_range.filter _, hG, fun a ha b hb e => ?_⟩
      subst e
      have h1 := (hUo a ha).2.2
      rw [(hGy a hb).1] at h1
      exact absurd h1 (by decide)
    have hUall : ∀ x ∈ uoL X y ++ G, x < sn X 6 ∧ ptL X x < ptL X y := fun x hx => by
      rcases List.mem_append.mp hx with h | h
      · exact ⟨(hUo x h).1, (hUo x h).2.1⟩
      · exact hGlt x h
    have hlen := len_ns (N := sn X 6) (P := fun x => ptL X x < ptL X y) hUnd hUall
    rw [lots_below, List.length_append] at hlen
    have hkb := kB_bs (X := X) (A := ptL X y)
    -- y and its list
    have e1 : (G.map (fun x => iw (fch X) 100 x y)).sum = G.length + (G.map (fun x => lW (fch X) 100 x (fch X y))).sum := by
      clear hlen hUnd hUall
      induction G with
      | nil => rfl
      | cons x G ihG =>
        have ihG := ihG (List.nodup_cons.mp hG).2 (fun w hw => hGy w (List.mem_cons_of_mem _ hw)) (fun w hw => hGlt w (List.mem_cons_of_mem _ hw))
        rw [List.map_cons, List.sum_cons, ihG, List.map_cons, List.sum_cons, List.length_cons, iw_list hI hy (hGy x List.mem_cons_self).2]
        omega
    have e2 := out_list hI hy (uoL X y) (fun x hx => (hUo x hx).2.2)
    have e3 := nT_list hI hy
    have main := list_lots (ch := fch X) (n := 100) (pt := ptL X) (l := l) (Bd := fun w i => pP (cN X (ptL X w)) (l + btw (bL X) (ptL X y) (ptL X w) + bL X (ptL X w) - 1 - i) (kB X (ptL X w)) + rrP X (ptL X y) l y w) (C := fun w => (fch X y).count w) (PD := fun d => d < sn X 6 ∧ ptL X d < ptL X y) (PU := fun x => x < sn X 6 ∧ ptL X x < ptL X y)
      (fch X y).length (fch X y) [] (uoL X y ++ G) (Nat.le_refl _) hUnd (fun x _ d hd => absurd hd List.not_mem_nil) (fun w _ => List.not_mem_nil) (fun w _ => rfl) (fun d hd => absurd hd List.not_mem_nil) hUall (fun w hw => by
        have hw6 := hI.chlt y hy w hw
        exact ⟨hw6, ((flT hI hL hC).1 y w hy hw6 (List.count_pos_iff.mpr hw)).1⟩) (fun w hw D U hU hl hwD hD hPD hPU => by
        have hw6 := hI.chlt y hy w hw
        have hwy := hch w hw
        obtain ⟨hlt, hc0⟩ := (flT hI hL hC).1 y w hy hw6 (List.count_pos_iff.mpr hw)
        obtain ⟨o1, o2⟩ := btw_own (X := X) (B := ptL X y) (Q := ptL X w) hlt
        obtain ⟨n1, n2⟩ := out_cnt hI (A := ptL X y) hw6 hlt hU hl hD hwD hPD hPU
        have hc1 := List.count_pos_iff.mpr hw
        rw [o2] at n1
        have hIH := ih w (l + btw (bL X) (ptL X y) (ptL X w) + bL X (ptL X w) - 1 - cntD (ptL X) D w) ((got (fch X) 100 U w).filter (fun x => !(w == x))) (by omega) hw6 (by omega) (by omega) ((hU.filter _).filter _) (fun x hx => by
          obtain ⟨g1, g2⟩ := List.mem_filter.mp hx
          exact ⟨got_inn x g1, fun e => by rw [e, beq_self_eq_true] at g2; exact absurd g2 (by decide)⟩)
        have hgot : ((got (fch X) 100 U w).map (fun x => iw (fch X) 100 x w)).sum = (((got (fch X) 100 U w).filter (fun x => !(w == x))).map (fun x => iw (fch X) 100 x w)).sum := sum_filter _ (fun x _ hf => by
          unfold iw
          have : (w == x) = true := by
            cases hh : w == x with
            | true => rfl
            | false => rw [hh] at hf; exact absurd hf (by decide)
          rw [if_pos this])
        have hrr := rr_ok hI hL hC (l := l) (l' := l + btw (bL X) (ptL X y) (ptL X w) + bL X (ptL X w) - 1 - cntD (ptL X) D w) hy hw h62 h84 (by omega)
        rw [hgot]
        generalize hl' : l + btw (bL X) (ptL X y) (ptL X w) + bL X (ptL X w) - 1 - cntD (ptL X) D w = l' at *
        have hle : l + (out (fch X) 100 U w).length ≤ l' + (uoL X w).length := by omega
        have hm := Nat.mul_le_mul_right ((fch X y).count w * nT X w) hle
        have eN : tN (fch X) 100 w = nT X w := rfl
        have e5 : (l' + (uoL X w).length) * ((fch X y).count w * nT X w) = (l' + (uoL X w).length) * nT X w + ((fch X y).count w - 1) * ((l' + (uoL X w).length) * nT X w) := by
          obtain ⟨c', hc'⟩ : ∃ c' : Nat, (fch X y).count w = c' + 1 := ⟨(fch X y).count w - 1, by omega⟩
          rw [hc', Nat.add_sub_cancel, Nat.add_mul c' 1, Nat.one_mul, Nat.mul_add, Nat.mul_left_comm]
          omega
        rw [eN]
        omega) List.nodup_nil
    have hdl : ∀ w ∈ dds (fch X y).length (fch X y), ptL X w < ptL X y := fun w hw => by
      have hw := dds_mem _ _ hw
      exact ((flT hI hL hC).1 y w hy (hI.chlt y hy w hw) (List.count_pos_iff.mpr hw)).1
    have s1 := sumD_le (pt := ptL X) (Bd := fun w i => pP (cN X (ptL X w)) (l + btw (bL X) (ptL X y) (ptL X w) + bL X (ptL X w) - 1 - i) (kB X (ptL X w)) + rrP X (ptL X y) l y w) (Pq := fun Q i => pP (cN X Q) (l + btw (bL X) (ptL X y) Q + bL X Q - 1 - i) (kB X Q)) (rr := rrP X (ptL X y) l y) (A := ptL X y) (dds (fch X y).length (fch X y)) [] hdl (fun w _ i => Nat.le_refl _)
    rw [sum_parts (f := rrP X (ptL X y) l y) _ hdl, ← ns_add] at s1
    have s2 := ns_le (n := ptL X y) (fun Q _ => part_ok hI hL hC (l := l) (Q := Q) hy h62 h84)
    have s3 := pPt_tab (c := cT X) (b := bL X) (mk := mkL X) (fun A => (skC hI A).1) (fun A => (skC hI A).2) (B := ptL X y) (l := l) h62 h84 (ptL X y) (Nat.le_refl _)
    rw [Nat.sub_self, Nat.add_zero] at s3
    rw [List.map_append, List.sum_append, e2] at main
    have e6 : ((fch X y).map (tN (fch X) 100)).sum = ((fch X y).map (nT X)).sum := rfl
    rw [e6] at main
    have e7 : pP (cN X (ptL X y)) l (kB X (ptL X y)) = l + kB X (ptL X y) + pF (ns (ptL X y) (cT X (ptL X y))) l (ns (ptL X y) (ownP (cT X) (bL X) (mkL X))) := rfl
    rw [e7, e1, e3, Nat.mul_add, Nat.mul_one, Nat.add_mul]
    have s4 := Nat.le_trans main (Nat.le_trans s1 (Nat.le_trans s2 s3))
    omega
end ZH12
