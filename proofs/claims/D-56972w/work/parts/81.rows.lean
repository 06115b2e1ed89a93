/-! THE USER'S HEAP: rows: new objects and lists, clear, iterators, casts, throws -/
set_option maxRecDepth 100000
section ZUT
variable {g : zG} {w0 : hG} {σ σ1 : zS} {gh gh' : Nat → Nat → Nat} {S S' : hS} {J J' : zw_W} {c i a k kd d d1 pc idx idx2 k0 len cnt h : Nat} {v : Int} {xs : List Int} {lv lv1 : zp_L} {st rest : List Value} {Q : Option Value ⊕ String → zS → Prop} {C E : String} {x : Nat × Nat} {μ' : zMt} {ins : Instr} {z : Nat × zp_L}
theorem hW_new {m : Nat} {fs : List Value} (H : hRep g w0 σ gh S J) (hx : r_i k pc = some (.new idx, 3)) (ht : zthrow (r_c k) (r_o k) pc idx = none) (hl : zl_at (r_o k) idx = some C) (hn : zn_at C = some (c, m, fs)) (hfs : fs = (bspec c).map (fun kd => conv gh kd (adef kd))) (hc : Nat.blt c 20 = true)
    (hr : ∀ (σ' : zS) (b : Nat), hRep g w0 σ' (ghw gh S c b) (snw S c []) J → hat (ghw gh S c b) (snw S c []) c (sn S c) b → kc σ σ' 1 m → zW g d k (pc + 3) lv (.ref b :: st) σ' Q) : zW g d k pc lv st σ Q := by
  have c1 : c < 20 := Nat.le_of_ble_eq_true hc
  refine wW_new hx ht hl hn ?_
  exact hr _ _ (H.alloc (by omega) (by rw [if_pos c1, hfs]) (fun _ => rfl) (by omega) (fun y hy => by cases hy)) hat.new ⟨Nat.le_succ _, Nat.le_refl _, Nat.le_add_right _ _, Nat.le_refl _⟩
/-- 'new ArrayList()', as a list of role c -/
theorem hW_newL (c : Nat) (H : hRep g w0 σ gh S J) (hx : r_i k pc = some (.new idx, 3)) (hx1 : r_i k (pc + 3) = some (.dup, 1)) (hx2 : r_i k (pc + 3 + 1) = some (.invokespecial idx2, 3)) (ht : zthrow (r_c k) (r_o k) pc idx = none) (hl : zl_at (r_o k) idx = some "java/util/ArrayList")
    (hno : zxs_at (r_o k) idx2 = none) (hI : zcI_at (r_o k) idx2 = some (1, 0)) (hc1 : Nat.ble 20 c = true) (hc2 : Nat.blt c 45 = true) (h6 : ∀ b : Nat, zc6 (.ref b :: st) = true) (hd : 2 < d)
    (hr : ∀ (σ' : zS) (b : Nat), hRep g w0 σ' (ghw gh S c b) (snw S c []) J → hat (ghw gh S c b) (snw S c []) c (sn S c) b → kc σ σ' 1 3 → zW g d k (pc + 3 + 1 + 3) lv (.ref b :: st) σ' Q) : zW g d k pc lv st σ Q := by
  have c1 := Nat.le_of_ble_eq_true hc1
  have c2 : c < 45 := Nat.le_of_ble_eq_true hc2
  refine wW_new hx ht hl (show zn_at "java/util/ArrayList" = some (16, 3, [iv 0, .null, iv 0]) from rfl) ?_
  refine zW_p 1 (pc' := pc + 3 + 1) (lv' := lv) (st' := .ref σ.2.1 :: .ref σ.2.1 :: st) ?_ ?_
  · unfold zpt
    rw [hx1]
    rfl
  refine wI hx2 hno hI rfl rfl rfl rfl (h6 _) rfl (c_listInit (zw_up_same _ _ _) H.2.2.1 H.1.2.2.2) hd ?_
  have H2 := H.alloc (c := c) (xs := []) (x := .inr (16, [iv 0, .ref w0.2, iv 0])) (m := σ.2.2 + 3) (by omega) (by rw [if_neg (by omega), if_pos c2]) (fun _ => rfl) (by omega) (fun y hy => by cases hy)
  rw [zw_up_up]
  exact hr (zw_up σ.1 σ.2.1 (.inr (16, [iv 0, .ref w0.2, iv 0])), σ.2.1 + 1, σ.2.2 + 3) _ H2 hat.new ⟨Nat.le_succ _, Nat.le_refl _, Nat.le_add_right _ _, Nat.le_refl _⟩
/-- a list's header alone: the empty array stays -/
theorem hRep.rehead (H : hRep g w0 σ gh S J) (ha : hat gh S c i a) (hc1 : 20 ≤ c) (hc2 : c < 45) {cap : Nat} {f : Nat → Option Nat} {r : Nat} {mc : Int32} {n : Nat} (hL : wL σ.1 a mc r cap n f) (h0 : cap = 0) : hRep g w0 (zw_up σ.1 a (.inr (16, [iv (sM S c i + 1), .ref w0.2, iv 0])), σ.2) gh (ssE S c i []) J := by
  obtain ⟨h1, h2, h3, h4, h5, h6, own, ar, fa, h7, h8, h9, hA, hB, hC⟩ := H
  obtain ⟨hi, rfl⟩ := ha
  have ho := h8 c i hi
  obtain ⟨q1', q2, q3, _⟩ := h7 _ _ _ _ ho
  have q1 : zg_n g ≤ gh c i := by
    rcases q1' with q | ⟨_, e⟩
    · exact q
    · omega
  have hrr : r = (ar c i).1 := by
    have hh := hL.1
    rw [q3] at hh
    unfold hcell at hh
    simp only at hh
    rw [if_neg (by omega), if_pos hc2] at hh
    injection hh with t1
    injection t1 with t1
    injection t1 with t1 t2
    injection t2 with t3 t4
    injection t4 with t5 t6
    injection t5 with t7
    exact t7.symm
  obtain ⟨r1, r2, r3, r4, r5⟩ := hA c i hc1 (by omega) hi
  have hcap : (ar c i).2 = 0 := by
    by_cases e : (ar c i).2 = 0
    · exact e
    · exfalso
      have e1 := (h7 _ _ _ _ (r4 e)).2.2.1
      rw [← hrr, hL.2.1] at e1
      have := congrArg (fun o : Option va_E => match o with
        | some (.inl x) => x.2.1
        | _ => 0) e1
      have h00 : cap = (ar c i).2 := this
      omega
  have hempty : sE S c i = [] := List.length_eq_zero_iff.mp (by omega)
  refine ⟨h1, fun q hq => (zw_up_ne _ _ (by have hq3 : σ.2.1 ≤ q := hq; omega)).trans (h2 q hq), h3, fun q hq => (zw_up_ne _ _ (by omega)).trans (h4 q hq), h5, ?_, own, ar, fa, ?_, h8, h9, ?_, ?_, ?_⟩
  · intro c' i' hc' hi' x hx
    rw [sE_ssE] at hx
    by_cases e : c' = c ∧ i' = i
    · rw [if_pos e] at hx
      cases hx
    · rw [if_neg e] at hx
      exact h6 c' i' hc' hi' x hx
  · intro b t c' i' hb
    obtain ⟨p1, p2, p3, p4, p5, p6, p7, p8⟩ := h7 b t c' i' hb
    by_cases e : b = gh c i
    · rw [e, ho] at hb
      have hb2 := Option.some.inj hb
      obtain ⟨rfl, rfl, rfl⟩ : t = 0 ∧ c' = c ∧ i' = i := ⟨(congrArg (·.1) hb2).symm, (congrArg (·.2.1) hb2).symm, (congrArg (·.2.2) hb2).symm⟩
      subst e
      refine ⟨p1, p2, ?_, ?_, p5, p6, p7, p8⟩
      · show zw_up _ _ _ _ = _
        rw [zw_up_same]
        unfold hcell
        simp only
        have eE : sE (ssE S c' i' []) c' i' = [] := by rw [sE_ssE, if_pos ⟨rfl, rfl⟩]
        have eM : sM (ssE S c' i' []) c' i' = sM S c' i' + 1 := by rw [sM_ssE, if_pos ⟨rfl, rfl⟩]
        rw [if_neg (by omega), if_pos hc2, eE, eM, (r5 hcap).1]
        rfl
      · show zw_up _ _ _ _ ≠ _
        rw [zw_up_same]
        exact fun e => by cases e
    · refine ⟨p1, p2, ?_, by show zw_up _ _ _ _ ≠ _; rw [zw_up_ne _ _ e]; exact p4, p5, p6, p7, p8⟩
      show zw_up _ _ _ _ = _
      rw [zw_up_ne _ _ e, p3]
      match t, p5 with
      | 0, p5 =>
        have hne : ¬ (c' = c ∧ i' = i) := by
          rintro ⟨rfl, rfl⟩
          exact e (p5 rfl).2
        unfold hcell
        simp only
        rw [sE_ssE, if_neg hne, sM_ssE, if_neg hne]
        congr 1
        by_cases c20 : c' < 20
        · rw [if_pos c20, if_pos c20]
          rfl
        · rw [if_neg c20, if_neg c20]
          by_cases c45 : c' < 45
          · rw [if_pos c45, if_pos c45]
          · rw [if_neg c45, if_neg c45]
            by_cases c46 : c' = 45
            · rw [if_pos c46, if_pos c46]
            · rw [if_neg c46, if_neg c46]
              refine (rcell_ext (fun _ _ _ => rfl) (fun x hx => h6 c' i' (by omega) (p5 rfl).1 x hx) ?_).symm
              rw [sE_ssE, if_neg hne]
      | 1, _ => rfl
      | _ + 2, _ => rfl
  · intro c' i' hc1' hc2' hi'
    rw [sE_ssE]
    by_cases e : c' = c ∧ i' = i
    · rw [if_pos e]
      obtain ⟨rfl, rfl⟩ := e
      exact ⟨r1, Nat.zero_le _, r3, r4, r5⟩
    · rw [if_neg e]
      exact hA c' i' hc1' hc2' hi'
  · intro c' i' hc1' hc2' hi'
    rw [sE_ssE]
    by_cases e : c' = c ∧ i' = i
    · rw [if_pos e]
      obtain ⟨rfl, rfl⟩ := e
      refine ⟨fun j y hy => (by cases hy), fun j _ => ?_⟩
      rw [(r5 hcap).2]
    · rw [if_neg e]
      exact hB c' i' hc1' hc2' hi'
  · intro i' hi'
    unfold hqA
    rw [sE_ssE, if_neg (by omega)]
    obtain ⟨g1, g2, g3⟩ := hC i' hi'
    refine ⟨g1, g2, wPQ_congr (fun y hy => ?_) g3⟩
    rfl
theorem hW_clear (H : hRep g w0 σ gh S J) (hx : r_i k pc = some (.invokevirtual idx, 3)) (hno : (r_o k == 22 && idx == 86) = false) (hV : zcV_at (r_o k) idx = some (84, 0)) (ha : hat gh S c i a) (hc1 : Nat.ble 20 c = true) (hc2 : Nat.blt c 45 = true) (hko : kobj (elk c) = true) (h6 : zc6 st = true) (hd : 0 < d)
    (hr : ∀ σ' : zS, hRep g w0 σ' gh (ssE S c i []) J → σ'.2 = σ.2 → zW g d k (pc + 3) lv st σ' Q) : zW g d k pc lv (.ref a :: st) σ Q := by
  have c1 := Nat.le_of_ble_eq_true hc1
  have c2 : c < 45 := Nat.le_of_ble_eq_true hc2
  obtain ⟨r, cap, f, q1, q2, q3, q4, q5, q6⟩ := H.lst ha c1 c2
  have hwel := H.wel ha c1 hko q2 q3
  have hcl := c_clear (g := g) (σ := σ) q1 hwel q5 q6
  have hra : a ≠ r := fun e => by have := q1.2.1; rw [← e, q1.1] at this; cases this
  refine wV hx hno hV rfl rfl h6 rfl q1.rc hcl hd ?_
  by_cases h0 : cap = 0
  · have H2 := H.rehead ha c1 c2 q1 h0
    refine hr (zw_up (zw_up σ.1 a (.inr (16, [.int (Int32.ofInt (sM S c i) + Int32.ofInt 1), .ref r, iv 0]))) r (.inl (1, cap, .inr (.inr (.inr (.inr (fun _ => none)))))), σ.2) ?_ rfl
    have e : (zw_up (zw_up σ.1 a (.inr (16, [.int (Int32.ofInt (sM S c i) + Int32.ofInt 1), .ref r, iv 0]))) r (.inl (1, cap, .inr (.inr (.inr (.inr (fun _ => none)))))), σ.2) = (zw_up σ.1 a (.inr (16, [iv (sM S c i + 1), .ref w0.2, iv 0])), σ.2) := by
      congr 1
      funext q
      unfold zw_up
      by_cases e1 : q = r
      · rw [if_pos e1, if_neg (by rw [e1]; exact hra.symm), e1, q1.2.1, (q4 h0).2]
      · rw [if_neg e1]
        by_cases e2 : q = a
        · rw [if_pos e2, if_pos e2, I_add, (q4 h0).1]
        · rw [if_neg e2, if_neg e2]
    rw [e]
    exact H2
  · have hh : hhead c (Int32.ofInt (sM S c i)) r (sE S c i).length = .inr (16, [.int (Int32.ofInt (sM S c i)), .ref r, iv (sE S c i).length]) := by
      unfold hhead
      rw [if_pos c2]
    have H2 := H.relist (xs := []) (r' := r) (cap' := cap) (m1 := σ.2.1) (m2 := σ.2.2) (f' := fun _ => none) ha c1 (by omega) (by rw [hh]; exact q1.1) q1.2.1 (Or.inl ⟨rfl, h0, rfl, Nat.le_refl _⟩) (Nat.zero_le _) q1.2.2.2 (by omega) (fun _ => ⟨fun j y hy => (by cases hy), fun _ _ => rfl⟩) (fun y hy => by cases hy) (fun e => by omega)
    refine hr _ ?_ rfl
    have hh2 : hhead c (Int32.ofInt (sM S c i + 1)) r ([] : List Int).length = .inr (16, [.int (Int32.ofInt (sM S c i) + Int32.ofInt 1), .ref r, iv 0]) := by
      unfold hhead
      rw [if_pos c2, I_add]
      rfl
    rw [hh2] at H2
    show hRep g w0 (zw_up (zw_up _ a _) r _, _) _ _ _
    rw [zw_up_comm _ hra]
    exact H2
/-- an iterator is made -/
theorem hW_iter (H : hRep g w0 σ gh S J) (hx : r_i k pc = some (.invokevirtual idx, 3)) (hno : (r_o k == 22 && idx == 86) = false) (hV : zcV_at (r_o k) idx = some (8, 0)) (ha : hat gh S c i a) (hc1 : Nat.ble 20 c = true) (hc2 : Nat.blt c 45 = true) (h6 : zc6 st = true) (hd : 1 < d)
    (hr : ∀ (σ' : zS) (it : Nat), J it = none → hRep g w0 σ' gh S (zw_up J it (wIt 0 (-1) (Int32.ofInt (sM S c i)) a)) → kc σ σ' 1 4 → zW g d k (pc + 3) lv (.ref it :: st) σ' Q) : zW g d k pc lv (.ref a :: st) σ Q := by
  obtain ⟨r, cap, f, q1, _⟩ := H.lst ha (Nat.le_of_ble_eq_true hc1) (Nat.le_of_ble_eq_true hc2)
  refine wV hx hno hV rfl rfl h6 rfl q1.rc (c_iterator q1 (H.2.1 _ (Nat.le_refl _)) H.2.2.1) hd ?_
  refine hr _ σ.2.1 ?_ H.keep ⟨Nat.le_succ _, Nat.le_refl _, Nat.le_add_right _ _, Nat.le_refl _⟩
  cases hj : J σ.2.1 with
  | none => rfl
  | some e => have := (H.jat hj).2.2.1; omega
theorem hW_hasNext {it p : Nat} {l : Int} (H : hRep g w0 σ gh S J) (hx : r_i k pc = some (.invokeinterface idx cnt, 5)) (hj : zjn (r_o k) idx = some 0) (hj2 : zj_at (r_o k) idx 17 = some (10, 0)) (ha : hat gh S c i a) (hc1 : Nat.ble 20 c = true) (hc2 : Nat.blt c 45 = true) (hJ : J it = some (wIt p l (Int32.ofInt (sM S c i)) a)) (hp : p ≤ (sE S c i).length) (h6 : zc6 st = true) (hd : 0 < d)
    (hr : zW g d k (pc + 5) lv (iv (if p < (sE S c i).length then 1 else 0) :: st) σ Q) : zW g d k pc lv (.ref it :: st) σ Q := by
  obtain ⟨r, cap, f, q1, _⟩ := H.lst ha (Nat.le_of_ble_eq_true hc1) (Nat.le_of_ble_eq_true hc2)
  exact wF hx hj rfl (H.jat hJ).1 hj2 rfl rfl h6 rfl (c_hasNext q1 hp (H.jat hJ).1) hd hr
theorem hW_next {it p n y : Nat} {l : Int} (H : hRep g w0 σ gh S J) (hx : r_i k pc = some (.invokeinterface idx cnt, 5)) (hj : zjn (r_o k) idx = some 0) (hj2 : zj_at (r_o k) idx 17 = some (11, 0)) (ha : hat gh S c i a) (hc1 : Nat.ble 20 c = true) (hc2 : Nat.blt c 45 = true) (he : elk c = n + 40) (hJ : J it = some (wIt p l (Int32.ofInt (sM S c i)) a)) (hp : (sE S c i)[p]? = some (y : Int)) (h6 : zc6 st = true) (hd : 1 < d)
    (hr : ∀ (σ' : zS) (b : Nat), hat gh S n y b → hRep g w0 σ' gh S (zw_up J it (wIt ((p + 1 : Nat) : Int) p (Int32.ofInt (sM S c i)) a)) → σ'.2 = σ.2 → zW g d k (pc + 5) lv (.ref b :: st) σ' Q) : zW g d k pc lv (.ref it :: st) σ Q := by
  obtain ⟨r, cap, f, q1, q2, _⟩ := H.lst ha (Nat.le_of_ble_eq_true hc1) (Nat.le_of_ble_eq_true hc2)
  obtain ⟨e0, e1⟩ := q2 p _ hp
  have hl := H.2.2.2.2.2.1 c i (Nat.le_of_ble_eq_true hc1) ha.1 _ (List.mem_of_getElem? hp)
  rw [he] at e1 hl
  have hlt := (List.getElem?_eq_some_iff.mp hp).1
  refine wF hx hj rfl (H.jat hJ).1 hj2 rfl rfl h6 rfl (c_next q1 hlt e1 (H.jat hJ).1 (H.jat hJ).2.1) hd ?_
  exact hr _ _ ⟨by have := (hl (by omega)).2 n rfl; simpa using this, rfl⟩ (H.keepUp hJ) rfl
theorem hW_nextp {it p y : Nat} {l : Int} (H : hRep g w0 σ gh S J) (hx : r_i k pc = some (.invokeinterface idx cnt, 5)) (hj : zjn (r_o k) idx = some 0) (hj2 : zj_at (r_o k) idx 17 = some (11, 0)) (ha : hat gh S c i a) (hc1 : Nat.ble 20 c = true) (hc2 : Nat.blt c 45 = true) (he : elk c = 3) (hJ : J it = some (wIt p l (Int32.ofInt (sM S c i)) a)) (hp : (sE S c i)[p]? = some (y : Int)) (h6 : zc6 st = true) (hd : 1 < d)
    (hr : ∀ (σ' : zS) (b : Nat), hat gh S (2 + y % 2) (y / 2) b → hRep g w0 σ' gh S (zw_up J it (wIt ((p + 1 : Nat) : Int) p (Int32.ofInt (sM S c i)) a)) → σ'.2 = σ.2 → zW g d k (pc + 5) lv (.ref b :: st) σ' Q) : zW g d k pc lv (.ref it :: st) σ Q := by
  obtain ⟨r, cap, f, q1, q2, _⟩ := H.lst ha (Nat.le_of_ble_eq_true hc1) (Nat.le_of_ble_eq_true hc2)
  obtain ⟨e0, e1⟩ := q2 p _ hp
  have hl := H.2.2.2.2.2.1 c i (Nat.le_of_ble_eq_true hc1) ha.1 _ (List.mem_of_getElem? hp)
  rw [he] at e1 hl
  have hlt := (List.getElem?_eq_some_iff.mp hp).1
  refine wF hx hj rfl (H.jat hJ).1 hj2 rfl rfl h6 rfl (c_next q1 hlt e1 (H.jat hJ).1 (H.jat hJ).2.1) hd ?_
  exact hr _ _ ⟨by have := (hl (by omega)).1 rfl; simpa using this, rfl⟩ (H.keepUp hJ) rfl
theorem hW_cast (H : hRep g w0 σ gh S J) (hx : r_i k pc = some (.checkcast idx, 3)) (ha : hat gh S c i a) (hc : Nat.blt c 20 = true) (hl : zl_at (r_o k) idx = some C) (hco : zco_at c C = true) (hr : zW g d k (pc + 3) lv (.ref a :: st) σ Q) : zW g d k pc lv (.ref a :: st) σ Q :=
  wW_cast hx (H.obj ha (Nat.le_of_ble_eq_true hc)).1 hl hco hr
theorem hW_castI (H : hRep g w0 σ gh S J) (hx : r_i k pc = some (.checkcast idx, 3)) (ha : hat gh S 46 i a) (hl : zl_at (r_o k) idx = some "[I") (hr : zW g d k (pc + 3) lv (.ref a :: st) σ Q) : zW g d k pc lv (.ref a :: st) σ Q :=
  wW_castI hx (H.arr ha (by omega)).1 hl hr
theorem hW_inst {b : Bool} (H : hRep g w0 σ gh S J) (hx : r_i k pc = some (.instanceof idx, 3)) (ha : hat gh S c i a) (hc : Nat.blt c 20 = true) (hl : zl_at (r_o k) idx = some C) (hco : zco_at c C = b) (hno : b = true ∨ ∃ r, zno.find? (fun r => r.1 == c && r.2.2 == C) = some r) (hr : zW g d k (pc + 3) lv (iv (if b then 1 else 0) :: st) σ Q) : zW g d k pc lv (.ref a :: st) σ Q := by
  cases b with
  | true => exact wW_instY hx (H.obj ha (Nat.le_of_ble_eq_true hc)).1 hl hco hr
  | false =>
    rcases hno with h | ⟨r, h⟩
    · cases h
    · exact wW_instN hx (H.obj ha (Nat.le_of_ble_eq_true hc)).1 hl hco h hr
/-- 'throw new E()' that leaves the method -/
theorem hW_throw {T : Nat × String} (H : hRep g w0 σ gh S J) (hx : r_i k pc = some (.new idx, 3)) (ht : zthrow (r_c k) (r_o k) pc idx = some T) (h6 : zc6 st = true) (hh : zhd (r_o k) T.1 T.2 (r_m k).2.2.2.2 = some none) (hq : ∀ σ' : zS, hRep g w0 σ' gh S J → kc σ σ' 1 6 → Q (.inr T.2) σ') : zW g d k pc lv st σ Q :=
  wW_throw hx ht h6 hh (hq _ (H.more (m := 1)) ⟨Nat.le_succ _, Nat.le_refl _, Nat.le_add_right _ _, Nat.le_refl _⟩)
/-- a callee throws; nothing catches it here -/
theorem wcallT {Y : Nat × List Value × List Value × Nat} (hx : r_i k pc = some (ins, Y.2.2.2)) (hp : zp_step ins Y.2.2.2 pc (r_l k) lv st = none) (hh : zheap g (r_o k) (r_m k).1.name (r_c k) ins Y.2.2.2 pc lv st σ = none) (hr : zr_ret ins Y.2.2.2 st (r_m k).2.2.2.1 = none) (hc : zcall g (r_o k) ins st σ = some Y)
    (hck : zck Y.1 false = some μ') (h6 : zc6 Y.2.2.1 = true) (hl : Nat.ble (lg_sl Y.2.1).length μ'.2.2.1 = true) (hrun : zEnd g d1 Y.1 Y.2.1 σ (.inr E) σ1) (hd : d1 < d) (h3 : Y.2.2.2 = 3) (hhd : zhd (r_o k) pc E (r_m k).2.2.2.2 = some none) (hq : Q (.inr E) σ1) : zW g d k pc lv st σ Q := by
  obtain ⟨d', rfl⟩ : ∃ d', d = d' + 1 := ⟨d - 1, by omega⟩
  obtain ⟨n1, h1⟩ := hrun.deep (show d1 ≤ d' by omega)
  obtain ⟨hb, hm, hz⟩ := r_some hx
  refine ⟨.inr E, σ1, ⟨n1 + 1, ?_⟩, hq⟩
  unfold zx
  rw [hb, hm]
  simp only
  unfold zxs
  rw [hz]
  simp only
  unfold zstep
  rw [hp]
  simp only
  rw [hh]
  simp only
  rw [hr, hc]
  simp only [Option.map_some]
  rw [hck]
  simp only
  rw [if_pos ⟨trivial, h6, Nat.le_of_ble_eq_true hl⟩, h1]
  simp only
  rw [if_pos h3, hhd]
/-- a callee throws; it is caught here -/
theorem wcallC {Y : Nat × List Value × List Value × Nat} (hx : r_i k pc = some (ins, Y.2.2.2)) (hp : zp_step ins Y.2.2.2 pc (r_l k) lv st = none) (hh : zheap g (r_o k) (r_m k).1.name (r_c k) ins Y.2.2.2 pc lv st σ = none) (hr : zr_ret ins Y.2.2.2 st (r_m k).2.2.2.1 = none) (hc : zcall g (r_o k) ins st σ = some Y)
    (hck : zck Y.1 false = some μ') (h6 : zc6 Y.2.2.1 = true) (hl : Nat.ble (lg_sl Y.2.1).length μ'.2.2.1 = true) (hrun : zEnd g d1 Y.1 Y.2.1 σ (.inr E) σ1) (hd : d1 < d) (h3 : Y.2.2.2 = 3) (hhd : zhd (r_o k) pc E (r_m k).2.2.2.2 = some (some h)) (hz2 : zland (r_c k) (r_l k) h lv = some (z.1, lv1)) (hr2 : zW g d k z.1 lv1 [] σ1 Q) : zW g d k pc lv st σ Q := by
  obtain ⟨d', rfl⟩ : ∃ d', d = d' + 1 := ⟨d - 1, by omega⟩
  obtain ⟨n1, h1⟩ := hrun.deep (show d1 ≤ d' by omega)
  obtain ⟨hb, hm, hz⟩ := r_some hx
  obtain ⟨o2, σ2, ⟨n2, h2⟩, h4⟩ := hr2
  refine ⟨o2, σ2, ⟨n1 + n2 + 1, ?_⟩, h4⟩
  unfold zx
  rw [hb, hm]
  simp only
  unfold zxs
  rw [hz]
  simp only
  unfold zstep
  rw [hp]
  simp only
  rw [hh]
  simp only
  rw [hr, hc]
  simp only [Option.map_some]
  rw [hck]
  simp only
  rw [if_pos ⟨trivial, h6, Nat.le_of_ble_eq_true hl⟩, zx_le g n1 (n1 + n2) d' d' _ _ _ _ _ _ (by omega) (Nat.le_refl _) h1]
  simp only
  rw [if_pos h3, hhd]
  simp only
  rw [hz2]
  exact zx_le g n2 (n1 + n2) _ _ _ _ _ _ _ _ (by omega) (Nat.le_refl _) h2
end ZUT
