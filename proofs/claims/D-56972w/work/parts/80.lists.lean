/-! THE USER'S HEAP: rows of lists -/
set_option maxRecDepth 100000
/-- what a run costs at most: cells, slots -/
def kc (σ σ' : zS) (m s : Nat) : Prop := σ.2.1 ≤ σ'.2.1 ∧ σ'.2.1 ≤ σ.2.1 + m ∧ σ.2.2 ≤ σ'.2.2 ∧ σ'.2.2 ≤ σ.2.2 + s
theorem kc.rfl' {σ : zS} : kc σ σ 0 0 := ⟨Nat.le_refl _, Nat.le_refl _, Nat.le_refl _, Nat.le_refl _⟩
theorem kc.of {σ σ' : zS} (h : σ'.2 = σ.2) : kc σ σ' 0 0 := by
  unfold kc
  rw [h]
  exact ⟨Nat.le_refl _, Nat.le_refl _, Nat.le_refl _, Nat.le_refl _⟩
theorem kc.trans {σ σ1 σ2 : zS} {m s m2 s2 : Nat} (h : kc σ σ1 m s) (h2 : kc σ1 σ2 m2 s2) : kc σ σ2 (m + m2) (s + s2) := by
  obtain ⟨a1, a2, a3, a4⟩ := h
  obtain ⟨b1, b2, b3, b4⟩ := h2
  exact ⟨by omega, by omega, by omega, by omega⟩
theorem kc.mono {σ σ1 : zS} {m s m2 s2 : Nat} (h : kc σ σ1 m s) (hm : m ≤ m2) (hs : s ≤ s2) : kc σ σ1 m2 s2 := by
  obtain ⟨a1, a2, a3, a4⟩ := h
  exact ⟨a1, by omega, a3, by omega⟩
/-- kinds whose elements may lie in a list -/
def kobj (kd : Nat) : Bool := kd == 3 || (kd == 4 || (Nat.ble 40 kd && ((Nat.blt kd 60 && zco_at (kd - 40) "java/lang/Object") || (Nat.ble 60 kd && Nat.blt kd 85) || kd == 86)))
section ZUR
variable {g : zG} {w0 : hG} {σ : zS} {gh gh' : Nat → Nat → Nat} {S S' : hS} {J J' : zw_W} {c i a k kd d pc idx k0 : Nat} {v : Int} {xs : List Int} {lv : zp_L} {st rest : List Value} {Q : Option Value ⊕ String → zS → Prop}
theorem hRep.cell (H : hRep g w0 σ gh S J) (ha : hat gh S c i a) (hc1 : 20 ≤ c) (hc2 : c < 45) : ∃ (r : Nat) (n : Int), σ.1 a = some (.inr (16, [iv (sM S c i), .ref r, iv n])) := by
  obtain ⟨h1, h2, h3, h4, h5, h6, own, ar, fa, h7, h8, h9, hA, hB, hC⟩ := H
  obtain ⟨hi, rfl⟩ := ha
  have q := (h7 _ _ _ _ (h8 c i hi)).2.2.1
  refine ⟨(ar c i).1, ((sE S c i).length : Int), q.trans ?_⟩
  unfold hcell
  simp only
  rw [if_neg (by omega), if_pos hc2]
theorem hRep.arr (H : hRep g w0 σ gh S J) (ha : hat gh S c i a) (hc1 : 46 ≤ c) : σ.1 a = some (rcell gh S c i) ∧ zg_n g ≤ a := by
  obtain ⟨h1, h2, h3, h4, h5, h6, own, ar, fa, h7, h8, h9, hA, hB, hC⟩ := H
  obtain ⟨hi, rfl⟩ := ha
  obtain ⟨q1, q2, q3, _⟩ := h7 _ _ _ _ (h8 c i hi)
  refine ⟨q3.trans ?_, ?_⟩
  · unfold hcell
    simp only
    rw [if_neg (by omega), if_neg (by omega), if_neg (by omega)]
  · rcases q1 with q | ⟨_, e⟩
    · exact q
    · omega
theorem hRep.el (H : hRep g w0 σ gh S J) {x : Int} {y : Nat} (hk : kobj kd = true) (hl : alv S kd x) (h : elrep g w0 gh kd x (some y)) : wOb (zg_k g) σ.1 y := by
  obtain ⟨h0, h1⟩ := h
  match kd, hk, hl, h1 with
  | 3, _, hl, h1 =>
    have := Option.some.inj h1
    subst this
    have hp := (hl h0).1 rfl
    have hmod : x.toNat % 2 = 0 ∨ x.toNat % 2 = 1 := by omega
    rcases hmod with e | e
    · rw [e] at hp ⊢
      exact Or.inl ⟨2, _, (H.obj (c := 2) ⟨hp, rfl⟩ (by omega)).1, rfl⟩
    · rw [e] at hp ⊢
      exact Or.inl ⟨3, _, (H.obj (c := 3) ⟨hp, rfl⟩ (by omega)).1, rfl⟩
  | 4, _, _, h1 =>
    obtain ⟨e, q1, q2, r, q3, q4⟩ := h1
    have := Option.some.inj e
    subst this
    exact Or.inr (Or.inr ⟨by rw [H.2.2.2.1 _ q1]; exact q2, r, q3, q4⟩)
  | n + 40, hk, hl, h1 =>
    have := Option.some.inj h1
    subst this
    have hn := (hl h0).2 n rfl
    unfold kobj at hk
    simp only [Bool.or_eq_true, Bool.and_eq_true, beq_iff_eq] at hk
    rcases hk with hk | hk | ⟨_, (⟨hk1, hk2⟩ | ⟨hk1, hk2⟩) | hk⟩
    · omega
    · omega
    · have hlt : n + 40 < 60 := Nat.le_of_ble_eq_true hk1
      rw [show n + 40 - 40 = n from by omega] at hk2
      exact Or.inl ⟨n, _, (H.obj ⟨hn, rfl⟩ (by omega)).1, hk2⟩
    · have e1 := Nat.le_of_ble_eq_true hk1
      have e2 : n + 40 < 85 := Nat.le_of_ble_eq_true hk2
      obtain ⟨r, m, hq⟩ := H.cell (c := n) ⟨hn, rfl⟩ (by omega) (by omega)
      exact Or.inl ⟨16, _, hq, rfl⟩
    · obtain rfl : n = 46 := by omega
      have := (H.arr (c := 46) ⟨hn, rfl⟩ (by omega)).1
      exact Or.inr (Or.inl ⟨_, this⟩)
/-- a list, read -/
theorem hRep.lst (H : hRep g w0 σ gh S J) (ha : hat gh S c i a) (hc1 : 20 ≤ c) (hc2 : c < 45) : ∃ (r cap : Nat) (f : Nat → Option Nat), wL σ.1 a (Int32.ofInt (sM S c i)) r cap (sE S c i).length f ∧ (∀ (j : Nat) (x : Int), (sE S c i)[j]? = some x → elrep g w0 gh (elk c) x (f j)) ∧ (∀ j : Nat, (sE S c i).length ≤ j → f j = none) ∧ (cap = 0 → r = w0.2 ∧ f = fun _ => none) ∧ (cap ≠ 0 → zg_n g ≤ r) ∧ zg_n g ≤ a := by
  obtain ⟨h1, h2, h3, h4, h5, h6, own, ar, fa, h7, h8, h9, hA, hB, hC⟩ := H
  obtain ⟨hi, rfl⟩ := ha
  obtain ⟨q1, q2, q3, _⟩ := h7 _ _ _ _ (h8 c i hi)
  obtain ⟨r1, r2, r3, r4, r5⟩ := hA c i hc1 (by omega) hi
  obtain ⟨b1, b2⟩ := hB c i hc1 hc2 hi
  refine ⟨(ar c i).1, (ar c i).2, fa c i, ⟨?_, ?_, r2, r3⟩, b1, b2, r5, fun h0 => ?_, ?_⟩
  · rw [q3]
    unfold hcell
    simp only
    rw [if_neg (by omega), if_pos hc2]
  · by_cases h0 : (ar c i).2 = 0
    · rw [(r5 h0).1, h4 _ h1.2.1, h1.2.2.1, h0, (r5 h0).2]
    · rw [(h7 _ _ _ _ (r4 h0)).2.2.1]
      rfl
  · rcases (h7 _ _ _ _ (r4 h0)).1 with q | ⟨q, _⟩
    · exact q
    · cases q
  · rcases q1 with q | ⟨_, e⟩
    · exact q
    · omega
theorem hRep.wel (H : hRep g w0 σ gh S J) (ha : hat gh S c i a) (hc1 : 20 ≤ c) (hk : kobj (elk c) = true) {f : Nat → Option Nat} (h1 : ∀ (j : Nat) (x : Int), (sE S c i)[j]? = some x → elrep g w0 gh (elk c) x (f j)) (h2 : ∀ j : Nat, (sE S c i).length ≤ j → f j = none) : wEl g σ.1 (sE S c i).length f := by
  refine ⟨fun j y hy => ?_, h2⟩
  rcases Nat.lt_or_ge j (sE S c i).length with hj | hj
  · have hx := List.getElem?_eq_getElem hj
    have h3 := h1 j _ hx
    rw [hy] at h3
    exact H.el hk (H.2.2.2.2.2.1 c i hc1 ha.1 _ (List.mem_of_getElem? hx)) h3
  · rw [h2 j hj] at hy
    cases hy
theorem hRep.lrc (H : hRep g w0 σ gh S J) (ha : hat gh S c i a) (hc1 : 20 ≤ c) (hc2 : c < 45) : zrc g σ a = some "java/util/ArrayList" := by
  obtain ⟨r, n, h⟩ := H.cell ha hc1 hc2
  exact w_rc h rfl
/-- size() -/
theorem hW_size (H : hRep g w0 σ gh S J) (hx : r_i k pc = some (.invokevirtual idx, 3)) (hno : (r_o k == 22 && idx == 86) = false) (hV : zcV_at (r_o k) idx = some (6, 0)) (ha : hat gh S c i a) (hc1 : Nat.ble 20 c = true) (hc2 : Nat.blt c 45 = true) (h6 : zc6 st = true) (hd : 0 < d)
    (hr : zW g d k (pc + 3) lv (iv (sE S c i).length :: st) σ Q) : zW g d k pc lv (.ref a :: st) σ Q := by
  obtain ⟨r, cap, f, q1, _⟩ := H.lst ha (Nat.le_of_ble_eq_true hc1) (Nat.le_of_ble_eq_true hc2)
  exact wV hx hno hV rfl rfl h6 rfl q1.rc (c_size q1) hd hr
theorem hW_isEmpty (H : hRep g w0 σ gh S J) (hx : r_i k pc = some (.invokevirtual idx, 3)) (hno : (r_o k == 22 && idx == 86) = false) (hV : zcV_at (r_o k) idx = some (193, 0)) (ha : hat gh S c i a) (hc1 : Nat.ble 20 c = true) (hc2 : Nat.blt c 45 = true) (h6 : zc6 st = true) (hd : 0 < d)
    (hr : zW g d k (pc + 3) lv (iv (if (sE S c i).length = 0 then 1 else 0) :: st) σ Q) : zW g d k pc lv (.ref a :: st) σ Q := by
  obtain ⟨r, cap, f, q1, _⟩ := H.lst ha (Nat.le_of_ble_eq_true hc1) (Nat.le_of_ble_eq_true hc2)
  exact wV hx hno hV rfl rfl h6 rfl q1.rc (c_isEmpty q1) hd hr
/-- get(j): an object, a Part, a constant -/
theorem hW_lget {n j y : Nat} (H : hRep g w0 σ gh S J) (hx : r_i k pc = some (.invokevirtual idx, 3)) (hno : (r_o k == 22 && idx == 86) = false) (hV : zcV_at (r_o k) idx = some (24, 1)) (ha : hat gh S c i a) (hc1 : Nat.ble 20 c = true) (hc2 : Nat.blt c 45 = true) (he : elk c = n + 40) (hj : (sE S c i)[j]? = some (y : Int)) (h6 : zc6 st = true) (hd : 2 < d)
    (hr : ∀ b : Nat, hat gh S n y b → zW g d k (pc + 3) lv (.ref b :: st) σ Q) : zW g d k pc lv (iv j :: .ref a :: st) σ Q := by
  obtain ⟨r, cap, f, q1, q2, _⟩ := H.lst ha (Nat.le_of_ble_eq_true hc1) (Nat.le_of_ble_eq_true hc2)
  obtain ⟨e0, e1⟩ := q2 j _ hj
  have hl := H.2.2.2.2.2.1 c i (Nat.le_of_ble_eq_true hc1) ha.1 _ (List.mem_of_getElem? hj)
  rw [he] at e1 hl
  have hlt := (List.getElem?_eq_some_iff.mp hj).1
  exact wV hx hno hV rfl rfl h6 rfl q1.rc (c_get q1 hlt e1) hd (hr _ ⟨by have := (hl (by omega)).2 n rfl; simpa using this, rfl⟩)
theorem hW_lgetp {j y : Nat} (H : hRep g w0 σ gh S J) (hx : r_i k pc = some (.invokevirtual idx, 3)) (hno : (r_o k == 22 && idx == 86) = false) (hV : zcV_at (r_o k) idx = some (24, 1)) (ha : hat gh S c i a) (hc1 : Nat.ble 20 c = true) (hc2 : Nat.blt c 45 = true) (he : elk c = 3) (hj : (sE S c i)[j]? = some (y : Int)) (h6 : zc6 st = true) (hd : 2 < d)
    (hr : ∀ b : Nat, hat gh S (2 + y % 2) (y / 2) b → zW g d k (pc + 3) lv (.ref b :: st) σ Q) : zW g d k pc lv (iv j :: .ref a :: st) σ Q := by
  obtain ⟨r, cap, f, q1, q2, _⟩ := H.lst ha (Nat.le_of_ble_eq_true hc1) (Nat.le_of_ble_eq_true hc2)
  obtain ⟨e0, e1⟩ := q2 j _ hj
  have hl := H.2.2.2.2.2.1 c i (Nat.le_of_ble_eq_true hc1) ha.1 _ (List.mem_of_getElem? hj)
  rw [he] at e1 hl
  have hlt := (List.getElem?_eq_some_iff.mp hj).1
  exact wV hx hno hV rfl rfl h6 rfl q1.rc (c_get q1 hlt e1) hd (hr _ ⟨by have := (hl (by omega)).1 rfl; simpa using this, rfl⟩)
theorem hW_lgetc {j y : Nat} (H : hRep g w0 σ gh S J) (hx : r_i k pc = some (.invokevirtual idx, 3)) (hno : (r_o k == 22 && idx == 86) = false) (hV : zcV_at (r_o k) idx = some (24, 1)) (ha : hat gh S c i a) (hc1 : Nat.ble 20 c = true) (hc2 : Nat.blt c 45 = true) (he : elk c = 4) (hj : (sE S c i)[j]? = some (y : Int)) (h6 : zc6 st = true) (hd : 2 < d)
    (hr : boolAt g w0 y → zW g d k (pc + 3) lv (.ref y :: st) σ Q) : zW g d k pc lv (iv j :: .ref a :: st) σ Q := by
  obtain ⟨r, cap, f, q1, q2, _⟩ := H.lst ha (Nat.le_of_ble_eq_true hc1) (Nat.le_of_ble_eq_true hc2)
  obtain ⟨e0, e1⟩ := q2 j _ hj
  rw [he] at e1
  have hlt := (List.getElem?_eq_some_iff.mp hj).1
  exact wV hx hno hV rfl rfl h6 rfl q1.rc (c_get q1 hlt e1.1) hd (hr e1.2)
/-- add(x) -/
theorem hW_add {b : Nat} {x : Int} (H : hRep g w0 σ gh S J) (hx : r_i k pc = some (.invokevirtual idx, 3)) (hno : (r_o k == 22 && idx == 86) = false) (hV : zcV_at (r_o k) idx = some (45, 1)) (ha : hat gh S c i a) (hc1 : Nat.ble 20 c = true) (hc2 : Nat.blt c 45 = true) (hko : kobj (elk c) = true) (hel : elrep g w0 gh (elk c) x (some b)) (hal : alv S (elk c) x) (hlen : (sE S c i).length < 200000) (h6 : zc6 st = true) (hd : 5 < d)
    (hr : ∀ σ' : zS, hRep g w0 σ' gh (ssE S c i (sE S c i ++ [x])) J → kc σ σ' 1 (2 * (sE S c i).length + 12) → zW g d k (pc + 3) lv (iv 1 :: st) σ' Q) : zW g d k pc lv (.ref b :: .ref a :: st) σ Q := by
  have c1 := Nat.le_of_ble_eq_true hc1
  have c2 : c < 45 := Nat.le_of_ble_eq_true hc2
  obtain ⟨r, cap, f, q1, q2, q3, q4, q5, q6⟩ := H.lst ha c1 c2
  have hwel := H.wel ha c1 hko q2 q3
  obtain ⟨σ', a1, r', cap', a2, a3, a4, a5, a6⟩ := c_add (g := g) (x := b) (E0 := w0.2) q1 hwel H.1.2.2.2 (fun h => (q4 h).1) q5 (by omega) H.2.1 H.2.2.1 q6 H.1.1 (H.el hko hal hel)
  have hF : ∀ (j : Nat) (y : Int), (sE S c i ++ [x])[j]? = some y → elrep g w0 gh (elk c) y (va_up f (sE S c i).length (some b) j) := by
    intro j y hy
    rcases Nat.lt_trichotomy j (sE S c i).length with hj | hj | hj
    · rw [List.getElem?_append_left hj] at hy
      rw [va_up_ne _ _ (by omega)]
      exact q2 j y hy
    · rw [hj, List.getElem?_append_right (Nat.le_refl _), Nat.sub_self] at hy
      rw [hj, va_up_self]
      have : x = y := Option.some.inj hy
      rw [← this]
      exact hel
    · rw [List.getElem?_eq_none (by rw [List.length_append]; simp; omega)] at hy
      cases hy
  have hF2 : ∀ j : Nat, (sE S c i ++ [x]).length ≤ j → va_up f (sE S c i).length (some b) j = none := by
    intro j hj
    rw [List.length_append] at hj
    have : (sE S c i).length + 1 ≤ j := hj
    rw [va_up_ne _ _ (by omega)]
    exact q3 j (by omega)
  have hh : hhead c (Int32.ofInt (sM S c i)) r (sE S c i).length = .inr (16, [.int (Int32.ofInt (sM S c i)), .ref r, iv (sE S c i).length]) := by
    unfold hhead
    rw [if_pos c2]
  have hh2 : hhead c (Int32.ofInt (sM S c i + 1)) r' (sE S c i ++ [x]).length = .inr (16, [.int (Int32.ofInt (sM S c i) + Int32.ofInt 1), .ref r', iv ((sE S c i).length + 1 : Nat)]) := by
    unfold hhead
    rw [if_pos c2, I_add, List.length_append]
    rfl
  have H2 := H.relist (xs := sE S c i ++ [x]) (r' := r') (cap' := cap') (m1 := σ'.2.1) (m2 := σ'.2.2) (f' := va_up f (sE S c i).length (some b)) ha c1 (by omega) (by rw [hh]; exact q1.1) q1.2.1 ?_ ?_ a4 a5 (fun _ => ⟨hF, hF2⟩) ?_ (fun e => by omega)
  · rw [hh2, ← a2] at H2
    refine wV hx hno hV rfl rfl h6 rfl q1.rc a1 hd (hr σ' H2 ?_)
    rcases a6 with ⟨_, _, e⟩ | ⟨_, e1, e2⟩
    · exact (kc.of e).mono (by omega) (by omega)
    · refine ⟨by omega, by omega, ?_, by omega⟩
      obtain ⟨n1, hn1⟩ := a1
      exact (zx_mono g n1 _ _ _ _ _ _ _ _ hn1).2
  · rcases a6 with ⟨e1, e2, e3⟩ | ⟨e1, e2, e3⟩
    · exact Or.inl ⟨e1, by omega, e2, by rw [e3]; exact Nat.le_refl _⟩
    · exact Or.inr ⟨e1, by omega⟩
  · rw [List.length_append]
    exact a3
  · intro y hy
    rcases List.mem_append.mp hy with hy | hy
    · exact H.2.2.2.2.2.1 c i c1 ha.1 y hy
    · rw [List.mem_singleton.mp hy]
      exact hal
end ZUR
