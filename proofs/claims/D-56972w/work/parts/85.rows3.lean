/-! THE USER'S HEAP: rows of arrays, Booleans; addAll -/
set_option maxRecDepth 100000
/-- an array's contents changed (no list: the count of changes stays) -/
def ssA (S : hS) (c i : Nat) (xs : List Int) : hS := (S.1, S.2.1, (fun c' i' => if c' = c ∧ i' = i then xs else S.2.2.1 c' i'), S.2.2.2)
section ZUX
variable {g : zG} {w0 : hG} {σ : zS} {gh gh' : Nat → Nat → Nat} {S S' : hS} {J J' : zw_W} {c i a k kd d pc idx idx2 k0 b j n : Nat} {v : Int} {xs : List Int} {lv : zp_L} {st rest : List Value} {Q : Option Value ⊕ String → zS → Prop} {t : Int32}
theorem sn_ssA {c' : Nat} : sn (ssA S c i xs) c' = sn S c' := rfl
theorem sT_ssA {c' k' i' : Nat} : sT (ssA S c i xs) c' k' i' = sT S c' k' i' := rfl
theorem sE_ssA {c' i' : Nat} : sE (ssA S c i xs) c' i' = if c' = c ∧ i' = i then xs else sE S c' i' := rfl
theorem sM_ssA {c' i' : Nat} : sM (ssA S c i xs) c' i' = sM S c' i' := rfl
/-- the world behind a write to an array -/
theorem hRep.setA (H : hRep g w0 σ gh S J) (ha : hat gh S c i a) (hc : 46 ≤ c) (hal : ∀ x ∈ xs, alv S (elk c) x) : hRep g w0 (zw_up σ.1 a (rcell gh (ssA S c i xs) c i), σ.2) gh (ssA S c i xs) J := by
  have hna := (H.arr ha hc).2
  obtain ⟨h1, h2, h3, h4, h5, h6, own, ar, fa, h7, h8, h9, hA, hB, hC⟩ := H
  obtain ⟨hi, rfl⟩ := ha
  have ho := h8 c i hi
  obtain ⟨q1', q2, q3, _⟩ := h7 _ _ _ _ ho
  refine ⟨h1, fun q hq => (zw_up_ne _ _ (by have hq3 : σ.2.1 ≤ q := hq; omega)).trans (h2 q hq), h3, fun q hq => (zw_up_ne _ _ (by omega)).trans (h4 q hq), h5, ?_, own, ar, fa, ?_, h8, h9, ?_, ?_, ?_⟩
  · intro c' i' hc' hi' x hx
    rw [sE_ssA] at hx
    by_cases e : c' = c ∧ i' = i
    · rw [if_pos e] at hx
      rw [e.1]
      exact hal x hx
    · rw [if_neg e] at hx
      exact h6 c' i' hc' hi' x hx
  · intro b t c' i' hb
    obtain ⟨p1, p2, p3, p4, p5, p6, p7, p8⟩ := h7 b t c' i' hb
    by_cases e : b = gh c i
    · rw [e, ho] at hb
      have hb2 := Option.some.inj hb
      obtain ⟨rfl, rfl, rfl⟩ : t = 0 ∧ c' = c ∧ i' = i := ⟨(congrArg (·.1) hb2).symm, (congrArg (·.2.1) hb2).symm, (congrArg (·.2.2) hb2).symm⟩
      subst e
      refine ⟨p1, p2, ?_, ?_, p5, p6, p7, p8⟩
      · show zw_up _ _ _ _ = _
        rw [zw_up_same]
        unfold hcell
        simp only
        rw [if_neg (by omega), if_neg (by omega), if_neg (by omega)]
      · show zw_up _ _ _ _ ≠ _
        rw [zw_up_same]
        exact fun e => by cases e
    · refine ⟨p1, p2, ?_, by show zw_up _ _ _ _ ≠ _; rw [zw_up_ne _ _ e]; exact p4, p5, p6, p7, p8⟩
      show zw_up _ _ _ _ = _
      rw [zw_up_ne _ _ e, p3]
      match t, p5 with
      | 0, p5 =>
        have hne : ¬ (c' = c ∧ i' = i) := by
          rintro ⟨rfl, rfl⟩
          exact e (p5 rfl).2
        unfold hcell
        simp only
        rw [sE_ssA, if_neg hne, sM_ssA]
        congr 1
        by_cases c20 : c' < 20
        · rw [if_pos c20, if_pos c20]
          rfl
        · rw [if_neg c20, if_neg c20]
          by_cases c45 : c' < 45
          · rw [if_pos c45, if_pos c45]
          · rw [if_neg c45, if_neg c45]
            by_cases c46 : c' = 45
            · rw [if_pos c46, if_pos c46]
            · rw [if_neg c46, if_neg c46]
              refine (rcell_ext (fun _ _ _ => rfl) (fun x hx => h6 c' i' (by omega) (p5 rfl).1 x hx) ?_).symm
              rw [sE_ssA, if_neg hne]
      | 1, _ => rfl
      | _ + 2, _ => rfl
  · intro c' i' hc1' hc2' hi'
    rw [sE_ssA, if_neg (by omega)]
    exact hA c' i' hc1' hc2' hi'
  · intro c' i' hc1' hc2' hi'
    rw [sE_ssA, if_neg (by omega)]
    exact hB c' i' hc1' hc2' hi'
  · intro i' hi'
    unfold hqA
    rw [sE_ssA, if_neg (by omega)]
    obtain ⟨g1, g2, g3⟩ := hC i' hi'
    exact ⟨g1, g2, wPQ_congr (fun y hy => rfl) g3⟩
theorem va_up_get {l : List Int} {j : Nat} {v : Int} (hj : j < l.length) : va_up (fun q => Int32.ofInt (l.getD q 0)) j (Int32.ofInt v) = fun q => Int32.ofInt ((l.set j v).getD q 0) := by
  funext q
  unfold va_up
  by_cases e : q = j
  · rw [if_pos e, e, List.getD_eq_getElem?_getD, List.getElem?_set_self hj]
    rfl
  · rw [if_neg e]
    show Int32.ofInt (l.getD q 0) = _
    rw [List.getD_eq_getElem?_getD, List.getD_eq_getElem?_getD, List.getElem?_set_ne (fun h => e h.symm)]
/-- int[]: new, length, read, written -/
theorem hW_newI {n : Nat} (H : hRep g w0 σ gh S J) (hx : r_i k pc = some (.newarray .int, 2)) (hn : n ≤ 1000000)
    (hr : ∀ (σ' : zS) (b : Nat), hRep g w0 σ' (ghw gh S 46 b) (snw S 46 (List.replicate n 0)) J → hat (ghw gh S 46 b) (snw S 46 (List.replicate n 0)) 46 (sn S 46) b → kc σ σ' 1 n → zW g d k (pc + 2) lv (.ref b :: st) σ' Q) : zW g d k pc lv (iv n :: st) σ Q := by
  refine wW_newa hx ⟨by rw [I_lt0 ⟨by omega, by omega⟩]; omega, by rw [I_cl (by omega)]; exact hn⟩ rfl ?_
  rw [I_cl (by omega)]
  refine hr _ _ (H.alloc (by omega) ?_ (fun e => by omega) (by omega) (fun y hy => ?_)) hat.new ⟨Nat.le_succ _, Nat.le_refl _, Nat.le_add_right _ _, Nat.le_refl _⟩
  · rw [if_neg (by omega), if_neg (by omega)]
    unfold rcell
    simp only
    have eE : sE (snw S 46 (List.replicate n 0)) 46 (sn S 46) = List.replicate n 0 := by rw [sE_w, if_pos ⟨rfl, rfl⟩]
    rw [eE, List.length_replicate]
    congr 4
    funext q
    rw [List.getD_eq_getElem?_getD, List.getElem?_replicate]
    split <;> rfl
  · rw [List.eq_of_mem_replicate hy]
    exact fun _ => ⟨fun e => absurd e (by decide), fun n e => (by have e2 : (0 : Nat) = n + 40 := e; omega)⟩
theorem hW_newC {n : Nat} (H : hRep g w0 σ gh S J) (hx : r_i k pc = some (.newarray .char, 2)) (hn : n ≤ 1000000)
    (hr : ∀ (σ' : zS) (b : Nat), hRep g w0 σ' (ghw gh S 47 b) (snw S 47 (List.replicate n 0)) J → hat (ghw gh S 47 b) (snw S 47 (List.replicate n 0)) 47 (sn S 47) b → kc σ σ' 1 n → zW g d k (pc + 2) lv (.ref b :: st) σ' Q) : zW g d k pc lv (iv n :: st) σ Q := by
  refine wW_newa hx ⟨by rw [I_lt0 ⟨by omega, by omega⟩]; omega, by rw [I_cl (by omega)]; exact hn⟩ rfl ?_
  rw [I_cl (by omega)]
  refine hr _ _ (H.alloc (by omega) ?_ (fun e => by omega) (by omega) (fun y hy => ?_)) hat.new ⟨Nat.le_succ _, Nat.le_refl _, Nat.le_add_right _ _, Nat.le_refl _⟩
  · rw [if_neg (by omega), if_neg (by omega)]
    unfold rcell
    simp only
    have eE : sE (snw S 47 (List.replicate n 0)) 47 (sn S 47) = List.replicate n 0 := by rw [sE_w, if_pos ⟨rfl, rfl⟩]
    rw [eE, List.length_replicate]
    congr 4
    funext q
    rw [List.getD_eq_getElem?_getD, List.getElem?_replicate]
    split <;> rfl
  · rw [List.eq_of_mem_replicate hy]
    exact fun _ => ⟨fun e => absurd e (by decide), fun n e => (by have e2 : (0 : Nat) = n + 40 := e; omega)⟩
theorem hW_newZ {n : Nat} (H : hRep g w0 σ gh S J) (hx : r_i k pc = some (.newarray .boolean, 2)) (hn : n ≤ 1000000)
    (hr : ∀ (σ' : zS) (b : Nat), hRep g w0 σ' (ghw gh S 49 b) (snw S 49 (List.replicate n 0)) J → hat (ghw gh S 49 b) (snw S 49 (List.replicate n 0)) 49 (sn S 49) b → kc σ σ' 1 n → zW g d k (pc + 2) lv (.ref b :: st) σ' Q) : zW g d k pc lv (iv n :: st) σ Q := by
  refine wW_newa hx ⟨by rw [I_lt0 ⟨by omega, by omega⟩]; omega, by rw [I_cl (by omega)]; exact hn⟩ rfl ?_
  rw [I_cl (by omega)]
  refine hr _ _ (H.alloc (by omega) ?_ (fun e => by omega) (by omega) (fun y hy => ?_)) hat.new ⟨Nat.le_succ _, Nat.le_refl _, Nat.le_add_right _ _, Nat.le_refl _⟩
  · rw [if_neg (by omega), if_neg (by omega)]
    unfold rcell
    simp only
    have eE : sE (snw S 49 (List.replicate n 0)) 49 (sn S 49) = List.replicate n 0 := by rw [sE_w, if_pos ⟨rfl, rfl⟩]
    rw [eE, List.length_replicate]
    congr 4
    funext q
    rw [List.getD_eq_getElem?_getD, List.getElem?_replicate]
    split <;> rfl
  · rw [List.eq_of_mem_replicate hy]
    exact fun _ => ⟨fun e => absurd e (by decide), fun n e => (by have e2 : (0 : Nat) = n + 40 := e; omega)⟩
theorem hW_alen (H : hRep g w0 σ gh S J) (hx : r_i k pc = some (.arraylength, 1)) (ha : hat gh S c i a) (hc : Nat.ble 46 c = true) (hc2 : Nat.ble c 49 = true) (hr : zW g d k (pc + 1) lv (iv (sE S c i).length :: st) σ Q) : zW g d k pc lv (.ref a :: st) σ Q := by
  have h1 := (H.arr ha (Nat.le_of_ble_eq_true hc)).1
  have c1 := Nat.le_of_ble_eq_true hc
  have c2 := Nat.le_of_ble_eq_true hc2
  rcases (show c = 46 ∨ c = 47 ∨ c = 48 ∨ c = 49 by omega) with rfl | rfl | rfl | rfl
  · exact wW_len hx h1 rfl hr
  · exact wW_len hx h1 rfl hr
  · exact wW_len hx h1 rfl hr
  · exact wW_len hx h1 rfl hr
theorem hW_iald {j : Nat} (H : hRep g w0 σ gh S J) (hx : r_i k pc = some (.iaload, 1)) (ha : hat gh S 46 i a) (hj : (sE S 46 i)[j]? = some v) (hj2 : j < 1000000) (hr : zW g d k (pc + 1) lv (iv v :: st) σ Q) : zW g d k pc lv (iv j :: .ref a :: st) σ Q := by
  have hlt := (List.getElem?_eq_some_iff.mp hj).1
  refine wW_iald hx (H.arr ha (by omega)).1 ?_ ?_
  · unfold za_in
    refine decide_eq_true ?_
    rintro (h1 | h1)
    · rw [I_lt0 ⟨by omega, by omega⟩] at h1; omega
    · rw [I_cl (by omega)] at h1; omega
  · rw [I_cl (by omega), List.getD_eq_getElem?_getD, hj]
    exact hr
theorem hW_cald {j : Nat} (H : hRep g w0 σ gh S J) (hx : r_i k pc = some (.caload, 1)) (ha : hat gh S 47 i a) (hj : (sE S 47 i)[j]? = some v) (hj2 : j < 1000000) (hr : zW g d k (pc + 1) lv (iv v :: st) σ Q) : zW g d k pc lv (iv j :: .ref a :: st) σ Q := by
  have hlt := (List.getElem?_eq_some_iff.mp hj).1
  refine wW_cald hx (H.arr ha (by omega)).1 ?_ ?_
  · unfold za_in
    refine decide_eq_true ?_
    rintro (h1 | h1)
    · rw [I_lt0 ⟨by omega, by omega⟩] at h1; omega
    · rw [I_cl (by omega)] at h1; omega
  · rw [I_cl (by omega), List.getD_eq_getElem?_getD, hj]
    exact hr
theorem hW_bald {j : Nat} (H : hRep g w0 σ gh S J) (hx : r_i k pc = some (.baload, 1)) (ha : hat gh S 49 i a) (hj : (sE S 49 i)[j]? = some v) (hj2 : j < 1000000) (hr : zW g d k (pc + 1) lv (iv v :: st) σ Q) : zW g d k pc lv (iv j :: .ref a :: st) σ Q := by
  have hlt := (List.getElem?_eq_some_iff.mp hj).1
  refine wW_bald hx (H.arr ha (by omega)).1 ?_ ?_
  · unfold za_in
    refine decide_eq_true ?_
    rintro (h1 | h1)
    · rw [I_lt0 ⟨by omega, by omega⟩] at h1; omega
    · rw [I_cl (by omega)] at h1; omega
  · rw [I_cl (by omega), List.getD_eq_getElem?_getD, hj]
    exact hr
theorem hW_iast {j : Nat} (H : hRep g w0 σ gh S J) (hx : r_i k pc = some (.iastore, 1)) (ha : hat gh S 46 i a) (hj : j < (sE S 46 i).length) (hj2 : (sE S 46 i).length < 1000000)
    (hr : ∀ σ' : zS, hRep g w0 σ' gh (ssA S 46 i ((sE S 46 i).set j v)) J → σ'.2 = σ.2 → zW g d k (pc + 1) lv st σ' Q) : zW g d k pc lv (iv v :: iv j :: .ref a :: st) σ Q := by
  obtain ⟨h1, h2⟩ := H.arr ha (by omega)
  refine wW_iast hx h1 (I_in hj (by omega)) h2 ?_
  rw [I_cl (by omega), va_up_get hj]
  have H2 := H.setA (xs := (sE S 46 i).set j v) ha (by omega) (fun y hy _ => ⟨fun e => absurd e (by decide), fun n e => (by have e2 : (0 : Nat) = n + 40 := e; omega)⟩)
  refine hr _ ?_ rfl
  have e : rcell gh (ssA S 46 i ((sE S 46 i).set j v)) 46 i = .inl (0, (sE S 46 i).length, .inl (fun q => Int32.ofInt (((sE S 46 i).set j v).getD q 0))) := by
    unfold rcell
    simp only
    have eE : sE (ssA S 46 i ((sE S 46 i).set j v)) 46 i = (sE S 46 i).set j v := by rw [sE_ssA, if_pos ⟨rfl, rfl⟩]
    rw [eE, List.length_set]
  rw [e] at H2
  exact H2
theorem hW_cast_ {j : Nat} (H : hRep g w0 σ gh S J) (hx : r_i k pc = some (.castore, 1)) (ha : hat gh S 47 i a) (hj : j < (sE S 47 i).length) (hj2 : (sE S 47 i).length < 1000000) (hv : vp_nar .char (Int32.ofInt v) = Int32.ofInt v)
    (hr : ∀ σ' : zS, hRep g w0 σ' gh (ssA S 47 i ((sE S 47 i).set j v)) J → σ'.2 = σ.2 → zW g d k (pc + 1) lv st σ' Q) : zW g d k pc lv (iv v :: iv j :: .ref a :: st) σ Q := by
  obtain ⟨h1, h2⟩ := H.arr ha (by omega)
  refine wW_cast_ hx h1 (I_in hj (by omega)) h2 ?_
  rw [I_cl (by omega), hv, va_up_get hj]
  have H2 := H.setA (xs := (sE S 47 i).set j v) ha (by omega) (fun y hy _ => ⟨fun e => absurd e (by decide), fun n e => (by have e2 : (0 : Nat) = n + 40 := e; omega)⟩)
  refine hr _ ?_ rfl
  have e : rcell gh (ssA S 47 i ((sE S 47 i).set j v)) 47 i = .inl (3, (sE S 47 i).length, .inl (fun q => Int32.ofInt (((sE S 47 i).set j v).getD q 0))) := by
    unfold rcell
    simp only
    have eE : sE (ssA S 47 i ((sE S 47 i).set j v)) 47 i = (sE S 47 i).set j v := by rw [sE_ssA, if_pos ⟨rfl, rfl⟩]
    rw [eE, List.length_set]
  rw [e] at H2
  exact H2
theorem hW_bast {j : Nat} (H : hRep g w0 σ gh S J) (hx : r_i k pc = some (.bastore, 1)) (ha : hat gh S 49 i a) (hj : j < (sE S 49 i).length) (hj2 : (sE S 49 i).length < 1000000) (hv : vp_nar .boolean (Int32.ofInt v) = Int32.ofInt v)
    (hr : ∀ σ' : zS, hRep g w0 σ' gh (ssA S 49 i ((sE S 49 i).set j v)) J → σ'.2 = σ.2 → zW g d k (pc + 1) lv st σ' Q) : zW g d k pc lv (iv v :: iv j :: .ref a :: st) σ Q := by
  obtain ⟨h1, h2⟩ := H.arr ha (by omega)
  refine wW_bast hx h1 (I_in hj (by omega)) h2 ?_
  rw [I_cl (by omega), hv, va_up_get hj]
  have H2 := H.setA (xs := (sE S 49 i).set j v) ha (by omega) (fun y hy _ => ⟨fun e => absurd e (by decide), fun n e => (by have e2 : (0 : Nat) = n + 40 := e; omega)⟩)
  refine hr _ ?_ rfl
  have e : rcell gh (ssA S 49 i ((sE S 49 i).set j v)) 49 i = .inl (2, (sE S 49 i).length, .inl (fun q => Int32.ofInt (((sE S 49 i).set j v).getD q 0))) := by
    unfold rcell
    simp only
    have eE : sE (ssA S 49 i ((sE S 49 i).set j v)) 49 i = (sE S 49 i).set j v := by rw [sE_ssA, if_pos ⟨rfl, rfl⟩]
    rw [eE, List.length_set]
  rw [e] at H2
  exact H2
/-- addAll of a list that isn't empty into one that is new -/
theorem hW_addAll {c2 i2 a2 : Nat} (H : hRep g w0 σ gh S J) (hx : r_i k pc = some (.invokevirtual idx, 3)) (hno : (r_o k == 22 && idx == 86) = false) (hV : zcV_at (r_o k) idx = some (164, 1)) (ha : hat gh S c i a) (hc1 : Nat.ble 20 c = true) (hc2 : Nat.blt c 45 = true) (ha2 : hat gh S c2 i2 a2) (hd1 : Nat.ble 20 c2 = true) (hd2 : Nat.blt c2 45 = true) (hek : elk c2 = elk c) (hko : kobj (elk c2) = true)
    (hemp : sE S c i = []) (hcap : ∀ r cap n mc, σ.1 a = some (.inr (16, [mc, .ref r, n])) → ∀ f, σ.1 r = some (wArr cap f) → cap = 0) (hpos : sE S c2 i2 ≠ []) (hlen : (sE S c2 i2).length ≤ 200000) (hne : a ≠ a2) (h6 : zc6 st = true) (hd : 3 < d)
    (hr : ∀ σ' : zS, hRep g w0 σ' gh (ssE S c i (sE S c2 i2)) J → kc σ σ' 2 (2 * (sE S c2 i2).length + 10) → zW g d k (pc + 3) lv (iv 1 :: st) σ' Q) : zW g d k pc lv (.ref a2 :: .ref a :: st) σ Q := by
  have e1 := Nat.le_of_ble_eq_true hc1
  have e2 : c < 45 := Nat.le_of_ble_eq_true hc2
  have f1 := Nat.le_of_ble_eq_true hd1
  have f2 : c2 < 45 := Nat.le_of_ble_eq_true hd2
  obtain ⟨r, cap, f, q1, q2, q3, q4, q5, q6⟩ := H.lst ha e1 e2
  obtain ⟨r2, cap2, fc, p1, p2, p3, p4, p5, p6⟩ := H.lst ha2 f1 f2
  have hw2 := H.wel ha2 f1 hko p2 p3
  have h0 : cap = 0 := hcap r cap _ _ q1.1 f q1.2.1
  subst h0
  rw [hemp] at q1
  have hpl := List.length_pos_iff.mpr hpos
  obtain ⟨C, g1, g2, g3⟩ := c_addAll (g := g) (E0 := w0.2) (σ := σ) q1 p1 hw2 H.1.2.2.2 (q4 rfl).1 hpl (by omega) hne (q4 rfl).2 H.2.1 H.2.2.1 q6 H.1.1
  refine wV hx hno hV rfl rfl h6 rfl q1.rc g3 hd ?_
  -- the array that toArray made is kept by nobody
  have K1 := H.keep (e := wArr (sE S c2 i2).length fc) (m := σ.2.2 + (sE S c2 i2).length)
  have K2 := K1.drop (J' := J) (fun b e hb => by
    have := (H.jat hb).2.2.1
    exact (zw_up_ne _ _ (by omega)).trans hb)
  have hsa : a < σ.2.1 := by
    rcases Nat.lt_or_ge a σ.2.1 with q | q
    · exact q
    · have := H.2.1 a q; rw [q1.1] at this; cases this
  have hsr : r < σ.2.1 := by
    rcases Nat.lt_or_ge r σ.2.1 with q | q
    · exact q
    · have := H.2.1 r q; rw [q1.2.1] at this; cases this
  have H2 := K2.relist (xs := sE S c2 i2) (r' := σ.2.1 + 1) (cap' := C) (m1 := σ.2.1 + 2) (m2 := σ.2.2 + (sE S c2 i2).length + C) (f' := fc) (mc := Int32.ofInt (sM S c i)) (r := r) (n := 0) (cap := 0) (f := f) ha e1 (by omega) (by
      unfold hhead
      rw [if_pos e2]
      exact (zw_up_ne _ _ (by omega)).trans q1.1) ((zw_up_ne _ _ (by omega)).trans q1.2.1) (Or.inr ⟨rfl, Nat.lt_succ_self _⟩) g1 (by omega) (by omega) (fun _ => ⟨fun j x hx => by rw [← hek]; exact p2 j x hx, p3⟩) (fun x hx => by rw [← hek]; exact H.2.2.2.2.2.1 c2 i2 f1 ha2.1 x hx) (fun e => by omega)
  have hh2 : hhead c (Int32.ofInt (sM S c i + 1)) (σ.2.1 + 1) (sE S c2 i2).length = .inr (16, [.int (Int32.ofInt (sM S c i) + Int32.ofInt 1), .ref (σ.2.1 + 1), iv (sE S c2 i2).length]) := by
    unfold hhead
    rw [if_pos e2, I_add]
  rw [hh2] at H2
  exact hr _ H2 ⟨Nat.le_add_right _ 2, Nat.le_refl _, by show σ.2.2 ≤ σ.2.2 + _ + C; omega, by show σ.2.2 + _ + C ≤ _; omega⟩
end ZUX
