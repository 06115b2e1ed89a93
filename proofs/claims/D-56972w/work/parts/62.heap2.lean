/-! THE ABSTRACT HEAP: objects by class and number, fields as integers; arrays by number; what the world holds of it -/
set_option maxRecDepth 100000
/-- how many objects of a class; their addresses; their fields; how many arrays; an array's address; its kind, length and contents -/
abbrev aH : Type := (Nat → Nat) × (Nat → Nat → Nat) × (Nat → Nat → Nat → Int) × Nat × (Nat → Nat) × (Nat → Nat × vp_A)
abbrev aN (h : aH) : Nat → Nat := h.1
abbrev aA (h : aH) : Nat → Nat → Nat := h.2.1
abbrev aV (h : aH) : Nat → Nat → Nat → Int := h.2.2.1
abbrev aM (h : aH) : Nat := h.2.2.2.1
abbrev aB (h : aH) : Nat → Nat := h.2.2.2.2.1
abbrev aC (h : aH) : Nat → Nat × vp_A := h.2.2.2.2.2
/-- the fields' kinds by class: 0 int (also char, boolean), 1 long, 2 an array by number, 3 Part (2 i: Made i; 2 i + 1: Bought i), 4 a constant by its address, 5 null, 40 + c: an object of class c; a reference below 0 is null -/
def aspec : Nat → List Nat
  | 0 => [56, 56, 56, 56, 2, 0, 0, 1, 1, 1]
  | 1 => [0, 0, 0, 0, 58, 0, 0, 48, 0, 0, 0, 1]
  | 2 => [0, 0, 0, 0, 0, 0, 0, 56, 56]
  | 3 => [0, 0, 0, 0, 0, 0, 0]
  | 4 => [0, 0, 0]
  | 5 => [0, 0, 0]
  | 6 => [0, 3, 0, 56, 0, 0, 1, 0]
  | 7 => [46, 0, 1]
  | 8 => [0, 3, 0, 0, 0, 56, 56, 4, 0, 0, 1, 0, 0, 46]
  | 9 => [4, 56]
  | 11 => [0, 56, 56, 56, 56, 0, 2, 56, 0]
  | 12 => [0, 0, 0, 0, 0, 0, 0, 0, 0, 55, 0]
  | 13 => [0, 0, 56, 56, 0, 0, 0, 0, 0]
  | 14 => [0, 0, 0, 0, 1, 0, 56]
  | 15 => [0, 0, 0, 0, 0, 0, 56, 56, 0, 0, 0, 1, 54, 0, 0, 1, 56]
  | 16 => [0, 2, 0]
  | 17 => [0, 0, 0, 56]
  | 18 => [2, 0, 5, 0]
  | 19 => [0]
  | _ => []
/-- a reference, or null below 0 -/
def arf (v : Int) (a : Nat) : Value := if v < 0 then .null else .ref a
def aconv (h : aH) (kd : Nat) (v : Int) : Value := match kd with
  | 0 => .int (Int32.ofInt v)
  | 1 => .long (Int64.ofInt v)
  | 2 => arf v (aB h v.toNat)
  | 3 => arf v (aA h (2 + v.toNat % 2) (v.toNat / 2))
  | 4 => arf v v.toNat
  | n + 40 => arf v (aA h n v.toNat)
  | _ => .null
theorem aconv_ref {h : aH} {n : Nat} {v : Int} (hv : 0 ≤ v) : aconv h (n + 40) v = .ref (aA h n v.toNat) := by
  show arf v _ = _
  unfold arf
  rw [if_neg (by omega)]
theorem aconv_nul {h : aH} {n : Nat} {v : Int} (hv : v < 0) : aconv h (n + 40) v = .null := by
  show arf v _ = _
  unfold arf
  rw [if_pos hv]
theorem aconv_arr {h : aH} {v : Int} (hv : 0 ≤ v) : aconv h 2 v = .ref (aB h v.toNat) := by
  show arf v _ = _
  unfold arf
  rw [if_neg (by omega)]
theorem aconv_part {h : aH} {v : Int} (hv : 0 ≤ v) : aconv h 3 v = .ref (aA h (2 + v.toNat % 2) (v.toNat / 2)) := by
  show arf v _ = _
  unfold arf
  rw [if_neg (by omega)]
theorem aconv_con {h : aH} {v : Int} (hv : 0 ≤ v) : aconv h 4 v = .ref v.toNat := by
  show arf v _ = _
  unfold arf
  rw [if_neg (by omega)]
/-- a new object's fields -/
def adef (kd : Nat) : Int := if kd ≤ 1 then 0 else -1
def acell (h : aH) (c i : Nat) : va_E := .inr (c, ((aspec c).zipIdx).map (fun q => aconv h q.1 (aV h c q.2 i)))
/-- a reference of this kind is null or live -/
def alive (h : aH) (kd : Nat) (v : Int) : Prop := 0 ≤ v → (kd = 2 → v.toNat < aM h) ∧ (kd = 3 → v.toNat / 2 < aN h (2 + v.toNat % 2)) ∧ (∀ n : Nat, kd = n + 40 → v.toNat < aN h n)
theorem alive0 {h : aH} {v : Int} : alive h 0 v := fun _ => ⟨fun e => absurd e (by decide), fun e => absurd e (by decide), fun n e => by omega⟩
theorem alive1 {h : aH} {v : Int} : alive h 1 v := fun _ => ⟨fun e => absurd e (by decide), fun e => absurd e (by decide), fun n e => by omega⟩
theorem alive4 {h : aH} {v : Int} : alive h 4 v := fun _ => ⟨fun e => absurd e (by decide), fun e => absurd e (by decide), fun n e => by omega⟩
theorem alive5 {h : aH} {v : Int} : alive h 5 v := fun _ => ⟨fun e => absurd e (by decide), fun e => absurd e (by decide), fun n e => by omega⟩
theorem alive2 {h : aH} {v : Int} (hv : v.toNat < aM h) : alive h 2 v := fun _ => ⟨fun _ => hv, fun e => absurd e (by decide), fun n e => by omega⟩
theorem alive3 {h : aH} {v : Int} (hv : v.toNat / 2 < aN h (2 + v.toNat % 2)) : alive h 3 v := fun _ => ⟨fun e => absurd e (by decide), fun _ => hv, fun n e => by omega⟩
theorem aliveC {h : aH} {n : Nat} {v : Int} (hv : v.toNat < aN h n) : alive h (n + 40) v := fun _ => ⟨fun e => absurd e (by omega), fun e => absurd e (by omega), fun m e => by
  have : m = n := by omega
  rw [this]; exact hv⟩
theorem aliveN {h : aH} {kd : Nat} {v : Int} (hv : v < 0) : alive h kd v := fun h0 => by omega
/-- what the world holds of an abstract heap -/
def aRep (n0 : Nat) (σ : zS) (h : aH) : Prop :=
  (∀ c i : Nat, i < aN h c → σ.1 (aA h c i) = some (acell h c i) ∧ n0 ≤ aA h c i ∧ aA h c i < σ.2.1) ∧
  (∀ c i c' i' : Nat, i < aN h c → i' < aN h c' → aA h c i = aA h c' i' → c = c' ∧ i = i') ∧
  (∀ j : Nat, j < aM h → σ.1 (aB h j) = some (.inl (aC h j)) ∧ (3 ≤ j → n0 ≤ aB h j) ∧ aB h j < σ.2.1) ∧
  (∀ j j' : Nat, j < aM h → j' < aM h → aB h j = aB h j' → j = j') ∧
  (∀ a : Nat, σ.2.1 ≤ a → σ.1 a = none) ∧ n0 ≤ σ.2.1 ∧ (∀ c i k kd : Nat, i < aN h c → (aspec c)[k]? = some kd → alive h kd (aV h c k i))
def aup3 (V : Nat → Nat → Nat → Int) (c k i : Nat) (v : Int) : Nat → Nat → Nat → Int := fun c' k' i' => if c' = c ∧ k' = k ∧ i' = i then v else V c' k' i'
/-- the heap with one field changed -/
def aset (h : aH) (c k i : Nat) (v : Int) : aH := (aN h, aA h, aup3 (aV h) c k i v, aM h, aB h, aC h)
theorem aconv_set (h : aH) (c k i : Nat) (v : Int) (kd : Nat) (x : Int) : aconv (aset h c k i v) kd x = aconv h kd x := rfl
theorem acell_other (h : aH) {c k i c' i' : Nat} (v : Int) (hne : ¬ (c' = c ∧ i' = i)) : acell (aset h c k i v) c' i' = acell h c' i' := by
  unfold acell
  congr 2
  refine List.map_congr_left fun q _ => ?_
  rw [aconv_set]
  congr 1
  show aup3 (aV h) c k i v c' q.2 i' = _
  unfold aup3
  rw [if_neg (fun e => hne ⟨e.1, e.2.2⟩)]
theorem acell_same (h : aH) {c k i kd : Nat} (v : Int) (hk : (aspec c)[k]? = some kd) : acell (aset h c k i v) c i = .inr (c, (((aspec c).zipIdx).map (fun q => aconv h q.1 (aV h c q.2 i))).set k (aconv h kd v)) := by
  unfold acell
  congr 2
  refine List.ext_getElem? fun j => ?_
  rw [List.getElem?_map, List.getElem?_set, List.length_map, List.length_zipIdx, List.getElem?_map, List.getElem?_zipIdx]
  by_cases hj : k = j
  · subst hj
    have hlt : k < (aspec c).length := (List.getElem?_eq_some_iff.mp hk).1
    rw [if_pos rfl, if_pos hlt, hk]
    simp only [Option.map_some, Nat.zero_add]
    rw [aconv_set]
    show some (aconv h kd (aup3 (aV h) c k i v c k i)) = _
    unfold aup3
    rw [if_pos ⟨rfl, rfl, rfl⟩]
  · rw [if_neg hj]
    cases hq : (aspec c)[j]? with
    | none => rfl
    | some kd' =>
      simp only [Option.map_some, Nat.zero_add]
      rw [aconv_set]
      show some (aconv h kd' (aup3 (aV h) c k i v c j i)) = _
      unfold aup3
      rw [if_neg (fun e => hj e.2.1.symm)]
theorem aRep.set {n0 : Nat} {σ : zS} {h : aH} (H : aRep n0 σ h) {c k i kd : Nat} {v : Int} (hi : i < aN h c) (hk : (aspec c)[k]? = some kd) (hlive : alive h kd v) :
    aRep n0 (zw_up σ.1 (aA h c i) (.inr (c, (((aspec c).zipIdx).map (fun q => aconv h q.1 (aV h c q.2 i))).set k (aconv h kd v))), σ.2) (aset h c k i v) := by
  obtain ⟨h1, h2, h3, h4, h5, h6, h7⟩ := H
  refine ⟨fun c' i' hi' => ?_, h2, fun j hj => ?_, h4, fun a ha => ?_, h6, fun c' i' k' kd' hi' hk' => ?_⟩
  · refine ⟨?_, (h1 c' i' hi').2⟩
    by_cases he : c' = c ∧ i' = i
    · obtain ⟨rfl, rfl⟩ := he
      rw [acell_same h v hk]
      exact zw_up_same _ _ _
    · rw [acell_other h v he]
      have hne : aA h c' i' ≠ aA h c i := fun e => he (h2 c' i' c i hi' hi e)
      exact (zw_up_ne σ.1 _ hne).trans (h1 c' i' hi').1
  · have hne : aB h j ≠ aA h c i := by
      intro e
      have e1 := (h3 j hj).1
      rw [e, (h1 c i hi).1] at e1
      cases e1
    exact ⟨(zw_up_ne σ.1 _ hne).trans (h3 j hj).1, (h3 j hj).2⟩
  · have hlt := (h1 c i hi).2.2
    have hne : a ≠ aA h c i := by
      have : σ.2.1 ≤ a := ha
      omega
    exact (zw_up_ne σ.1 _ hne).trans (h5 a ha)
  · show alive (aset h c k i v) kd' (aup3 (aV h) c k i v c' k' i')
    unfold aup3
    by_cases he : c' = c ∧ k' = k ∧ i' = i
    · rw [if_pos he]
      obtain ⟨rfl, rfl, rfl⟩ := he
      cases Option.some.inj (hk.symm.trans hk')
      exact hlive
    · rw [if_neg he]
      exact h7 c' i' k' kd' hi' hk'
/-- a new object at the world's end -/
def anew (h : aH) (c a : Nat) : aH := (fun c' => if c' = c then aN h c + 1 else aN h c', fun c' i' => if c' = c ∧ i' = aN h c then a else aA h c' i', fun c' k' i' => if c' = c ∧ i' = aN h c then adef (((aspec c)[k']?).getD 5) else aV h c' k' i', aM h, aB h, aC h)
theorem aconv_def (h h' : aH) (kd : Nat) : aconv h kd (adef kd) = aconv h' kd (adef kd) := by
  unfold adef
  by_cases hk : kd ≤ 1
  · rw [if_pos hk]
    match kd, hk with
    | 0, _ => rfl
    | 1, _ => rfl
  · rw [if_neg hk]
    unfold aconv
    split
    · rfl
    · rfl
    · rfl
    · rfl
    · rfl
    · rfl
    · rfl
theorem aconv_live {h h' : aH} {kd : Nat} {v : Int} (hl : alive h kd v) (hA : ∀ c i : Nat, i < aN h c → aA h' c i = aA h c i) (hB : ∀ j : Nat, j < aM h → aB h' j = aB h j) : aconv h' kd v = aconv h kd v := by
  unfold aconv
  split
  · rfl
  · rfl
  · unfold arf
    split
    · rfl
    · rename_i hv
      rw [hB _ ((hl (by omega)).1 rfl)]
  · unfold arf
    split
    · rfl
    · rename_i hv
      rw [hA _ _ ((hl (by omega)).2.1 rfl)]
  · rfl
  · unfold arf
    split
    · rfl
    · rename_i hv
      rw [hA _ _ ((hl (by omega)).2.2 _ rfl)]
  · rfl
theorem acell_live {h h' : aH} {c i : Nat} (hl : ∀ k kd : Nat, (aspec c)[k]? = some kd → alive h kd (aV h c k i)) (hA : ∀ c i : Nat, i < aN h c → aA h' c i = aA h c i) (hB : ∀ j : Nat, j < aM h → aB h' j = aB h j) (hV : ∀ k : Nat, aV h' c k i = aV h c k i) : acell h' c i = acell h c i := by
  unfold acell
  congr 2
  refine List.map_congr_left fun q hq => ?_
  rw [hV]
  have h1 : (aspec c)[q.2]? = some q.1 := by
    obtain ⟨h2, h3⟩ := List.mem_zipIdx' hq
    rw [List.getElem?_eq_getElem h2, h3]
  exact aconv_live (hl _ _ h1) hA hB
theorem aRep.new {n0 : Nat} {σ : zS} {h : aH} (H : aRep n0 σ h) {c m : Nat} {fs : List Value} (hfs : fs = (aspec c).map (fun kd => aconv h kd (adef kd))) :
    aRep n0 (zw_up σ.1 σ.2.1 (.inr (c, fs)), σ.2.1 + 1, σ.2.2 + m) (anew h c σ.2.1) := by
  obtain ⟨h1, h2, h3, h4, h5, h6, h7⟩ := H
  have hA : ∀ c' i' : Nat, i' < aN h c' → aA (anew h c σ.2.1) c' i' = aA h c' i' := by
    intro c' i' hi'
    show (if c' = c ∧ i' = aN h c then σ.2.1 else aA h c' i') = _
    rw [if_neg]
    rintro ⟨rfl, rfl⟩
    omega
  have hV : ∀ c' k' i' : Nat, i' < aN h c' → aV (anew h c σ.2.1) c' k' i' = aV h c' k' i' := by
    intro c' k' i' hi'
    show (if c' = c ∧ i' = aN h c then _ else aV h c' k' i') = _
    rw [if_neg]
    rintro ⟨rfl, rfl⟩
    omega
  have hN : ∀ c' i' : Nat, i' < aN (anew h c σ.2.1) c' → i' < aN h c' ∨ (c' = c ∧ i' = aN h c) := by
    intro c' i' hi'
    have : i' < (if c' = c then aN h c + 1 else aN h c') := hi'
    by_cases hc : c' = c
    · subst hc
      rw [if_pos rfl] at this
      by_cases he : i' = aN h c'
      · exact Or.inr ⟨rfl, he⟩
      · exact Or.inl (by omega)
    · rw [if_neg hc] at this
      exact Or.inl this
  have hNle : ∀ c' : Nat, aN h c' ≤ aN (anew h c σ.2.1) c' := by
    intro c'
    show aN h c' ≤ (if c' = c then aN h c + 1 else aN h c')
    by_cases hc : c' = c
    · subst hc; rw [if_pos rfl]; omega
    · rw [if_neg hc]; exact Nat.le_refl _
  have hAn : aA (anew h c σ.2.1) c (aN h c) = σ.2.1 := by
    show (if c = c ∧ aN h c = aN h c then σ.2.1 else _) = _
    rw [if_pos ⟨rfl, rfl⟩]
  have hcell : acell (anew h c σ.2.1) c (aN h c) = .inr (c, fs) := by
    unfold acell
    congr 2
    rw [hfs]
    refine List.ext_getElem? fun j => ?_
    rw [List.getElem?_map, List.getElem?_map, List.getElem?_zipIdx]
    cases hq : (aspec c)[j]? with
    | none => rfl
    | some kd =>
      simp only [Option.map_some, Nat.zero_add]
      have e1 : aV (anew h c σ.2.1) c j (aN h c) = adef kd := by
        show (if c = c ∧ aN h c = aN h c then adef (((aspec c)[j]?).getD 5) else _) = _
        rw [if_pos ⟨rfl, rfl⟩, hq]
        rfl
      rw [e1]
      congr 1
      exact aconv_def _ _ kd
  refine ⟨fun c' i' hi' => ?_, fun c1 i1 c2 i2 hi1 hi2 he => ?_, fun j hj => ?_, h4, fun a ha => ?_, Nat.le_succ_of_le h6, fun c' i' k' kd' hi' hk' => ?_⟩
  · rcases hN c' i' hi' with hlt | ⟨rfl, rfl⟩
    · obtain ⟨q1, q2, q3⟩ := h1 c' i' hlt
      rw [hA c' i' hlt, acell_live (fun k kd hk => h7 c' i' k kd hlt hk) hA (fun j _ => rfl) (fun k => hV c' k i' hlt)]
      exact ⟨(zw_up_ne σ.1 _ (by omega)).trans q1, q2, Nat.lt_succ_of_lt q3⟩
    · rw [hAn, hcell]
      exact ⟨zw_up_same _ _ _, h6, Nat.lt_succ_self _⟩
  · rcases hN c1 i1 hi1 with l1 | ⟨rfl, rfl⟩ <;> rcases hN c2 i2 hi2 with l2 | ⟨rfl, rfl⟩
    · rw [hA _ _ l1, hA _ _ l2] at he
      exact h2 _ _ _ _ l1 l2 he
    · rw [hA _ _ l1, hAn] at he
      have := (h1 _ _ l1).2.2
      omega
    · rw [hAn, hA _ _ l2] at he
      have := (h1 _ _ l2).2.2
      omega
    · exact ⟨rfl, rfl⟩
  · obtain ⟨q1, q2, q3⟩ := h3 j hj
    exact ⟨(zw_up_ne σ.1 _ (show aB h j ≠ σ.2.1 by omega)).trans q1, q2, Nat.lt_succ_of_lt q3⟩
  · have ha2 : σ.2.1 + 1 ≤ a := ha
    exact (zw_up_ne σ.1 _ (by omega)).trans (h5 a (by omega))
  · rcases hN c' i' hi' with hlt | ⟨rfl, rfl⟩
    · rw [hV _ _ _ hlt]
      intro hv
      obtain ⟨a1, a2, a3⟩ := h7 c' i' k' kd' hlt hk' hv
      exact ⟨a1, fun e => Nat.lt_of_lt_of_le (a2 e) (hNle _), fun n e => Nat.lt_of_lt_of_le (a3 n e) (hNle _)⟩
    · have e1 : aV (anew h c' σ.2.1) c' k' (aN h c') = adef kd' := by
        show (if c' = c' ∧ aN h c' = aN h c' then adef (((aspec c')[k']?).getD 5) else _) = _
        rw [if_pos ⟨rfl, rfl⟩, hk']
        rfl
      rw [e1]
      unfold adef
      by_cases hk9 : kd' ≤ 1
      · rw [if_pos hk9]
        intro _
        exact ⟨fun e => by omega, fun e => by omega, fun n e => by omega⟩
      · rw [if_neg hk9]
        exact aliveN (by decide)
/-- a cell that isn't of the abstract heap is made, or nothing but the sizes grows -/
theorem aRep.junk {n0 : Nat} {σ : zS} {h : aH} (H : aRep n0 σ h) {x : va_E} {m : Nat} : aRep n0 (zw_up σ.1 σ.2.1 x, σ.2.1 + 1, σ.2.2 + m) h := by
  obtain ⟨h1, h2, h3, h4, h5, h6, h7⟩ := H
  refine ⟨fun c i hi => ?_, h2, fun j hj => ?_, h4, fun a ha => ?_, Nat.le_succ_of_le h6, h7⟩
  · obtain ⟨q1, q2, q3⟩ := h1 c i hi
    exact ⟨(zw_up_ne σ.1 _ (by omega)).trans q1, q2, Nat.lt_succ_of_lt q3⟩
  · obtain ⟨q1, q2, q3⟩ := h3 j hj
    exact ⟨(zw_up_ne σ.1 _ (by omega)).trans q1, q2, Nat.lt_succ_of_lt q3⟩
  · have ha2 : σ.2.1 + 1 ≤ a := ha
    exact (zw_up_ne σ.1 _ (by omega)).trans (h5 a (by omega))
theorem aRep.more {n0 : Nat} {σ : zS} {h : aH} (H : aRep n0 σ h) {k m : Nat} : aRep n0 (σ.1, σ.2.1 + k, σ.2.2 + m) h := by
  obtain ⟨h1, h2, h3, h4, h5, h6, h7⟩ := H
  exact ⟨fun c i hi => ⟨(h1 c i hi).1, (h1 c i hi).2.1, Nat.lt_of_lt_of_le (h1 c i hi).2.2 (Nat.le_add_right _ _)⟩, h2, fun j hj => ⟨(h3 j hj).1, (h3 j hj).2.1, Nat.lt_of_lt_of_le (h3 j hj).2.2 (Nat.le_add_right _ _)⟩, h4, fun a ha => h5 a (Nat.le_trans (Nat.le_add_right _ _) ha), Nat.le_trans h6 (Nat.le_add_right _ _), h7⟩
/-- an array's contents changed -/
def asetA (h : aH) (j : Nat) (x : Nat × vp_A) : aH := (aN h, aA h, aV h, aM h, aB h, fun j' => if j' = j then x else aC h j')
theorem aRep.setA {n0 : Nat} {σ : zS} {h : aH} (H : aRep n0 σ h) {j : Nat} {x : Nat × vp_A} (hj : j < aM h) : aRep n0 (zw_up σ.1 (aB h j) (.inl x), σ.2) (asetA h j x) := by
  obtain ⟨h1, h2, h3, h4, h5, h6, h7⟩ := H
  refine ⟨fun c i hi => ?_, h2, fun j' hj' => ?_, h4, fun a ha => ?_, h6, h7⟩
  · obtain ⟨q1, q2, q3⟩ := h1 c i hi
    have hne : aA h c i ≠ aB h j := by
      intro e
      have e1 := (h3 j hj).1
      rw [← e, q1] at e1
      cases e1
    exact ⟨(zw_up_ne σ.1 _ hne).trans q1, q2, q3⟩
  · obtain ⟨q1, q2, q3⟩ := h3 j' hj'
    by_cases he : j' = j
    · subst he
      refine ⟨?_, q2, q3⟩
      show zw_up σ.1 (aB h j') (.inl x) (aB h j') = some (.inl (if j' = j' then x else aC h j'))
      rw [if_pos rfl]
      exact zw_up_same _ _ _
    · have hne : aB h j' ≠ aB h j := fun e => he (h4 j' j hj' hj e)
      refine ⟨?_, q2, q3⟩
      show zw_up σ.1 (aB h j) (.inl x) (aB h j') = some (.inl (if j' = j then x else aC h j'))
      rw [if_neg he]
      exact (zw_up_ne σ.1 _ hne).trans q1
  · have hlt := (h3 j hj).2.2
    have ha2 : σ.2.1 ≤ a := ha
    exact (zw_up_ne σ.1 _ (by omega)).trans (h5 a ha)
/-- a new array -/
def anewA (h : aH) (a : Nat) (x : Nat × vp_A) : aH := (aN h, aA h, aV h, aM h + 1, fun j => if j = aM h then a else aB h j, fun j => if j = aM h then x else aC h j)
theorem aRep.newA {n0 : Nat} {σ : zS} {h : aH} (H : aRep n0 σ h) {x : Nat × vp_A} {m : Nat} : aRep n0 (zw_up σ.1 σ.2.1 (.inl x), σ.2.1 + 1, σ.2.2 + m) (anewA h σ.2.1 x) := by
  obtain ⟨h1, h2, h3, h4, h5, h6, h7⟩ := H
  have hB : ∀ j : Nat, j < aM h → aB (anewA h σ.2.1 x) j = aB h j := by
    intro j hj
    show (if j = aM h then σ.2.1 else aB h j) = _
    rw [if_neg (by omega)]
  refine ⟨fun c i hi => ?_, h2, fun j hj => ?_, fun j1 j2 hj1 hj2 he => ?_, fun a ha => ?_, Nat.le_succ_of_le h6, fun c i k kd hi hk => ?_⟩
  · obtain ⟨q1, q2, q3⟩ := h1 c i hi
    rw [acell_live (h' := anewA h σ.2.1 x) (fun k kd hk => h7 c i k kd hi hk) (fun _ _ _ => rfl) hB (fun _ => rfl)]
    exact ⟨(zw_up_ne σ.1 _ (show aA h c i ≠ σ.2.1 by omega)).trans q1, q2, Nat.lt_succ_of_lt q3⟩
  · have hj2 : j < aM h + 1 := hj
    by_cases he : j = aM h
    · subst he
      show zw_up σ.1 σ.2.1 (.inl x) (if aM h = aM h then σ.2.1 else _) = some (.inl (if aM h = aM h then x else _)) ∧ (_ → n0 ≤ (if aM h = aM h then σ.2.1 else _)) ∧ (if aM h = aM h then σ.2.1 else _) < σ.2.1 + 1
      rw [if_pos rfl, if_pos rfl]
      exact ⟨zw_up_same _ _ _, fun _ => h6, Nat.lt_succ_self _⟩
    · obtain ⟨q1, q2, q3⟩ := h3 j (by omega)
      show zw_up σ.1 σ.2.1 (.inl x) (if j = aM h then σ.2.1 else aB h j) = some (.inl (if j = aM h then x else aC h j)) ∧ (_ → n0 ≤ (if j = aM h then σ.2.1 else aB h j)) ∧ (if j = aM h then σ.2.1 else aB h j) < σ.2.1 + 1
      rw [if_neg he, if_neg he]
      exact ⟨(zw_up_ne σ.1 _ (by omega)).trans q1, q2, Nat.lt_succ_of_lt q3⟩
  · have l1 : j1 < aM h + 1 := hj1
    have l2 : j2 < aM h + 1 := hj2
    have e : (if j1 = aM h then σ.2.1 else aB h j1) = (if j2 = aM h then σ.2.1 else aB h j2) := he
    by_cases e1 : j1 = aM h <;> by_cases e2 : j2 = aM h
    · omega
    · rw [if_pos e1, if_neg e2] at e
      have := (h3 j2 (by omega)).2.2
      omega
    · rw [if_neg e1, if_pos e2] at e
      have := (h3 j1 (by omega)).2.2
      omega
    · rw [if_neg e1, if_neg e2] at e
      exact h4 j1 j2 (by omega) (by omega) e
  · have ha2 : σ.2.1 + 1 ≤ a := ha
    exact (zw_up_ne σ.1 _ (by omega)).trans (h5 a (by omega))
  · intro hv
    obtain ⟨a1, a2, a3⟩ := h7 c i k kd hi hk hv
    exact ⟨fun e => Nat.lt_succ_of_lt (a1 e), a2, a3⟩
