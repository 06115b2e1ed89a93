/-! THE USER'S HEAP: objects by class and number, lists and queues by their contents; what the world holds of it -/
set_option maxRecDepth 100000
/-- how many of a class; fields; contents; how often a list was changed -/
abbrev hS : Type := (Nat → Nat) × (Nat → Nat → Nat → Int) × (Nat → Nat → List Int) × (Nat → Nat → Int)
def sn (S : hS) (c : Nat) : Nat := S.1 c
def sT (S : hS) (c k i : Nat) : Int := S.2.1 c k i
def sE (S : hS) (c i : Nat) : List Int := S.2.2.1 c i
def sM (S : hS) (c i : Nat) : Int := S.2.2.2 c i
/-- the kinds of fields: 0 int, 1 long, 3 Part (2 i Made, 2 i + 1 Bought), 4 a constant by its address, 5 null, 40 + c an object of class c (20-44: lists by their roles, 45 queues, 46 int[], 47 char[], 48 Supplier[], 49 boolean[]); below 0: null -/
def bspec : Nat → List Nat
  | 0 => [60, 61, 62, 63, 88, 0, 0, 1, 1, 1]
  | 1 => [0, 0, 0, 0, 85, 0, 0, 48, 0, 0, 0, 1]
  | 2 => [0, 0, 0, 0, 0, 0, 0, 64, 65]
  | 3 => [0, 0, 0, 0, 0, 0, 0]
  | 4 => [0, 0, 0]
  | 5 => [0, 0, 0]
  | 6 => [0, 3, 0, 66, 0, 0, 1, 0]
  | 7 => [46, 0, 1]
  | 8 => [0, 3, 0, 0, 0, 66, 67, 4, 0, 0, 1, 0, 0, 46]
  | 9 => [4, 68]
  | 11 => [0, 70, 71, 72, 73, 0, 87, 74, 0]
  | 12 => [0, 0, 0, 0, 0, 0, 0, 0, 0, 55, 0]
  | 13 => [0, 0, 76, 77, 0, 0, 0, 0, 0]
  | 14 => [0, 0, 0, 0, 1, 0, 81]
  | 15 => [0, 0, 0, 0, 0, 0, 78, 79, 0, 0, 0, 1, 54, 0, 0, 1, 80]
  | 19 => [0]
  | _ => []
/-- the kinds of elements, by list -/
def elk : Nat → Nat
  | 20 => 41
  | 21 => 3
  | 22 => 46
  | 23 => 48
  | 24 => 44
  | 25 => 45
  | 26 => 47
  | 27 => 47
  | 28 => 4
  | 30 => 52
  | 31 => 53
  | 32 => 54
  | 33 => 55
  | 34 => 75
  | 35 => 4
  | 36 => 86
  | 37 => 86
  | 38 => 54
  | 39 => 59
  | 40 => 54
  | 41 => 54
  | 42 => 54
  | 45 => 48
  | 48 => 49
  | _ => 0
def conv (gh : Nat → Nat → Nat) (kd : Nat) (v : Int) : Value := match kd with
  | 0 => .int (Int32.ofInt v)
  | 1 => .long (Int64.ofInt v)
  | 3 => arf v (gh (2 + v.toNat % 2) (v.toNat / 2))
  | 4 => arf v v.toNat
  | n + 40 => arf v (gh n v.toNat)
  | _ => .null
def ocell (gh : Nat → Nat → Nat) (S : hS) (c i : Nat) : va_E := .inr (c, ((bspec c).zipIdx).map (fun q => conv gh q.1 (sT S c q.2 i)))
/-- arrays: int[], char[], Supplier[], boolean[] -/
def rcell (gh : Nat → Nat → Nat) (S : hS) (c i : Nat) : va_E := match c with
  | 46 => .inl (0, (sE S c i).length, .inl (fun j => Int32.ofInt ((sE S c i).getD j 0)))
  | 47 => .inl (3, (sE S c i).length, .inl (fun j => Int32.ofInt ((sE S c i).getD j 0)))
  | 48 => .inl (6, (sE S c i).length, .inr (.inr (.inr (.inr (fun j => if (sE S c i).getD j (-1) < 0 then none else some (gh 9 ((sE S c i).getD j (-1)).toNat))))))
  | _ => .inl (2, (sE S c i).length, .inl (fun j => Int32.ofInt ((sE S c i).getD j 0)))
/-- a cell by its owner: (0, c, i) an object; (1, c, i) a list's array; (2, a, 0) a cell that is only kept -/
def hcell (gh : Nat → Nat → Nat) (S : hS) (ar : Nat → Nat → Nat × Nat) (fa : Nat → Nat → Nat → Option Nat) (J : zw_W) (t c i : Nat) : Option va_E := match t with
  | 0 => some (if c < 20 then ocell gh S c i else if c < 45 then .inr (16, [iv (sM S c i), .ref (ar c i).1, iv (sE S c i).length]) else if c = 45 then .inr (18, [.ref (ar c i).1, iv (sE S c i).length, .null, iv (sM S c i)]) else rcell gh S c i)
  | 1 => some (wArr (ar c i).2 (fa c i))
  | _ => J c
/-- a reference of this kind is null or live -/
def alv (S : hS) (kd : Nat) (v : Int) : Prop := 0 ≤ v → (kd = 3 → v.toNat / 2 < sn S (2 + v.toNat % 2)) ∧ (∀ n : Nat, kd = n + 40 → v.toNat < sn S n)
/-- what is fixed besides g: the cells below the run's own, the empty array -/
abbrev hG : Type := zw_W × Nat
def boolAt (g : zG) (w0 : hG) (x : Nat) : Prop := x < zg_n g ∧ zcst (w0.1 x) ∧ ∃ r : String × Nat, (zg_k g).find? (fun r => r.2 == x) = some r ∧ (r.1 = "java/lang/Boolean" ∨ r.1 = "java/lang/Integer")
/-- an element in a list's array -/
def elrep (g : zG) (w0 : hG) (gh : Nat → Nat → Nat) (kd : Nat) (x : Int) (o : Option Nat) : Prop := 0 ≤ x ∧ match kd with
  | 3 => o = some (gh (2 + x.toNat % 2) (x.toNat / 2))
  | 4 => o = some x.toNat ∧ boolAt g w0 x.toNat
  | n + 40 => o = some (gh n x.toNat)
  | _ => False
/-- the order that a queue keeps -/
def qkey (S : hS) (own : Nat → Option (Nat × Nat × Nat)) (a : Nat) : Int := match own a with
  | some (0, 8, j) => sT S 8 4 j * 1000 + sT S 8 0 j
  | _ => 0
abbrev hqA (gh : Nat → Nat → Nat) (S : hS) (i : Nat) : List Nat := (sE S 45 i).map (fun x => gh 8 x.toNat)
/-- what is common to all states of a run -/
def hFix (g : zG) (w0 : hG) : Prop := wK g ∧ w0.2 < zg_n g ∧ w0.1 w0.2 = some (wArr 0 (fun _ => none)) ∧ zt_val (zg_s g) wDef = some (.ref w0.2)
/-- what the world holds -/
def hRep (g : zG) (w0 : hG) (σ : zS) (gh : Nat → Nat → Nat) (S : hS) (J : zw_W) : Prop := hFix g w0 ∧ wfr σ ∧ zg_n g ≤ σ.2.1 ∧ (∀ a : Nat, a < zg_n g → σ.1 a = w0.1 a) ∧
  (∀ c i k kd : Nat, c < 20 → i < sn S c → (bspec c)[k]? = some kd → alv S kd (sT S c k i)) ∧ (∀ c i : Nat, 20 ≤ c → i < sn S c → ∀ x ∈ sE S c i, alv S (elk c) x) ∧
  ∃ (own : Nat → Option (Nat × Nat × Nat)) (ar : Nat → Nat → Nat × Nat) (fa : Nat → Nat → Nat → Option Nat),
    (∀ a t c i : Nat, own a = some (t, c, i) → (zg_n g ≤ a ∨ (t = 0 ∧ c = 19)) ∧ a < σ.2.1 ∧ σ.1 a = hcell gh S ar fa J t c i ∧ σ.1 a ≠ none ∧ (t = 0 → i < sn S c ∧ a = gh c i) ∧ (t = 1 → i < sn S c ∧ a = (ar c i).1 ∧ 20 ≤ c ∧ c < 46) ∧ (t = 2 → c = a ∧ i = 0) ∧ t ≤ 2) ∧
    (∀ c i : Nat, i < sn S c → own (gh c i) = some (0, c, i)) ∧
    (∀ (a : Nat) (e : va_E), J a = some e → own a = some (2, a, 0)) ∧
    (∀ c i : Nat, 20 ≤ c → c < 46 → i < sn S c → (own (ar c i).1 = some (1, c, i) ∨ (c < 45 ∧ (ar c i).1 = w0.2 ∧ (ar c i).2 = 0)) ∧ (sE S c i).length ≤ (ar c i).2 ∧ (ar c i).2 ≤ 600000 ∧ ((ar c i).2 ≠ 0 → own (ar c i).1 = some (1, c, i)) ∧ ((ar c i).2 = 0 → (ar c i).1 = w0.2 ∧ fa c i = fun _ => none)) ∧
    (∀ c i : Nat, 20 ≤ c → c < 45 → i < sn S c → (∀ (j : Nat) (x : Int), (sE S c i)[j]? = some x → elrep g w0 gh (elk c) x (fa c i j)) ∧ ∀ j : Nat, (sE S c i).length ≤ j → fa c i j = none) ∧
    (∀ i : Nat, i < sn S 45 → 0 < (ar 45 i).2 ∧ (∀ x ∈ sE S 45 i, 0 ≤ x) ∧ wPQ (qkey S own) (sE S 45 i).length (fa 45 i) (hqA gh S i))
/-- object i of class c lies at a -/
def hat (gh : Nat → Nat → Nat) (S : hS) (c i a : Nat) : Prop := i < sn S c ∧ gh c i = a
/-- one field changed -/
def sset (S : hS) (c k i : Nat) (v : Int) : hS := (S.1, fun c' k' i' => if c' = c ∧ k' = k ∧ i' = i then v else S.2.1 c' k' i', S.2.2)
/-- contents changed -/
def ssE (S : hS) (c i : Nat) (xs : List Int) : hS := (S.1, S.2.1, (fun c' i' => if c' = c ∧ i' = i then xs else S.2.2.1 c' i'), fun c' i' => if c' = c ∧ i' = i then S.2.2.2 c i + 1 else S.2.2.2 c' i')
section ZUH
variable {g : zG} {w0 : hG} {σ : zS} {gh : Nat → Nat → Nat} {S : hS} {J : zw_W} {c i a k kd d pc idx k0 : Nat} {lv : zp_L} {st : List Value} {Q : Option Value ⊕ String → zS → Prop} {ty : FieldType} {fin dec : Bool} {v : Int}
theorem sn_set {c' : Nat} : sn (sset S c k i v) c' = sn S c' := rfl
theorem sE_set {c' i' : Nat} : sE (sset S c k i v) c' i' = sE S c' i' := rfl
theorem sT_set {c' k' i' : Nat} : sT (sset S c k i v) c' k' i' = if c' = c ∧ k' = k ∧ i' = i then v else sT S c' k' i' := rfl
theorem sM_set {c' i' : Nat} : sM (sset S c k i v) c' i' = sM S c' i' := rfl
theorem sM_ssE {c' i' : Nat} {xs : List Int} : sM (ssE S c i xs) c' i' = if c' = c ∧ i' = i then sM S c i + 1 else sM S c' i' := rfl
theorem sn_ssE {c' : Nat} {xs : List Int} : sn (ssE S c i xs) c' = sn S c' := rfl
theorem sT_ssE {c' k' i' : Nat} {xs : List Int} : sT (ssE S c i xs) c' k' i' = sT S c' k' i' := rfl
theorem sE_ssE {c' i' : Nat} {xs : List Int} : sE (ssE S c i xs) c' i' = if c' = c ∧ i' = i then xs else sE S c' i' := rfl
theorem ocell_at (h : (bspec c)[k]? = some kd) : (((bspec c).zipIdx).map (fun q => conv gh q.1 (sT S c q.2 i)))[k]? = some (conv gh kd (sT S c k i)) := by
  rw [List.getElem?_map, List.getElem?_zipIdx, h]
  simp only [Option.map_some, Nat.zero_add]
theorem hRep.obj (H : hRep g w0 σ gh S J) (ha : hat gh S c i a) (hc : c < 20) : σ.1 a = some (ocell gh S c i) ∧ (c < 19 → zg_n g ≤ a) ∧ a < σ.2.1 := by
  obtain ⟨h1, h2, h3, h4, h5, h6, own, ar, fa, h7, h8, h9, hA, hB, hC⟩ := H
  obtain ⟨hi, rfl⟩ := ha
  obtain ⟨q1, q2, q3, _⟩ := h7 _ _ _ _ (h8 c i hi)
  refine ⟨?_, fun h19 => (by rcases q1 with q1 | ⟨_, e⟩
                             · exact q1
                             · omega), q2⟩
  rw [q3]
  unfold hcell
  simp only
  rw [if_pos hc]
/-- a field is read -/
theorem hW_get (H : hRep g w0 σ gh S J) (hx : r_i k pc = some (.getfield idx, 3)) (ha : hat gh S c i a) (hc : Nat.blt c 20 = true) (hf : zf_at (r_o k) idx c = some (k0, ty, fin, dec)) (hk : (bspec c)[k0]? = some kd) (hr : zW g d k (pc + 3) lv (conv gh kd (sT S c k0 i) :: st) σ Q) : zW g d k pc lv (.ref a :: st) σ Q :=
  wW_get hx (H.obj ha (Nat.le_of_ble_eq_true hc)).1 hf (ocell_at hk) hr
/-- a reference that isn't null is read -/
theorem hW_getr {n j : Nat} (H : hRep g w0 σ gh S J) (hx : r_i k pc = some (.getfield idx, 3)) (ha : hat gh S c i a) (hc : Nat.blt c 20 = true) (hf : zf_at (r_o k) idx c = some (k0, ty, fin, dec)) (hk : (bspec c)[k0]? = some (n + 40)) (hv : sT S c k0 i = (j : Int))
    (hr : ∀ b : Nat, hat gh S n j b → zW g d k (pc + 3) lv (.ref b :: st) σ Q) : zW g d k pc lv (.ref a :: st) σ Q := by
  refine hW_get H hx ha hc hf hk ?_
  have hl := H.2.2.2.2.1 c i k0 (n + 40) (Nat.le_of_ble_eq_true hc) ha.1 hk
  rw [hv] at hl ⊢
  have e : conv gh (n + 40) (j : Int) = .ref (gh n j) := by
    show arf _ _ = _
    unfold arf
    rw [if_neg (by omega)]
    rfl
  rw [e]
  exact hr _ ⟨by have := (hl (by omega)).2 n rfl; simpa using this, rfl⟩
/-- a Part is read -/
theorem hW_getp {j : Nat} (H : hRep g w0 σ gh S J) (hx : r_i k pc = some (.getfield idx, 3)) (ha : hat gh S c i a) (hc : Nat.blt c 20 = true) (hf : zf_at (r_o k) idx c = some (k0, ty, fin, dec)) (hk : (bspec c)[k0]? = some 3) (hv : sT S c k0 i = (j : Int))
    (hr : ∀ b : Nat, hat gh S (2 + j % 2) (j / 2) b → zW g d k (pc + 3) lv (.ref b :: st) σ Q) : zW g d k pc lv (.ref a :: st) σ Q := by
  refine hW_get H hx ha hc hf hk ?_
  have hl := H.2.2.2.2.1 c i k0 3 (Nat.le_of_ble_eq_true hc) ha.1 hk
  rw [hv] at hl ⊢
  have e : conv gh 3 (j : Int) = .ref (gh (2 + j % 2) (j / 2)) := by
    show arf _ _ = _
    unfold arf
    rw [if_neg (by omega)]
    rfl
  rw [e]
  exact hr _ ⟨by have := (hl (by omega)).1 rfl; simpa using this, rfl⟩
/-- null is read -/
theorem hW_getn {n : Nat} (H : hRep g w0 σ gh S J) (hx : r_i k pc = some (.getfield idx, 3)) (ha : hat gh S c i a) (hc : Nat.blt c 20 = true) (hf : zf_at (r_o k) idx c = some (k0, ty, fin, dec)) (hk : (bspec c)[k0]? = some (n + 40)) (hv : sT S c k0 i < 0)
    (hr : zW g d k (pc + 3) lv (.null :: st) σ Q) : zW g d k pc lv (.ref a :: st) σ Q := by
  refine hW_get H hx ha hc hf hk ?_
  have e : conv gh (n + 40) (sT S c k0 i) = .null := by
    show arf _ _ = _
    unfold arf
    rw [if_pos hv]
  rw [e]
  exact hr
theorem alv_set {S : hS} {c k i : Nat} {v x : Int} {kd : Nat} (h : alv S kd x) : alv (sset S c k i v) kd x := h
theorem ocell_other {c' i' : Nat} (hne : ¬ (c' = c ∧ i' = i)) : ocell gh (sset S c k i v) c' i' = ocell gh S c' i' := by
  unfold ocell
  congr 2
  refine List.map_congr_left fun q _ => ?_
  rw [sT_set, if_neg (fun e => hne ⟨e.1, e.2.2⟩)]
theorem ocell_same (hk : (bspec c)[k]? = some kd) : ocell gh (sset S c k i v) c i = .inr (c, (((bspec c).zipIdx).map (fun q => conv gh q.1 (sT S c q.2 i))).set k (conv gh kd v)) := by
  unfold ocell
  congr 2
  refine List.ext_getElem? fun j => ?_
  rw [List.getElem?_map, List.getElem?_set, List.length_map, List.length_zipIdx, List.getElem?_map, List.getElem?_zipIdx]
  by_cases hj : k = j
  · subst hj
    rw [hk, if_pos rfl]
    have hlt := (List.getElem?_eq_some_iff.mp hk).1
    rw [if_pos hlt]
    simp only [Option.map_some, Nat.zero_add]
    rw [sT_set, if_pos ⟨rfl, rfl, rfl⟩]
  · rw [if_neg hj]
    cases (bspec c)[j]? with
    | none => rfl
    | some x =>
      simp only [Option.map_some, Nat.zero_add]
      rw [sT_set, if_neg (fun e => hj e.2.1.symm)]
theorem wPQ_congr {key key' : Nat → Int} {n : Nat} {f : Nat → Option Nat} {Y : List Nat} (hk : ∀ y ∈ Y, key y = key' y) (h : wPQ key n f Y) : wPQ key' n f Y := by
  obtain ⟨h1, h2, h3⟩ := h
  have e : ∀ i : Nat, i < n → qk key' f i = qk key f i := by
    intro i hi
    obtain ⟨y, hy⟩ := h1.2.1 i hi
    unfold qk
    rw [hy]
    exact (hk y ((h1.1 y).mpr ⟨i, hi, hy⟩)).symm
  refine ⟨h1, fun i h0 hi => ?_, h3⟩
  rw [e i hi, e _ (by omega)]
  exact h2 i h0 hi
/-- the world behind a write to a field -/
theorem hRep.set (H : hRep g w0 σ gh S J) (ha : hat gh S c i a) (hc : c < 19) (hk : (bspec c)[k]? = some kd) (hl : alv S kd v) (hq : c = 8 → (k ≠ 0 ∧ k ≠ 4) ∨ ∀ q : Nat, q < sn S 45 → (i : Int) ∉ sE S 45 q) :
    hRep g w0 (zw_up σ.1 a (.inr (c, (((bspec c).zipIdx).map (fun q => conv gh q.1 (sT S c q.2 i))).set k (conv gh kd v))), σ.2) gh (sset S c k i v) J := by
  obtain ⟨h1, h2, h3, h4, h5, h6, own, ar, fa, h7, h8, h9, hA, hB, hC⟩ := H
  obtain ⟨hi, rfl⟩ := ha
  have ho := h8 c i hi
  obtain ⟨q1', q2, q3, _⟩ := h7 _ _ _ _ ho
  have q1 : zg_n g ≤ gh c i := by
    rcases q1' with q | ⟨_, e⟩
    · exact q
    · omega
  refine ⟨h1, fun q hq2 => (zw_up_ne _ _ (by have hq3 : σ.2.1 ≤ q := hq2; omega)).trans (h2 q hq2), h3, fun q hq2 => (zw_up_ne _ _ (by omega)).trans (h4 q hq2), ?_, h6, own, ar, fa, ?_, h8, h9, hA, hB, ?_⟩
  · intro c' i' k' kd' hc' hi' hk'
    rw [sT_set]
    by_cases e : c' = c ∧ k' = k ∧ i' = i
    · rw [if_pos e]
      obtain ⟨rfl, rfl, rfl⟩ := e
      cases Option.some.inj (hk'.symm.trans hk)
      exact hl
    · rw [if_neg e]
      exact h5 c' i' k' kd' hc' hi' hk'
  · intro b t c' i' hb
    obtain ⟨p1, p2, p3, p4, p5⟩ := h7 b t c' i' hb
    by_cases e : b = gh c i
    · subst e
      obtain ⟨rfl, rfl, rfl⟩ : t = 0 ∧ c' = c ∧ i' = i := by
        have := Option.some.inj (hb.symm.trans ho)
        exact ⟨congrArg (·.1) this, congrArg (·.2.1) this, congrArg (·.2.2) this⟩
      refine ⟨p1, p2, ?_, ?_, p5⟩
      · show zw_up _ _ _ _ = _
        rw [zw_up_same]
        unfold hcell
        simp only
        rw [if_pos (by omega), ocell_same hk]
      · show zw_up _ _ _ _ ≠ _
        rw [zw_up_same]
        exact fun e => by cases e
    · refine ⟨p1, p2, ?_, by show zw_up _ _ _ _ ≠ _; rw [zw_up_ne _ _ e]; exact p4, p5⟩
      show zw_up _ _ _ _ = _
      rw [zw_up_ne _ _ e, p3]
      unfold hcell
      match t with
      | 0 =>
        simp only
        have hne : ¬ (c' = c ∧ i' = i) := by
          rintro ⟨rfl, rfl⟩
          exact e (p5.1 rfl).2
        rw [ocell_other hne]
        rfl
      | 1 => rfl
      | _ + 2 => rfl
  · intro q hq2
    obtain ⟨r1, r2, r3⟩ := hC q hq2
    refine ⟨r1, r2, wPQ_congr (fun y hy => ?_) r3⟩
    obtain ⟨x, hx, rfl⟩ := List.mem_map.mp hy
    have hx0 := r2 x hx
    have hx1 := (h6 45 q (by omega) hq2 x hx hx0).2 8 rfl
    unfold qkey
    rw [h8 8 x.toNat hx1]
    simp only
    rw [sT_set, sT_set, if_neg, if_neg]
    · rintro ⟨e1, e2, e3⟩
      rcases hq e1.symm with ⟨h4, _⟩ | hq
      · exact h4 e2.symm
      · exact hq q hq2 (by rw [← e3, Int.toNat_of_nonneg hx0]; exact hx)
    · rintro ⟨e1, e2, e3⟩
      rcases hq e1.symm with ⟨_, h4⟩ | hq
      · exact h4 e2.symm
      · exact hq q hq2 (by rw [← e3, Int.toNat_of_nonneg hx0]; exact hx)
end ZUH
