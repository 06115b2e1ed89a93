/-! THE USER'S HEAP: writes, new objects, kept cells -/
set_option maxRecDepth 100000
/-- a new one with its contents -/
def snw (S : hS) (c : Nat) (xs : List Int) : hS := (fun c' => if c' = c then S.1 c + 1 else S.1 c', fun c' k' i' => if c' = c ∧ i' = S.1 c then adef (((bspec c)[k']?).getD 5) else S.2.1 c' k' i', (fun c' i' => if c' = c ∧ i' = S.1 c then xs else S.2.2.1 c' i'), fun c' i' => if c' = c ∧ i' = S.1 c then 0 else S.2.2.2 c' i')
def ghw (gh : Nat → Nat → Nat) (S : hS) (c a : Nat) : Nat → Nat → Nat := fun c' i' => if c' = c ∧ i' = sn S c then a else gh c' i'
section ZUA
variable {g : zG} {w0 : hG} {σ : zS} {gh gh' : Nat → Nat → Nat} {S S' : hS} {J : zw_W} {c i a k kd d pc idx k0 : Nat} {lv : zp_L} {st : List Value} {Q : Option Value ⊕ String → zS → Prop} {ty : FieldType} {fin dec : Bool} {v : Int} {xs : List Int}
theorem sn_w {c' : Nat} : sn (snw S c xs) c' = if c' = c then sn S c + 1 else sn S c' := rfl
theorem sT_w {c' k' i' : Nat} : sT (snw S c xs) c' k' i' = if c' = c ∧ i' = sn S c then adef (((bspec c)[k']?).getD 5) else sT S c' k' i' := rfl
theorem sE_w {c' i' : Nat} : sE (snw S c xs) c' i' = if c' = c ∧ i' = sn S c then xs else sE S c' i' := rfl
theorem sM_w {c' i' : Nat} : sM (snw S c xs) c' i' = if c' = c ∧ i' = sn S c then 0 else sM S c' i' := rfl
theorem sn_w_le {c' : Nat} : sn S c' ≤ sn (snw S c xs) c' := by
  rw [sn_w]
  split
  · rename_i h; rw [h]; omega
  · exact Nat.le_refl _
theorem hat.old (h : hat gh S c i a) {c' b : Nat} : hat (ghw gh S c' b) (snw S c' xs) c i a := by
  refine ⟨Nat.lt_of_lt_of_le h.1 sn_w_le, ?_⟩
  unfold ghw
  rw [if_neg]
  · exact h.2
  · rintro ⟨rfl, e⟩
    have := h.1
    omega
theorem hat.new : hat (ghw gh S c a) (snw S c xs) c (sn S c) a := by
  refine ⟨by rw [sn_w, if_pos rfl]; omega, ?_⟩
  unfold ghw
  rw [if_pos ⟨rfl, rfl⟩]
theorem hat.set (h : hat gh S c i a) {c' k' i' : Nat} : hat gh (sset S c' k' i' v) c i a := h
theorem hat.ssE (h : hat gh S c i a) {c' i' : Nat} : hat gh (ssE S c' i' xs) c i a := h
theorem alv_w (h : alv S kd v) {c' : Nat} : alv (snw S c' xs) kd v := fun h0 => ⟨fun e => Nat.lt_of_lt_of_le ((h h0).1 e) sn_w_le, fun n e => Nat.lt_of_lt_of_le ((h h0).2 n e) sn_w_le⟩
theorem conv_ext (hg : ∀ c i : Nat, i < sn S c → gh' c i = gh c i) (h : alv S kd v) : conv gh' kd v = conv gh kd v := by
  unfold conv
  split
  · rfl
  · rfl
  · unfold arf
    split
    · rfl
    · rw [hg _ _ ((h (by omega)).1 rfl)]
  · rfl
  · unfold arf
    split
    · rfl
    · rw [hg _ _ ((h (by omega)).2 _ rfl)]
  · rfl
theorem ocell_ext (hg : ∀ c i : Nat, i < sn S c → gh' c i = gh c i) (hV : ∀ k kd : Nat, (bspec c)[k]? = some kd → alv S kd (sT S c k i)) (hT : ∀ k, sT S' c k i = sT S c k i) : ocell gh' S' c i = ocell gh S c i := by
  unfold ocell
  congr 2
  refine List.map_congr_left fun q hq => ?_
  rw [hT]
  have h1 : (bspec c)[q.2]? = some q.1 := by
    obtain ⟨h2, h3⟩ := List.mem_zipIdx' hq
    rw [List.getElem?_eq_getElem h2, h3]
  exact conv_ext hg (hV _ _ h1)
theorem rcell_ext (hg : ∀ c i : Nat, i < sn S c → gh' c i = gh c i) (hV : ∀ x ∈ sE S c i, alv S (elk c) x) (hE : sE S' c i = sE S c i) : rcell gh' S' c i = rcell gh S c i := by
  unfold rcell
  rw [hE]
  split
  · rfl
  · rfl
  · congr 7
    funext j
    by_cases h0 : (sE S 48 i).getD j (-1) < 0
    · rw [if_pos h0, if_pos h0]
    · rw [if_neg h0, if_neg h0]
      congr 1
      have hm : (sE S 48 i).getD j (-1) ∈ sE S 48 i := by
        rw [List.getD_eq_getElem?_getD] at h0 ⊢
        cases hj : (sE S 48 i)[j]? with
        | none => rw [hj] at h0; exact absurd (by decide) h0
        | some y => exact List.mem_of_getElem? hj
      exact hg 9 _ ((hV _ hm (by omega)).2 9 rfl)
  · rfl
theorem elrep_ext {o : Option Nat} {x : Int} (hg : ∀ c i : Nat, i < sn S c → gh' c i = gh c i) (hl : alv S kd x) (h : elrep g w0 gh kd x o) : elrep g w0 gh' kd x o := by
  refine ⟨h.1, ?_⟩
  have h2 := h.2
  split at h2
  · rw [hg _ _ ((hl h.1).1 rfl)]; exact h2
  · exact h2
  · rw [hg _ _ ((hl h.1).2 _ rfl)]; exact h2
  · exact h2
/-- a field is written -/
theorem hW_put {w : Value} (H : hRep g w0 σ gh S J) (hx : r_i k pc = some (.putfield idx, 3)) (ha : hat gh S c i a) (hc : Nat.blt c 19 = true) (hf : zf_at (r_o k) idx c = some (k0, ty, fin, dec)) (hk : (bspec c)[k0]? = some kd) (hfin : fin = false ∨ (dec = true ∧ ((r_m k).1.name == "<init>") = true)) (hn : narrow ty w = w) (hfit : fits ty w = true)
    (hw : w = conv gh kd v) (hl : alv S kd v) (hq : c = 8 → (k0 ≠ 0 ∧ k0 ≠ 4) ∨ ∀ q : Nat, q < sn S 45 → (i : Int) ∉ sE S 45 q)
    (hr : ∀ σ' : zS, hRep g w0 σ' gh (sset S c k0 i v) J → σ'.2 = σ.2 → zW g d k (pc + 3) lv st σ' Q) : zW g d k pc lv (w :: .ref a :: st) σ Q := by
  have hc2 : c < 19 := Nat.le_of_ble_eq_true hc
  obtain ⟨o1, o2, o3⟩ := H.obj ha (by omega)
  refine wW_put hx o1 hf (o2 hc2) hfin hn hfit ?_ ?_
  · rw [List.length_map, List.length_zipIdx]
    have := (List.getElem?_eq_some_iff.mp hk).1
    exact Nat.ble_eq.mpr this
  · rw [hw]
    exact hr _ (H.set ha hc2 hk hl hq) rfl
/-- the heap's end moves on -/
theorem hRep.more (H : hRep g w0 σ gh S J) {m n : Nat} : hRep g w0 (σ.1, σ.2.1 + m, n) gh S J := by
  obtain ⟨h1, h2, h3, h4, h5, h6, own, ar, fa, h7, h8⟩ := H
  exact ⟨h1, fun q hq => h2 q (by have hq2 : σ.2.1 + m ≤ q := hq; omega), Nat.le_trans h3 (Nat.le_add_right _ _), h4, h5, h6, own, ar, fa, fun b t c' i' hb => by
    obtain ⟨p1, p2, p3⟩ := h7 b t c' i' hb
    exact ⟨p1, Nat.lt_of_lt_of_le p2 (Nat.le_add_right _ _), p3⟩, h8⟩
/-- a new one: an object, an empty list, an array -/
theorem hRep.alloc (H : hRep g w0 σ gh S J) {x : va_E} {m : Nat} (hc45 : c ≠ 45) (hx : x = if c < 20 then .inr (c, (bspec c).map (fun kd => conv gh kd (adef kd))) else if c < 45 then .inr (16, [iv 0, .ref w0.2, iv 0]) else rcell gh (snw S c xs) c (sn S c)) (hxs : c < 46 → xs = []) (hx48 : c ≠ 48) (hxv : ∀ y ∈ xs, alv S (elk c) y) :
    hRep g w0 (zw_up σ.1 σ.2.1 x, σ.2.1 + 1, m) (ghw gh S c σ.2.1) (snw S c xs) J := by
  obtain ⟨h1, h2, h3, h4, h5, h6, own, ar, fa, h7, h8, h9, hA, hB, hC⟩ := H
  have hg : ∀ c' i' : Nat, i' < sn S c' → ghw gh S c σ.2.1 c' i' = gh c' i' := by
    intro c' i' hi'
    unfold ghw
    rw [if_neg]
    rintro ⟨rfl, e⟩
    omega
  have hT : ∀ c' k' i' : Nat, i' < sn S c' → sT (snw S c xs) c' k' i' = sT S c' k' i' := by
    intro c' k' i' hi'
    rw [sT_w, if_neg]
    rintro ⟨rfl, e⟩
    omega
  have hE : ∀ c' i' : Nat, i' < sn S c' → sE (snw S c xs) c' i' = sE S c' i' := by
    intro c' i' hi'
    rw [sE_w, if_neg]
    rintro ⟨rfl, e⟩
    omega
  have hM : ∀ c' i' : Nat, i' < sn S c' → sM (snw S c xs) c' i' = sM S c' i' := by
    intro c' i' hi'
    rw [sM_w, if_neg]
    rintro ⟨rfl, e⟩
    omega
  have hN : ∀ c' i' : Nat, i' < sn (snw S c xs) c' → i' < sn S c' ∨ (c' = c ∧ i' = sn S c) := by
    intro c' i' hi'
    rw [sn_w] at hi'
    by_cases e : c' = c
    · rw [if_pos e] at hi'
      by_cases e2 : i' = sn S c
      · exact Or.inr ⟨e, e2⟩
      · exact Or.inl (by rw [e]; omega)
    · rw [if_neg e] at hi'
      exact Or.inl hi'
  have hno : own σ.2.1 = none := by
    cases ho : own σ.2.1 with
    | none => rfl
    | some l =>
      obtain ⟨t, c', i'⟩ := l
      have := (h7 _ _ _ _ ho).2.1
      omega
  obtain ⟨own', ho1⟩ : ∃ own' : Nat → Option (Nat × Nat × Nat), ∀ b : Nat, own' b = if b = σ.2.1 then some (0, c, sn S c) else own b := ⟨_, fun _ => rfl⟩
  obtain ⟨ar', ha1⟩ : ∃ ar' : Nat → Nat → Nat × Nat, ∀ c' i' : Nat, ar' c' i' = if c' = c ∧ i' = sn S c then (w0.2, 0) else ar c' i' := ⟨_, fun _ _ => rfl⟩
  obtain ⟨fa', hf1⟩ : ∃ fa' : Nat → Nat → Nat → Option Nat, ∀ c' i' : Nat, fa' c' i' = if c' = c ∧ i' = sn S c then (fun _ => none) else fa c' i' := ⟨_, fun _ _ => rfl⟩
  have hown : ∀ b : Nat, own b ≠ none → own' b = own b := by
    intro b hb
    rw [ho1, if_neg]
    rintro rfl
    exact hb hno
  have har : ∀ c' i' : Nat, i' < sn S c' → ar' c' i' = ar c' i' := by
    intro c' i' hi'
    rw [ha1, if_neg]
    rintro ⟨rfl, e⟩
    omega
  have har0 : ar' c (sn S c) = (w0.2, 0) := by rw [ha1, if_pos ⟨rfl, rfl⟩]
  have hfa : ∀ c' i' : Nat, i' < sn S c' → fa' c' i' = fa c' i' := by
    intro c' i' hi'
    rw [hf1, if_neg]
    rintro ⟨rfl, e⟩
    omega
  have hfa0 : fa' c (sn S c) = fun _ => none := by rw [hf1, if_pos ⟨rfl, rfl⟩]
  refine ⟨h1, fun q hq => ?_, Nat.le_succ_of_le h3, fun q hq => (zw_up_ne _ _ (by omega)).trans (h4 q hq), ?_, ?_, own', ar', fa', ?_, ?_, ?_, ?_, ?_, ?_⟩
  · have hq2 : σ.2.1 + 1 ≤ q := hq
    exact (zw_up_ne _ _ (by omega)).trans (h2 q (by omega))
  · intro c' i' k' kd' hc' hi' hk'
    rcases hN c' i' hi' with hlt | ⟨rfl, rfl⟩
    · rw [hT _ _ _ hlt]
      exact alv_w (h5 c' i' k' kd' hc' hlt hk')
    · rw [sT_w, if_pos ⟨rfl, rfl⟩, hk']
      show alv _ kd' (adef kd')
      unfold adef
      by_cases e : kd' ≤ 1
      · rw [if_pos e]
        exact fun _ => ⟨fun e => by omega, fun n e => by omega⟩
      · rw [if_neg e]
        exact fun h0 => absurd h0 (by decide)
  · intro c' i' hc' hi' y hy
    rcases hN c' i' hi' with hlt | ⟨rfl, rfl⟩
    · rw [hE _ _ hlt] at hy
      exact alv_w (h6 c' i' hc' hlt y hy)
    · rw [sE_w, if_pos ⟨rfl, rfl⟩] at hy
      exact alv_w (hxv y hy)
  · intro b t c' i' hb
    by_cases e : b = σ.2.1
    · rw [ho1, if_pos e] at hb
      have hb2 := Option.some.inj hb
      obtain ⟨rfl, rfl, rfl⟩ : t = 0 ∧ c' = c ∧ i' = sn S c := ⟨(congrArg (·.1) hb2).symm, (congrArg (·.2.1) hb2).symm, (congrArg (·.2.2) hb2).symm⟩
      subst e
      refine ⟨Or.inl h3, Nat.lt_succ_self _, ?_, (by show zw_up _ _ _ _ ≠ _; rw [zw_up_same]; exact fun e => (by cases e)), fun _ => ⟨by rw [sn_w, if_pos rfl]; omega, by unfold ghw; rw [if_pos ⟨rfl, rfl⟩]⟩, fun e => by omega, fun e => by omega, by omega⟩
      show zw_up _ _ _ _ = _
      rw [zw_up_same, hx]
      unfold hcell
      simp only
      congr 1
      by_cases c20 : c' < 20
      · rw [if_pos c20, if_pos c20]
        unfold ocell
        congr 2
        refine List.ext_getElem? fun j => ?_
        rw [List.getElem?_map, List.getElem?_map, List.getElem?_zipIdx]
        cases hj : (bspec c')[j]? with
        | none => rfl
        | some kd =>
          simp only [Option.map_some, Nat.zero_add]
          rw [sT_w, if_pos ⟨rfl, rfl⟩, hj]
          congr 1
          refine (conv_ext hg ?_).symm
          show alv S kd (adef kd)
          unfold adef
          by_cases e : kd ≤ 1
          · rw [if_pos e]
            exact fun _ => ⟨fun e => by omega, fun n e => by omega⟩
          · rw [if_neg e]
            exact fun h0 => absurd h0 (by decide)
      · rw [if_neg c20, if_neg c20]
        by_cases c45 : c' < 45
        · rw [if_pos c45, if_pos c45, har0, sE_w, if_pos ⟨rfl, rfl⟩, hxs (by omega), sM_w, if_pos ⟨rfl, rfl⟩]
          rfl
        · rw [if_neg c45, if_neg c45, if_neg hc45]
          unfold rcell
          split
          · rfl
          · rfl
          · exact absurd rfl hx48
          · rfl
    · rw [ho1, if_neg e] at hb
      obtain ⟨p1, p2, p3, p4, p5, p6, p7, p8⟩ := h7 b t c' i' hb
      refine ⟨p1, Nat.lt_succ_of_lt p2, ?_, by show zw_up _ _ _ _ ≠ _; rw [zw_up_ne _ _ e]; exact p4, fun ht => ⟨Nat.lt_of_lt_of_le (p5 ht).1 sn_w_le, by rw [hg _ _ (p5 ht).1]; exact (p5 ht).2⟩, fun ht => ⟨Nat.lt_of_lt_of_le (p6 ht).1 sn_w_le, by rw [har _ _ (p6 ht).1]; exact (p6 ht).2.1, (p6 ht).2.2⟩, p7, p8⟩
      show zw_up _ _ _ _ = _
      rw [zw_up_ne _ _ e, p3]
      match t, p5, p6, p8 with
      | 0, p5, _, _ =>
        have hlt := (p5 rfl).1
        unfold hcell
        simp only
        rw [har _ _ hlt, hE _ _ hlt, hM _ _ hlt]
        congr 1
        by_cases c20 : c' < 20
        · rw [if_pos c20, if_pos c20]
          exact (ocell_ext hg (fun k kd hk => h5 c' i' k kd c20 hlt hk) (fun k => hT c' k i' hlt)).symm
        · rw [if_neg c20, if_neg c20]
          by_cases c46 : c' < 46
          · by_cases c45 : c' < 45
            · rw [if_pos c45, if_pos c45]
            · rw [if_neg c45, if_neg c45, if_pos (by omega), if_pos (by omega)]
          · rw [if_neg (by omega), if_neg (by omega), if_neg (by omega), if_neg (by omega)]
            exact (rcell_ext hg (fun x hx => h6 c' i' (by omega) hlt x hx) (hE c' i' hlt)).symm
      | 1, _, p6, _ =>
        have hlt := (p6 rfl).1
        unfold hcell
        simp only
        rw [har _ _ hlt, hfa _ _ hlt]
      | 2, _, _, _ => rfl
      | _ + 3, _, _, p8 => omega
  · intro c' i' hi'
    rcases hN c' i' hi' with hlt | ⟨rfl, rfl⟩
    · rw [hg _ _ hlt]
      have q := h8 c' i' hlt
      rw [hown _ (by rw [q]; exact fun e => by cases e), q]
    · unfold ghw
      rw [if_pos ⟨rfl, rfl⟩, ho1, if_pos rfl]
  · intro b e hb
    have q := h9 b e hb
    rw [hown _ (by rw [q]; exact fun e => by cases e), q]
  · intro c' i' hc1 hc2 hi'
    rcases hN c' i' hi' with hlt | ⟨rfl, rfl⟩
    · obtain ⟨r1, r2, r3, r4, r5⟩ := hA c' i' hc1 hc2 hlt
      rw [har _ _ hlt, hfa _ _ hlt, hE _ _ hlt]
      refine ⟨?_, r2, r3, fun h0 => ?_, r5⟩
      · rcases r1 with r1 | r1
        · exact Or.inl (by rw [hown _ (by rw [r1]; exact fun e => by cases e)]; exact r1)
        · exact Or.inr r1
      · have := r4 h0
        rw [hown _ (by rw [this]; exact fun e => by cases e)]
        exact this
    · rw [har0, hfa0, sE_w, if_pos ⟨rfl, rfl⟩, hxs hc2]
      exact ⟨Or.inr ⟨by omega, rfl, rfl⟩, Nat.le_refl _, Nat.zero_le _, fun e => absurd rfl e, fun _ => ⟨rfl, rfl⟩⟩
  · intro c' i' hc1 hc2 hi'
    rcases hN c' i' hi' with hlt | ⟨rfl, rfl⟩
    · obtain ⟨r1, r2⟩ := hB c' i' hc1 hc2 hlt
      rw [hfa _ _ hlt, hE _ _ hlt]
      exact ⟨fun j y hy => elrep_ext hg (h6 c' i' hc1 hlt y (List.mem_of_getElem? hy)) (r1 j y hy), r2⟩
    · rw [hfa0, sE_w, if_pos ⟨rfl, rfl⟩, hxs (by omega)]
      exact ⟨fun j y hy => (by cases hy), fun j _ => rfl⟩
  · intro i' hi'
    rcases hN 45 i' hi' with hlt | ⟨e, _⟩
    · obtain ⟨r1, r2, r3⟩ := hC i' hlt
      rw [har _ _ hlt, hfa _ _ hlt, hE _ _ hlt]
      have hlist : hqA (ghw gh S c σ.2.1) (snw S c xs) i' = hqA gh S i' := by
        unfold hqA
        rw [hE _ _ hlt]
        refine List.map_congr_left fun y hy => ?_
        exact hg 8 _ ((h6 45 i' (by omega) hlt y hy (r2 y hy)).2 8 rfl)
      refine ⟨r1, r2, ?_⟩
      rw [hlist]
      refine wPQ_congr (fun y hy => ?_) r3
      obtain ⟨z, hz, rfl⟩ := List.mem_map.mp hy
      have hz1 := (h6 45 i' (by omega) hlt z hz (r2 z hz)).2 8 rfl
      have q := h8 8 z.toNat hz1
      unfold qkey
      rw [hown _ (by rw [q]; exact fun e => by cases e), q]
      simp only
      rw [hT _ _ _ hz1, hT _ _ _ hz1]
    · exact absurd e.symm hc45
end ZUA
