/-! THE TWO SYSTEMS' OWN CONSTRUCTORS (methods 0 and 194) -/
set_option maxRecDepth 100000
section ZUS
variable {g : zG} {w0 : hG} {σ : zS} {gh gh' : Nat → Nat → Nat} {S S' : hS} {J : zw_W} {c i a k kd d pc idx k0 : Nat} {lv : zp_L} {st : List Value} {Q : Option Value ⊕ String → zS → Prop} {ty : FieldType} {fin dec : Bool} {v : Int} {xs : List Int}
theorem hRep.allocS (H : hRep g w0 σ gh S J) {x : va_E} {m : Nat} (hc45 : c ≠ 45) (hx : x = if c < 20 then .inr (c, (bspec c).map (fun kd => conv gh kd (adef kd))) else if c < 45 then .inr (16, [iv 0, .ref w0.2, iv 0]) else rcell gh (snw S c xs) c (sn S c)) (hxs : c < 46 → xs = []) (hx48 : c = 48 → ∀ y ∈ xs, y < 0) (hxv : ∀ y ∈ xs, alv S (elk c) y) :
    hRep g w0 (zw_up σ.1 σ.2.1 x, σ.2.1 + 1, m) (ghw gh S c σ.2.1) (snw S c xs) J := by
  obtain ⟨h1, h2, h3, h4, h5, h6, own, ar, fa, h7, h8, h9, hA, hB, hC⟩ := H
  have hg : ∀ c' i' : Nat, i' < sn S c' → ghw gh S c σ.2.1 c' i' = gh c' i' := by
    intro c' i' hi'
    unfold ghw
    rw [if_neg]
    rintro ⟨rfl, e⟩
    omega
  have hT : ∀ c' k' i' : Nat, i' < sn S c' → sT (snw S c xs) c' k' i' = sT S c' k' i' := by
    intro c' k' i' hi'
    rw [sT_w, if_neg]
    rintro ⟨rfl, e⟩
    omega
  have hE : ∀ c' i' : Nat, i' < sn S c' → sE (snw S c xs) c' i' = sE S c' i' := by
    intro c' i' hi'
    rw [sE_w, if_neg]
    rintro ⟨rfl, e⟩
    omega
  have hM : ∀ c' i' : Nat, i' < sn S c' → sM (snw S c xs) c' i' = sM S c' i' := by
    intro c' i' hi'
    rw [sM_w, if_neg]
    rintro ⟨rfl, e⟩
    omega
  have hN : ∀ c' i' : Nat, i' < sn (snw S c xs) c' → i' < sn S c' ∨ (c' = c ∧ i' = sn S c) := by
    intro c' i' hi'
    rw [sn_w] at hi'
    by_cases e : c' = c
    · rw [if_pos e] at hi'
      by_cases e2 : i' = sn S c
      · exact Or.inr ⟨e, e2⟩
      · exact Or.inl (by rw [e]; omega)
    · rw [if_neg e] at hi'
      exact Or.inl hi'
  have hno : own σ.2.1 = none := by
    cases ho : own σ.2.1 with
    | none => rfl
    | some l =>
      obtain ⟨t, c', i'⟩ := l
      have := (h7 _ _ _ _ ho).2.1
      omega
  obtain ⟨own', ho1⟩ : ∃ own' : Nat → Option (Nat × Nat × Nat), ∀ b : Nat, own' b = if b = σ.2.1 then some (0, c, sn S c) else own b := ⟨_, fun _ => rfl⟩
  obtain ⟨ar', ha1⟩ : ∃ ar' : Nat → Nat → Nat × Nat, ∀ c' i' : Nat, ar' c' i' = if c' = c ∧ i' = sn S c then (w0.2, 0) else ar c' i' := ⟨_, fun _ _ => rfl⟩
  obtain ⟨fa', hf1⟩ : ∃ fa' : Nat → Nat → Nat → Option Nat, ∀ c' i' : Nat, fa' c' i' = if c' = c ∧ i' = sn S c then (fun _ => none) else fa c' i' := ⟨_, fun _ _ => rfl⟩
  have hown : ∀ b : Nat, own b ≠ none → own' b = own b := by
    intro b hb
    rw [ho1, if_neg]
    rintro rfl
    exact hb hno
  have har : ∀ c' i' : Nat, i' < sn S c' → ar' c' i' = ar c' i' := by
    intro c' i' hi'
    rw [ha1, if_neg]
    rintro ⟨rfl, e⟩
    omega
  have har0 : ar' c (sn S c) = (w0.2, 0) := by rw [ha1, if_pos ⟨rfl, rfl⟩]
  have hfa : ∀ c' i' : Nat, i' < sn S c' → fa' c' i' = fa c' i' := by
    intro c' i' hi'
    rw [hf1, if_neg]
    rintro ⟨rfl, e⟩
    omega
  have hfa0 : fa' c (sn S c) = fun _ => none := by rw [hf1, if_pos ⟨rfl, rfl⟩]
  refine ⟨h1, fun q hq => ?_, Nat.le_succ_of_le h3, fun q hq => (zw_up_ne _ _ (by omega)).trans (h4 q hq), ?_, ?_, own', ar', fa', ?_, ?_, ?_, ?_, ?_, ?_⟩
  · have hq2 : σ.2.1 + 1 ≤ q := hq
    exact (zw_up_ne _ _ (by omega)).trans (h2 q (by omega))
  · intro c' i' k' kd' hc' hi' hk'
    rcases hN c' i' hi' with hlt | ⟨rfl, rfl⟩
    · rw [hT _ _ _ hlt]
      exact alv_w (h5 c' i' k' kd' hc' hlt hk')
    · rw [sT_w, if_pos ⟨rfl, rfl⟩, hk']
      show alv _ kd' (adef kd')
      unfold adef
      by_cases e : kd' ≤ 1
      · rw [if_pos e]
        exact fun _ => ⟨fun e => by omega, fun n e => by omega⟩
      · rw [if_neg e]
        exact fun h0 => absurd h0 (by decide)
  · intro c' i' hc' hi' y hy
    rcases hN c' i' hi' with hlt | ⟨rfl, rfl⟩
    · rw [hE _ _ hlt] at hy
      exact alv_w (h6 c' i' hc' hlt y hy)
    · rw [sE_w, if_pos ⟨rfl, rfl⟩] at hy
      exact alv_w (hxv y hy)
  · intro b t c' i' hb
    by_cases e : b = σ.2.1
    · rw [ho1, if_pos e] at hb
      have hb2 := Option.some.inj hb
      obtain ⟨rfl, rfl, rfl⟩ : t = 0 ∧ c' = c ∧ i' = sn S c := ⟨(congrArg (·.1) hb2).symm, (congrArg (·.2.1) hb2).symm, (congrArg (·.2.2) hb2).symm⟩
      subst e
      refine ⟨Or.inl h3, Nat.lt_succ_self _, ?_, (by show zw_up _ _ _ _ ≠ _; rw [zw_up_same]; exact fun e => (by cases e)), fun _ => ⟨by rw [sn_w, if_pos rfl]; omega, by unfold ghw; rw [if_pos ⟨rfl, rfl⟩]⟩, fun e => by omega, fun e => by omega, by omega⟩
      show zw_up _ _ _ _ = _
      rw [zw_up_same, hx]
      unfold hcell
      simp only
      congr 1
      by_cases c20 : c' < 20
      · rw [if_pos c20, if_pos c20]
        unfold ocell
        congr 2
        refine List.ext_getElem? fun j => ?_
        rw [List.getElem?_map, List.getElem?_map, List.getElem?_zipIdx]
        cases hj : (bspec c')[j]? with
        | none => rfl
        | some kd =>
          simp only [Option.map_some, Nat.zero_add]
          rw [sT_w, if_pos ⟨rfl, rfl⟩, hj]
          congr 1
          refine (conv_ext hg ?_).symm
          show alv S kd (adef kd)
          unfold adef
          by_cases e : kd ≤ 1
          · rw [if_pos e]
            exact fun _ => ⟨fun e => by omega, fun n e => by omega⟩
          · rw [if_neg e]
            exact fun h0 => absurd h0 (by decide)
      · rw [if_neg c20, if_neg c20]
        by_cases c45 : c' < 45
        · rw [if_pos c45, if_pos c45, har0, sE_w, if_pos ⟨rfl, rfl⟩, hxs (by omega), sM_w, if_pos ⟨rfl, rfl⟩]
          rfl
        · rw [if_neg c45, if_neg c45, if_neg hc45]
          unfold rcell
          split
          · rfl
          · rfl
          · have eE : sE (snw S 48 xs) 48 (sn S 48) = xs := by rw [sE_w, if_pos ⟨rfl, rfl⟩]
            rw [eE]
            congr 6
          · rfl
    · rw [ho1, if_neg e] at hb
      obtain ⟨p1, p2, p3, p4, p5, p6, p7, p8⟩ := h7 b t c' i' hb
      refine ⟨p1, Nat.lt_succ_of_lt p2, ?_, by show zw_up _ _ _ _ ≠ _; rw [zw_up_ne _ _ e]; exact p4, fun ht => ⟨Nat.lt_of_lt_of_le (p5 ht).1 sn_w_le, by rw [hg _ _ (p5 ht).1]; exact (p5 ht).2⟩, fun ht => ⟨Nat.lt_of_lt_of_le (p6 ht).1 sn_w_le, by rw [har _ _ (p6 ht).1]; exact (p6 ht).2.1, (p6 ht).2.2⟩, p7, p8⟩
      show zw_up _ _ _ _ = _
      rw [zw_up_ne _ _ e, p3]
      match t, p5, p6, p8 with
      | 0, p5, _, _ =>
        have hlt := (p5 rfl).1
        unfold hcell
        simp only
        rw [har _ _ hlt, hE _ _ hlt, hM _ _ hlt]
        congr 1
        by_cases c20 : c' < 20
        · rw [if_pos c20, if_pos c20]
          exact (ocell_ext hg (fun k kd hk => h5 c' i' k kd c20 hlt hk) (fun k => hT c' k i' hlt)).symm
        · rw [if_neg c20, if_neg c20]
          by_cases c46 : c' < 46
          · by_cases c45 : c' < 45
            · rw [if_pos c45, if_pos c45]
            · rw [if_neg c45, if_neg c45, if_pos (by omega), if_pos (by omega)]
          · rw [if_neg (by omega), if_neg (by omega), if_neg (by omega), if_neg (by omega)]
            exact (rcell_ext hg (fun x hx => h6 c' i' (by omega) hlt x hx) (hE c' i' hlt)).symm
      | 1, _, p6, _ =>
        have hlt := (p6 rfl).1
        unfold hcell
        simp only
        rw [har _ _ hlt, hfa _ _ hlt]
      | 2, _, _, _ => rfl
      | _ + 3, _, _, p8 => omega
  · intro c' i' hi'
    rcases hN c' i' hi' with hlt | ⟨rfl, rfl⟩
    · rw [hg _ _ hlt]
      have q := h8 c' i' hlt
      rw [hown _ (by rw [q]; exact fun e => by cases e), q]
    · unfold ghw
      rw [if_pos ⟨rfl, rfl⟩, ho1, if_pos rfl]
  · intro b e hb
    have q := h9 b e hb
    rw [hown _ (by rw [q]; exact fun e => by cases e), q]
  · intro c' i' hc1 hc2 hi'
    rcases hN c' i' hi' with hlt | ⟨rfl, rfl⟩
    · obtain ⟨r1, r2, r3, r4, r5⟩ := hA c' i' hc1 hc2 hlt
      rw [har _ _ hlt, hfa _ _ hlt, hE _ _ hlt]
      refine ⟨?_, r2, r3, fun h0 => ?_, r5⟩
      · rcases r1 with r1 | r1
        · exact Or.inl (by rw [hown _ (by rw [r1]; exact fun e => by cases e)]; exact r1)
        · exact Or.inr r1
      · have := r4 h0
        rw [hown _ (by rw [this]; exact fun e => by cases e)]
        exact this
    · rw [har0, hfa0, sE_w, if_pos ⟨rfl, rfl⟩, hxs hc2]
      exact ⟨Or.inr ⟨by omega, rfl, rfl⟩, Nat.le_refl _, Nat.zero_le _, fun e => absurd rfl e, fun _ => ⟨rfl, rfl⟩⟩
  · intro c' i' hc1 hc2 hi'
    rcases hN c' i' hi' with hlt | ⟨rfl, rfl⟩
    · obtain ⟨r1, r2⟩ := hB c' i' hc1 hc2 hlt
      rw [hfa _ _ hlt, hE _ _ hlt]
      exact ⟨fun j y hy => elrep_ext hg (h6 c' i' hc1 hlt y (List.mem_of_getElem? hy)) (r1 j y hy), r2⟩
    · rw [hfa0, sE_w, if_pos ⟨rfl, rfl⟩, hxs (by omega)]
      exact ⟨fun j y hy => (by cases hy), fun j _ => rfl⟩
  · intro i' hi'
    rcases hN 45 i' hi' with hlt | ⟨e, _⟩
    · obtain ⟨r1, r2, r3⟩ := hC i' hlt
      rw [har _ _ hlt, hfa _ _ hlt, hE _ _ hlt]
      have hlist : hqA (ghw gh S c σ.2.1) (snw S c xs) i' = hqA gh S i' := by
        unfold hqA
        rw [hE _ _ hlt]
        refine List.map_congr_left fun y hy => ?_
        exact hg 8 _ ((h6 45 i' (by omega) hlt y hy (r2 y hy)).2 8 rfl)
      refine ⟨r1, r2, ?_⟩
      rw [hlist]
      refine wPQ_congr (fun y hy => ?_) r3
      obtain ⟨z, hz, rfl⟩ := List.mem_map.mp hy
      have hz1 := (h6 45 i' (by omega) hlt z hz (r2 z hz)).2 8 rfl
      have q := h8 8 z.toNat hz1
      unfold qkey
      rw [hown _ (by rw [q]; exact fun e => by cases e), q]
      simp only
      rw [hT _ _ _ hz1, hT _ _ _ hz1]
    · exact absurd e.symm hc45
/-- a new list put into a field -/
def kL (S : hS) (c k m r : Nat) : hS := sset (snw S r []) c k m ((sn S r : Nat) : Int)
theorem sn_kL {c k m r c' : Nat} : sn S c' ≤ sn (kL S c k m r) c' := sn_w_le (xs := [])
theorem hW_newPut {idx2 idx3 : Nat} (r : Nat) (H : hRep g w0 σ gh S J) (ha : hat gh S c i a) (hx : r_i k pc = some (.new idx, 3)) (hx1 : r_i k (pc + 3) = some (.dup, 1)) (hx2 : r_i k (pc + 3 + 1) = some (.invokespecial idx2, 3)) (ht : zthrow (r_c k) (r_o k) pc idx = none) (hl : zl_at (r_o k) idx = some "java/util/ArrayList")
    (hno : zxs_at (r_o k) idx2 = none) (hI : zcI_at (r_o k) idx2 = some (1, 0)) (hc1 : Nat.ble 20 r = true) (hc2 : Nat.blt r 45 = true) (h6 : ∀ b : Nat, zc6 (.ref b :: .ref a :: st) = true) (hd : 2 < d)
    (hx3 : r_i k (pc + 3 + 1 + 3) = some (.putfield idx3, 3)) (hc : Nat.blt c 19 = true) (hf : zf_at (r_o k) idx3 c = some (k0, ty, fin, dec)) (hk : (bspec c)[k0]? = some (r + 40)) (hfin : fin = false ∨ (dec = true ∧ ((r_m k).1.name == "<init>") = true)) (hn : ∀ b : Nat, narrow ty (.ref b) = .ref b) (hfit : ∀ b : Nat, fits ty (.ref b) = true) (h8 : c ≠ 8)
    (hr : ∀ (σ' : zS) (ghx : Nat → Nat → Nat), gext S gh ghx → hRep g w0 σ' ghx (kL S c k0 i r) J → hat ghx (kL S c k0 i r) c i a → kc σ σ' 1 3 → zW g d k (pc + 3 + 1 + 3 + 3) lv st σ' Q) : zW g d k pc lv (.ref a :: st) σ Q := by
  refine hW_newL r H hx hx1 hx2 ht hl hno hI hc1 hc2 h6 hd (fun σ2 b2 H2 hb2 k2 => ?_)
  have ha2 : hat (ghw gh S r b2) (snw S r []) c i a := hat.old (xs := []) ha
  refine hW_put H2 hx3 ha2 hc hf hk hfin (hn b2) (hfit b2) (convR hb2) (alvR hb2.1) (fun e => absurd e h8) (fun σ3 H3 e3 => ?_)
  exact hr σ3 _ (gext_w gext_rfl (fun _ => Nat.le_refl _)) H3 (hat.set ha2) ((k2.trans (kc.of e3)).mono (by omega) (by omega))
/-- a new Supplier[] -/
theorem hW_newS {n : Nat} (H : hRep g w0 σ gh S J) (hx : r_i k pc = some (.anewarray idx, 3)) (hn : n ≤ 1000000) (hl : zl_at (r_o k) idx = some "Foundrymark$Supplier")
    (hr : ∀ (σ' : zS) (b : Nat), hRep g w0 σ' (ghw gh S 48 b) (snw S 48 (List.replicate n (-1))) J → hat (ghw gh S 48 b) (snw S 48 (List.replicate n (-1))) 48 (sn S 48) b → kc σ σ' 1 n → zW g d k (pc + 3) lv (.ref b :: st) σ' Q) : zW g d k pc lv (iv n :: st) σ Q := by
  refine wW_anewa (kd := 6) hx ⟨by rw [I_lt0 ⟨by omega, by omega⟩]; omega, by rw [I_cl (by omega)]; exact hn⟩ hl rfl ?_
  rw [I_cl (by omega)]
  refine hr _ _ (H.allocS (by omega) ?_ (fun e => by omega) (fun _ y hy => by rw [List.eq_of_mem_replicate hy]; decide) (fun y hy => ?_)) hat.new ⟨Nat.le_succ _, Nat.le_refl _, Nat.le_add_right _ _, Nat.le_refl _⟩
  · rw [if_neg (by omega), if_neg (by omega)]
    unfold rcell
    simp only
    have eE : sE (snw S 48 (List.replicate n (-1))) 48 (sn S 48) = List.replicate n (-1) := by rw [sE_w, if_pos ⟨rfl, rfl⟩]
    rw [eE, List.length_replicate]
    congr 6
    refine congrArg Sum.inr (funext fun q => ?_)
    rw [List.getD_eq_getElem?_getD, List.getElem?_replicate]
    split <;> rfl
  · rw [List.eq_of_mem_replicate hy]
    exact fun e => absurd e (by decide)
/-- a Supplier stored -/
theorem hW_aastS {j b m2 : Nat} (H : hRep g w0 σ gh S J) (hx : r_i k pc = some (.aastore, 1)) (ha : hat gh S 48 i a) (hb : hat gh S 9 m2 b) (hj : j < (sE S 48 i).length) (hj2 : (sE S 48 i).length < 1000000)
    (hr : ∀ σ' : zS, hRep g w0 σ' gh (ssA S 48 i ((sE S 48 i).set j ((m2 : Nat) : Int))) J → σ'.2 = σ.2 → zW g d k (pc + 1) lv st σ' Q) : zW g d k pc lv (.ref b :: iv j :: .ref a :: st) σ Q := by
  obtain ⟨h1, h2⟩ := H.arr ha (by omega)
  obtain ⟨o1, o2, o3⟩ := H.obj hb (by omega)
  have hel : za_el (zg_k g) "Foundrymark$Supplier" (.ref b) σ = some (some b) := by
    unfold za_el
    simp only
    rw [o1]
    unfold ocell
    simp only
    rw [if_pos (by decide +kernel)]
  refine wW_aast (E := "Foundrymark$Supplier") hx h1 rfl hel (I_in hj (by omega)) h2 ?_
  rw [I_cl (by omega)]
  have H2 := H.setA (xs := (sE S 48 i).set j ((m2 : Nat) : Int)) ha (by omega) (fun y hy => ?_)
  · refine hr _ ?_ rfl
    have e : rcell gh (ssA S 48 i ((sE S 48 i).set j ((m2 : Nat) : Int))) 48 i = .inl (6, (sE S 48 i).length, .inr (.inr (.inr (.inr (va_up (fun j => if (sE S 48 i).getD j (-1) < 0 then none else some (gh 9 ((sE S 48 i).getD j (-1)).toNat)) j (some b)))))) := by
      unfold rcell
      simp only
      have eE : sE (ssA S 48 i ((sE S 48 i).set j ((m2 : Nat) : Int))) 48 i = (sE S 48 i).set j ((m2 : Nat) : Int) := by rw [sE_ssA, if_pos ⟨rfl, rfl⟩]
      rw [eE, List.length_set]
      congr 6
      refine congrArg Sum.inr (funext fun q => ?_)
      unfold va_up
      by_cases e : q = j
      · subst e
        rw [List.getD_eq_getElem?_getD, List.getElem?_set_self hj]
        simp only [Option.getD_some, if_true]
        rw [if_neg (by omega)]
        exact congrArg some hb.2
      · rw [if_neg e, List.getD_eq_getElem?_getD, List.getElem?_set_ne (fun h => e h.symm)]
        simp only [List.getD_eq_getElem?_getD]
    rw [e] at H2
    exact H2
  · rcases List.mem_or_eq_of_mem_set hy with h | h
    · exact H.2.2.2.2.2.1 48 i (by omega) ha.1 y h
    · rw [h]
      exact alvR hb.1
end ZUS
