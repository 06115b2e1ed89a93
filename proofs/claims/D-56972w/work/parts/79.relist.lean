/-! THE USER'S HEAP: kept cells; lists and queues read and changed -/
set_option maxRecDepth 100000
section ZUL
variable {g : zG} {w0 : hG} {σ : zS} {gh gh' : Nat → Nat → Nat} {S S' : hS} {J J' : zw_W} {c i a k kd d pc idx k0 : Nat} {v : Int} {xs : List Int}
/-- a new cell that is only kept -/
theorem hRep.keep (H : hRep g w0 σ gh S J) {e : va_E} {m : Nat} : hRep g w0 (zw_up σ.1 σ.2.1 e, σ.2.1 + 1, m) gh S (zw_up J σ.2.1 e) := by
  obtain ⟨h1, h2, h3, h4, h5, h6, own, ar, fa, h7, h8, h9, hA, hB, hC⟩ := H
  have hno : own σ.2.1 = none := by
    cases ho : own σ.2.1 with
    | none => rfl
    | some l =>
      obtain ⟨t, c', i'⟩ := l
      have := (h7 _ _ _ _ ho).2.1
      omega
  obtain ⟨own', ho1⟩ : ∃ own' : Nat → Option (Nat × Nat × Nat), ∀ b : Nat, own' b = if b = σ.2.1 then some (2, σ.2.1, 0) else own b := ⟨_, fun _ => rfl⟩
  have hown : ∀ b : Nat, own b ≠ none → own' b = own b := by
    intro b hb
    rw [ho1, if_neg]
    rintro rfl
    exact hb hno
  have hw : ∀ (b : Nat) (l : Nat × Nat × Nat), own b = some l → own' b = some l := fun b l hb => (hown b (by rw [hb]; exact fun e => by cases e)).trans hb
  refine ⟨h1, fun q hq => ?_, Nat.le_succ_of_le h3, fun q hq => (zw_up_ne _ _ (by omega)).trans (h4 q hq), h5, h6, own', ar, fa, ?_, fun c' i' hi' => hw _ _ (h8 c' i' hi'), ?_, ?_, hB, ?_⟩
  · have hq2 : σ.2.1 + 1 ≤ q := hq
    exact (zw_up_ne _ _ (by omega)).trans (h2 q (by omega))
  · intro b t c' i' hb
    by_cases e1 : b = σ.2.1
    · rw [ho1, if_pos e1] at hb
      have hb2 := Option.some.inj hb
      obtain ⟨rfl, rfl, rfl⟩ : t = 2 ∧ c' = σ.2.1 ∧ i' = 0 := ⟨(congrArg (·.1) hb2).symm, (congrArg (·.2.1) hb2).symm, (congrArg (·.2.2) hb2).symm⟩
      subst e1
      refine ⟨Or.inl h3, Nat.lt_succ_self _, ?_, ?_, fun h => by omega, fun h => by omega, fun _ => ⟨rfl, rfl⟩, Nat.le_refl _⟩
      · show zw_up _ _ _ _ = zw_up _ _ _ _
        rw [zw_up_same, zw_up_same]
      · show zw_up _ _ _ _ ≠ _
        rw [zw_up_same]
        exact fun e => by cases e
    · rw [ho1, if_neg e1] at hb
      obtain ⟨p1, p2, p3, p4, p5, p6, p7, p8⟩ := h7 b t c' i' hb
      refine ⟨p1, Nat.lt_succ_of_lt p2, ?_, ?_, p5, p6, p7, p8⟩
      · show zw_up _ _ _ _ = _
        rw [zw_up_ne _ _ e1, p3]
        match t, p7, p8 with
        | 0, _, _ => rfl
        | 1, _, _ => rfl
        | 2, p7, _ =>
          show J c' = zw_up _ _ _ _
          rw [zw_up_ne _ _ (by rw [(p7 rfl).1]; exact e1)]
        | _ + 3, _, p8 => omega
      · show zw_up _ _ _ _ ≠ _
        rw [zw_up_ne _ _ e1]
        exact p4
  · intro b x hb
    by_cases e1 : b = σ.2.1
    · rw [ho1, if_pos e1, e1]
    · rw [zw_up_ne _ _ e1] at hb
      exact hw _ _ (h9 b x hb)
  · intro c' i' hc1 hc2 hi'
    obtain ⟨r1, r2, r3, r4, r5⟩ := hA c' i' hc1 hc2 hi'
    exact ⟨r1.imp_left (hw _ _), r2, r3, fun h0 => hw _ _ (r4 h0), r5⟩
  · intro i' hi'
    obtain ⟨r1, r2, r3⟩ := hC i' hi'
    refine ⟨r1, r2, wPQ_congr (fun y hy => ?_) r3⟩
    obtain ⟨z, hz, rfl⟩ := List.mem_map.mp hy
    have q := h8 8 z.toNat ((h6 45 i' (by omega) hi' z hz (r2 z hz)).2 8 rfl)
    unfold qkey
    rw [hw _ _ q, q]
theorem hRep.jat (H : hRep g w0 σ gh S J) {e : va_E} (hj : J a = some e) : σ.1 a = some e ∧ zg_n g ≤ a ∧ a < σ.2.1 ∧ ∀ c i : Nat, i < sn S c → gh c i ≠ a := by
  obtain ⟨h1, h2, h3, h4, h5, h6, own, ar, fa, h7, h8, h9, hA, hB, hC⟩ := H
  have ho := h9 a e hj
  obtain ⟨q1, q2, q3, _⟩ := h7 _ _ _ _ ho
  refine ⟨q3.trans hj, ?_, q2, fun c i hi he => ?_⟩
  · rcases q1 with q | ⟨q, _⟩
    · exact q
    · cases q
  · have := h8 c i hi
    rw [he, ho] at this
    cases this
/-- a kept cell is written -/
theorem hRep.keepUp (H : hRep g w0 σ gh S J) {e e' : va_E} (hj : J a = some e) : hRep g w0 (zw_up σ.1 a e', σ.2) gh S (zw_up J a e') := by
  have hlt := (H.jat hj).2.1
  have hlt2 := (H.jat hj).2.2.1
  obtain ⟨h1, h2, h3, h4, h5, h6, own, ar, fa, h7, h8, h9, hA, hB, hC⟩ := H
  have ho := h9 a e hj
  refine ⟨h1, fun q hq => ?_, h3, fun q hq => (zw_up_ne _ _ (by omega)).trans (h4 q hq), h5, h6, own, ar, fa, ?_, h8, ?_, hA, hB, hC⟩
  · have hq2 : σ.2.1 ≤ q := hq
    exact (zw_up_ne _ _ (by omega)).trans (h2 q hq)
  · intro b t c' i' hb
    obtain ⟨p1, p2, p3, p4, p5, p6, p7, p8⟩ := h7 b t c' i' hb
    by_cases e1 : b = a
    · subst e1
      have hb2 := Option.some.inj (hb.symm.trans ho)
      obtain ⟨rfl, rfl, rfl⟩ : t = 2 ∧ c' = b ∧ i' = 0 := ⟨(congrArg (·.1) hb2), (congrArg (·.2.1) hb2), (congrArg (·.2.2) hb2)⟩
      refine ⟨p1, p2, ?_, ?_, p5, p6, p7, p8⟩
      · show zw_up _ _ _ _ = zw_up _ _ _ _
        rw [zw_up_same, zw_up_same]
      · show zw_up _ _ _ _ ≠ _
        rw [zw_up_same]
        exact fun e => by cases e
    · refine ⟨p1, p2, ?_, ?_, p5, p6, p7, p8⟩
      · show zw_up _ _ _ _ = _
        rw [zw_up_ne _ _ e1, p3]
        match t, p7, p8 with
        | 0, _, _ => rfl
        | 1, _, _ => rfl
        | 2, p7, _ =>
          show J c' = zw_up _ _ _ _
          rw [zw_up_ne _ _ (by rw [(p7 rfl).1]; exact e1)]
        | _ + 3, _, p8 => omega
      · show zw_up _ _ _ _ ≠ _
        rw [zw_up_ne _ _ e1]
        exact p4
  · intro b x hb
    by_cases e1 : b = a
    · rw [e1]; exact ho
    · rw [zw_up_ne _ _ e1] at hb
      exact h9 b x hb
/-- cells that are kept no more -/
theorem hRep.drop (H : hRep g w0 σ gh S J) (hJ : ∀ (b : Nat) (e : va_E), J' b = some e → J b = some e) : hRep g w0 σ gh S J' := by
  obtain ⟨h1, h2, h3, h4, h5, h6, own, ar, fa, h7, h8, h9, hA, hB, hC⟩ := H
  obtain ⟨own', ho1⟩ : ∃ own' : Nat → Option (Nat × Nat × Nat), ∀ b : Nat, own' b = if own b = some (2, b, 0) ∧ J' b = none then none else own b := ⟨_, fun _ => rfl⟩
  have hw : ∀ (b t c i : Nat), own b = some (t, c, i) → t ≠ 2 → own' b = some (t, c, i) := by
    intro b t c i hb ht
    rw [ho1, if_neg, hb]
    rintro ⟨e, _⟩
    rw [hb] at e
    exact ht (congrArg (·.1) (Option.some.inj e))
  refine ⟨h1, h2, h3, h4, h5, h6, own', ar, fa, ?_, fun c' i' hi' => hw _ _ _ _ (h8 c' i' hi') (by decide), ?_, ?_, hB, ?_⟩
  · intro b t c' i' hb
    rw [ho1] at hb
    split at hb
    · cases hb
    · rename_i hn
      obtain ⟨p1, p2, p3, p4, p5, p6, p7, p8⟩ := h7 b t c' i' hb
      refine ⟨p1, p2, ?_, p4, p5, p6, p7, p8⟩
      match t, p3, p7, p8, hb, p4 with
      | 0, p3, _, _, _, _ => exact p3
      | 1, p3, _, _, _, _ => exact p3
      | 2, p3, p7, _, hb, p4 =>
        obtain ⟨rfl, rfl⟩ := p7 rfl
        have h0 : J' c' ≠ none := fun e => hn ⟨hb, e⟩
        cases hq : J' c' with
        | none => exact absurd hq h0
        | some e =>
          have := hJ _ _ hq
          show σ.1 c' = J' c'
          rw [hq, ← this]
          exact p3
      | _ + 3, _, _, p8, _, _ => omega
  · intro b x hb
    rw [ho1, if_neg]
    · exact h9 b x (hJ b x hb)
    · rintro ⟨_, e⟩
      rw [hb] at e
      cases e
  · intro c' i' hc1 hc2 hi'
    obtain ⟨r1, r2, r3, r4, r5⟩ := hA c' i' hc1 hc2 hi'
    exact ⟨r1.imp_left (fun h => hw _ _ _ _ h (by decide)), r2, r3, fun h0 => hw _ _ _ _ (r4 h0) (by decide), r5⟩
  · intro i' hi'
    obtain ⟨r1, r2, r3⟩ := hC i' hi'
    refine ⟨r1, r2, wPQ_congr (fun y hy => ?_) r3⟩
    obtain ⟨z, hz, rfl⟩ := List.mem_map.mp hy
    have q := h8 8 z.toNat ((h6 45 i' (by omega) hi' z hz (r2 z hz)).2 8 rfl)
    unfold qkey
    rw [hw _ _ _ _ q (by decide), q]
/-- a list's or queue's header -/
def hhead (c : Nat) (mc : Int32) (r n : Nat) : va_E := if c < 45 then .inr (16, [.int mc, .ref r, iv n]) else .inr (18, [.ref r, iv n, .null, .int mc])
/-- a list or queue is changed: its object, its array (the old one, or a new one at the heap's end) -/
theorem hRep.relist (H : hRep g w0 σ gh S J) (ha : hat gh S c i a) (hc1 : 20 ≤ c) (hc2 : c < 46) {mc : Int32} {r r' cap cap' n m1 m2 : Nat} {f f' : Nat → Option Nat} (hh : σ.1 a = some (hhead c mc r n)) (hr : σ.1 r = some (wArr cap f))
    (hnew : (r' = r ∧ cap ≠ 0 ∧ cap' = cap ∧ σ.2.1 ≤ m1) ∨ (r' = σ.2.1 ∧ σ.2.1 < m1)) (hlen : xs.length ≤ cap') (hcap : cap' ≤ 600000) (hcap0 : 0 < cap')
    (hel : c < 45 → (∀ (j : Nat) (x : Int), xs[j]? = some x → elrep g w0 gh (elk c) x (f' j)) ∧ ∀ j : Nat, xs.length ≤ j → f' j = none) (hal : ∀ x ∈ xs, alv S (elk c) x)
    (hpq : c = 45 → (∀ x ∈ xs, 0 ≤ x) ∧ ∃ key : Nat → Int, (∀ j : Nat, j < sn S 8 → key (gh 8 j) = sT S 8 4 j * 1000 + sT S 8 0 j) ∧ wPQ key xs.length f' (xs.map (fun x => gh 8 x.toNat))) :
    hRep g w0 (zw_up (zw_up σ.1 r' (wArr cap' f')) a (hhead c (Int32.ofInt (sM S c i + 1)) r' xs.length), m1, m2) gh (ssE S c i xs) J := by
  obtain ⟨h1, h2, h3, h4, h5, h6, own, ar, fa, h7, h8, h9, hA, hB, hC⟩ := H
  obtain ⟨hi, rfl⟩ := ha
  have ho := h8 c i hi
  obtain ⟨q1', q2, q3, _⟩ := h7 _ _ _ _ ho
  have q1 : zg_n g ≤ gh c i := by
    rcases q1' with q | ⟨_, e⟩
    · exact q
    · omega
  have hce : hcell gh S ar fa J 0 c i = some (hhead c (Int32.ofInt (sM S c i)) (ar c i).1 (sE S c i).length) := by
    unfold hcell hhead
    simp only
    rw [if_neg (by omega)]
    by_cases e : c < 45
    · rw [if_pos e, if_pos e]
    · rw [if_neg e, if_neg e, if_pos (by omega)]
  have hrr : r = (ar c i).1 := by
    rw [q3, hce] at hh
    have := Option.some.inj hh
    unfold hhead at this
    by_cases e : c < 45
    · rw [if_pos e, if_pos e] at this
      injection this with t1
      injection t1 with t1 t2
      injection t2 with t3 t4
      injection t4 with t5 t6
      injection t5 with t7
      exact t7.symm
    · rw [if_neg e, if_neg e] at this
      injection this with t1
      injection t1 with t1 t2
      injection t2 with t3 t4
      injection t3 with t7
      exact t7.symm
  have hown1 : r' = r → own r = some (1, c, i) := by
    intro hrr'
    obtain ⟨r1, r2, r3, r4, r5⟩ := hA c i hc1 hc2 hi
    rcases hnew with ⟨_, c0, _⟩ | ⟨e, _⟩
    · rw [hrr]
      refine r4 (fun e => c0 ?_)
      have e1 := (r5 e).1
      rw [← hrr] at e1
      have e2 := h4 w0.2 h1.2.1
      rw [e1, e2, h1.2.2.1] at hr
      have := congrArg (fun o : Option va_E => match o with
        | some (.inl x) => x.2.1
        | _ => 0) hr
      exact this.symm
    · exfalso
      have := h2 r (by omega)
      rw [hr] at this
      cases this
  have hr'a : gh c i ≠ r' := by
    intro e
    rcases hnew with ⟨e1, _⟩ | ⟨e1, _⟩
    · have := hown1 e1
      rw [← e1, ← e, ho] at this
      cases this
    · omega
  have hr'z : zg_n g ≤ r' := by
    rcases hnew with ⟨e1, _⟩ | ⟨e1, _⟩
    · have := (h7 _ _ _ _ (hown1 e1)).1
      rcases this with q | ⟨q, _⟩
      · omega
      · cases q
    · omega
  have hm1 : σ.2.1 ≤ m1 := by
    rcases hnew with ⟨_, _, _, e⟩ | ⟨_, e⟩
    · exact e
    · omega
  have hr'm : r' < m1 := by
    rcases hnew with ⟨e1, _, _, e⟩ | ⟨e1, e⟩
    · have := (h7 _ _ _ _ (hown1 e1)).2.1
      omega
    · omega
  have hr'o : ∀ (b : Nat) (l : Nat × Nat × Nat), own b = some l → l ≠ (1, c, i) → b ≠ r' := by
    intro b l hb hl e
    rcases hnew with ⟨e1, _⟩ | ⟨e1, _⟩
    · have := hown1 e1
      rw [e, e1, this] at hb
      exact hl (Option.some.inj hb).symm
    · obtain ⟨t, c', i'⟩ := l
      have := (h7 _ _ _ _ hb).2.1
      omega
  obtain ⟨own', ho1⟩ : ∃ own' : Nat → Option (Nat × Nat × Nat), ∀ b : Nat, own' b = if b = r' then some (1, c, i) else if own b = some (1, c, i) then none else own b := ⟨_, fun _ => rfl⟩
  obtain ⟨ar', ha1⟩ : ∃ ar' : Nat → Nat → Nat × Nat, ∀ c' i' : Nat, ar' c' i' = if c' = c ∧ i' = i then (r', cap') else ar c' i' := ⟨_, fun _ _ => rfl⟩
  obtain ⟨fa', hf1⟩ : ∃ fa' : Nat → Nat → Nat → Option Nat, ∀ c' i' : Nat, fa' c' i' = if c' = c ∧ i' = i then f' else fa c' i' := ⟨_, fun _ _ => rfl⟩
  have hw : ∀ (b : Nat) (l : Nat × Nat × Nat), own b = some l → l ≠ (1, c, i) → own' b = some l := by
    intro b l hb hl
    rw [ho1, if_neg (hr'o b l hb hl), if_neg, hb]
    rw [hb]
    exact fun e => hl (Option.some.inj e)
  refine ⟨h1, fun q hq => ?_, by show zg_n g ≤ m1; omega, fun q hq => (zw_up_ne _ _ (by omega)).trans ((zw_up_ne _ _ (by omega)).trans (h4 q hq)), h5, ?_, own', ar', fa', ?_, fun c' i' hi' => hw _ _ (h8 c' i' hi') (fun e => by cases e), fun b x hb => hw _ _ (h9 b x hb) (fun e => by cases e), ?_, ?_, ?_⟩
  · have hq2 : m1 ≤ q := hq
    exact (zw_up_ne _ _ (by omega)).trans ((zw_up_ne _ _ (by omega)).trans (h2 q (by omega)))
  · intro c' i' hc' hi' x hx
    rw [sE_ssE] at hx
    by_cases e : c' = c ∧ i' = i
    · rw [if_pos e] at hx
      rw [e.1]
      exact hal x hx
    · rw [if_neg e] at hx
      exact h6 c' i' hc' hi' x hx
  · intro b t c' i' hb
    by_cases e1 : b = r'
    · rw [ho1, if_pos e1] at hb
      have hb2 := Option.some.inj hb
      obtain ⟨rfl, rfl, rfl⟩ : t = 1 ∧ c' = c ∧ i' = i := ⟨(congrArg (·.1) hb2).symm, (congrArg (·.2.1) hb2).symm, (congrArg (·.2.2) hb2).symm⟩
      rw [e1]
      refine ⟨Or.inl hr'z, hr'm, ?_, ?_, fun h => by omega, fun _ => ⟨hi, by rw [ha1, if_pos ⟨rfl, rfl⟩], hc1, hc2⟩, fun h => by omega, by omega⟩
      · show zw_up _ _ _ _ = _
        rw [zw_up_ne _ _ hr'a.symm, zw_up_same]
        unfold hcell
        simp only
        rw [ha1, if_pos ⟨rfl, rfl⟩, hf1, if_pos ⟨rfl, rfl⟩]
      · show zw_up _ _ _ _ ≠ _
        rw [zw_up_ne _ _ hr'a.symm, zw_up_same]
        exact fun e => by cases e
    · rw [ho1, if_neg e1] at hb
      split at hb
      · cases hb
      · rename_i hn1
        obtain ⟨p1, p2, p3, p4, p5, p6, p7, p8⟩ := h7 b t c' i' hb
        by_cases e2 : b = gh c i
        · rw [e2, ho] at hb
          have hb2 := Option.some.inj hb
          obtain ⟨rfl, rfl, rfl⟩ : t = 0 ∧ c' = c ∧ i' = i := ⟨(congrArg (·.1) hb2).symm, (congrArg (·.2.1) hb2).symm, (congrArg (·.2.2) hb2).symm⟩
          subst e2
          refine ⟨p1, Nat.lt_of_lt_of_le p2 hm1, ?_, ?_, p5, fun h => by omega, fun h => by omega, by omega⟩
          · show zw_up _ _ _ _ = _
            rw [zw_up_same]
            unfold hcell hhead
            simp only
            have ear : ar' c' i' = (r', cap') := by rw [ha1, if_pos ⟨rfl, rfl⟩]
            have eE : sE (ssE S c' i' xs) c' i' = xs := by rw [sE_ssE, if_pos ⟨rfl, rfl⟩]
            have eM : sM (ssE S c' i' xs) c' i' = sM S c' i' + 1 := by rw [sM_ssE, if_pos ⟨rfl, rfl⟩]
            rw [if_neg (show ¬ c' < 20 by omega), ear, eE, eM]
            by_cases e : c' < 45
            · rw [if_pos e, if_pos e]
            · rw [if_neg e, if_neg e, if_pos (by omega)]
          · show zw_up _ _ _ _ ≠ _
            rw [zw_up_same]
            exact fun e => by cases e
        · refine ⟨p1, Nat.lt_of_lt_of_le p2 hm1, ?_, ?_, p5, fun ht => ?_, p7, p8⟩
          · show zw_up _ _ _ _ = _
            rw [zw_up_ne _ _ e2, zw_up_ne _ _ e1, p3]
            match t, p5, p6, p8, hn1, hb with
            | 0, p5, _, _, _, _ =>
              have hne : ¬ (c' = c ∧ i' = i) := by
                rintro ⟨rfl, rfl⟩
                exact e2 (p5 rfl).2
              unfold hcell
              simp only
              rw [ha1, if_neg hne, sE_ssE, if_neg hne, sM_ssE, if_neg hne]
              congr 1
              by_cases c20 : c' < 20
              · rw [if_pos c20, if_pos c20]
                rfl
              · rw [if_neg c20, if_neg c20]
                by_cases c45 : c' < 45
                · rw [if_pos c45, if_pos c45]
                · rw [if_neg c45, if_neg c45]
                  by_cases c46 : c' = 45
                  · rw [if_pos c46, if_pos c46]
                  · rw [if_neg c46, if_neg c46]
                    refine (rcell_ext (fun _ _ _ => rfl) (fun x hx => h6 c' i' (by omega) (p5 rfl).1 x hx) ?_).symm
                    rw [sE_ssE, if_neg hne]
            | 1, _, _, _, hn1, hb =>
              have hne : ¬ (c' = c ∧ i' = i) := by
                rintro ⟨rfl, rfl⟩
                exact hn1 hb
              unfold hcell
              simp only
              rw [ha1, if_neg hne, hf1, if_neg hne]
            | 2, _, _, _, _, _ => rfl
            | _ + 3, _, _, p8, _, _ => omega
          · show zw_up _ _ _ _ ≠ _
            rw [zw_up_ne _ _ e2, zw_up_ne _ _ e1]
            exact p4
          · have hne : ¬ (c' = c ∧ i' = i) := by
              rintro ⟨rfl, rfl⟩
              subst ht
              exact hn1 hb
            rw [ha1, if_neg hne]
            exact p6 ht
  · intro c' i' hc1' hc2' hi'
    by_cases e : c' = c ∧ i' = i
    · rw [ha1, if_pos e, hf1, if_pos e, sE_ssE, if_pos e]
      obtain ⟨rfl, rfl⟩ := e
      have : own' r' = some (1, c', i') := by rw [ho1, if_pos rfl]
      exact ⟨Or.inl this, hlen, hcap, fun _ => this, fun h0 => by have h00 : cap' = 0 := h0; omega⟩
    · rw [ha1, if_neg e, hf1, if_neg e, sE_ssE, if_neg e]
      obtain ⟨r1, r2, r3, r4, r5⟩ := hA c' i' hc1' hc2' hi'
      have hl : (1, c', i') ≠ (1, c, i) := by
        intro h
        injection h with _ h
        injection h with h6 h7
        exact e ⟨h6, h7⟩
      exact ⟨r1.imp_left (fun h => hw _ _ h hl), r2, r3, fun h0 => hw _ _ (r4 h0) hl, r5⟩
  · intro c' i' hc1' hc2' hi'
    by_cases e : c' = c ∧ i' = i
    · rw [hf1, if_pos e, sE_ssE, if_pos e]
      obtain ⟨rfl, rfl⟩ := e
      exact hel hc2'
    · rw [hf1, if_neg e, sE_ssE, if_neg e]
      exact hB c' i' hc1' hc2' hi'
  · intro i' hi'
    have hkey : ∀ y : Int, alv S 48 y → 0 ≤ y → qkey (ssE S c i xs) own' (gh 8 y.toNat) = sT S 8 4 y.toNat * 1000 + sT S 8 0 y.toNat := by
      intro y hy hy0
      have q := h8 8 y.toNat ((hy hy0).2 8 rfl)
      unfold qkey
      rw [hw _ _ q (fun e => by cases e)]
      rfl
    by_cases e : 45 = c ∧ i' = i
    · obtain ⟨rfl, rfl⟩ := e
      rw [ha1, if_pos ⟨rfl, rfl⟩, hf1, if_pos ⟨rfl, rfl⟩]
      unfold hqA
      rw [sE_ssE, if_pos ⟨rfl, rfl⟩]
      obtain ⟨g1, key, g2, g3⟩ := hpq rfl
      refine ⟨hcap0, g1, wPQ_congr (fun y hy => ?_) g3⟩
      obtain ⟨z, hz, rfl⟩ := List.mem_map.mp hy
      have hz1 := hal z hz
      rw [hkey z hz1 (g1 z hz), g2 _ ((hz1 (g1 z hz)).2 8 rfl)]
    · rw [ha1, if_neg e, hf1, if_neg e]
      unfold hqA
      rw [sE_ssE, if_neg e]
      obtain ⟨r1, r2, r3⟩ := hC i' hi'
      refine ⟨r1, r2, wPQ_congr (fun y hy => ?_) r3⟩
      obtain ⟨z, hz, rfl⟩ := List.mem_map.mp hy
      have hz1 := h6 45 i' (by omega) hi' z hz
      rw [hkey z hz1 (r2 z hz)]
      have q := h8 8 z.toNat ((hz1 (r2 z hz)).2 8 rfl)
      unfold qkey
      rw [q]
      rfl
end ZUL
