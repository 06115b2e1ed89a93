/-! WHAT RESERVING PUTS INTO AN ORDER'S LIST: component by component, lot by lot, each lot but the last to its end -/
set_option maxRecDepth 100000
/-- lots and pieces in a list -/
def tlL (S : hS) (m : Nat) : List (Int × Int) := (sE S 26 m).map (fun t => (sT S 7 0 t.toNat, sT S 7 1 t.toNat))
/-- pieces of a lot that are free -/
def av (S : hS) (l : Nat) : Int := sT S 6 4 l - sT S 6 5 l
/-- list m grows by new entries, lots lose free pieces, nothing else changes -/
def rkG (m : Nat) (S T : hS) : Prop := (∀ c : Nat, c ≠ 7 → sn T c = sn S c) ∧ sn S 7 ≤ sn T 7 ∧ (∀ c i : Nat, c ≠ 7 → ¬ (c = 26 ∧ i = m) → sE T c i = sE S c i) ∧ (∀ c j i : Nat, c ≠ 7 → ¬ (c = 6 ∧ j = 5) → sT T c j i = sT S c j i) ∧ (∀ j i : Nat, i < sn S 7 → sT T 7 j i = sT S 7 j i) ∧
  (∃ new : List Int, sE T 26 m = sE S 26 m ++ new ∧ ∀ t ∈ new, 0 ≤ t ∧ sn S 7 ≤ t.toNat ∧ t.toNat < sn T 7) ∧ ∀ l : Nat, av T l ≤ av S l
section ZDA
variable {m o : Nat} {pt n : Int} {S T U : hS}
theorem rkG.refl : rkG m S S := ⟨fun _ _ => rfl, Nat.le_refl _, fun _ _ _ _ => rfl, fun _ _ _ _ _ => rfl, fun _ _ _ => rfl, ⟨[], by rw [List.append_nil], fun t ht => absurd ht List.not_mem_nil⟩, fun _ => Int.le_refl _⟩
theorem rkG.trans (h : rkG m S T) (h2 : rkG m T U) : rkG m S U := by
  obtain ⟨a1, a2, a3, a4, a5, ⟨x, a6, a7⟩, a8⟩ := h
  obtain ⟨b1, b2, b3, b4, b5, ⟨y, b6, b7⟩, b8⟩ := h2
  refine ⟨fun c hc => (b1 c hc).trans (a1 c hc), Nat.le_trans a2 b2, fun c i hc hi => (b3 c i hc hi).trans (a3 c i hc hi), fun c j i hc hj => (b4 c j i hc hj).trans (a4 c j i hc hj), fun j i hi => (b5 j i (by omega)).trans (a5 j i hi), ⟨x ++ y, by rw [b6, a6, List.append_assoc], fun t ht => ?_⟩, fun l => Int.le_trans (b8 l) (a8 l)⟩
  rcases List.mem_append.mp ht with h | h
  · have := a7 t h; omega
  · have := b7 t h; omega
theorem rkG.lt (h : rkG m S T) (hS : ∀ t ∈ sE S 26 m, t.toNat < sn S 7) : ∀ t ∈ sE T 26 m, t.toNat < sn T 7 := by
  obtain ⟨a1, a2, a3, a4, a5, ⟨x, a6, a7⟩, a8⟩ := h
  intro t ht
  rw [a6] at ht
  rcases List.mem_append.mp ht with h | h
  · have := hS t h; omega
  · exact (a7 t h).2.2
theorem rkG.pn (h : rkG m S T) (l : Nat) : fPnum T l = fPnum S l := by
  obtain ⟨a1, a2, a3, a4, a5, a6, a8⟩ := h
  unfold fPnum fLp
  rw [a4 6 1 l (by decide) (by omega), a4 _ _ _ (by omega) (by omega)]
theorem rkG_take {l : Nat} {t : Int} (ht : 0 ≤ t) : rkG m S (fTakeS S m l t) := by
  refine ⟨fun c hc => by rw [fTakeS_sn, if_neg hc], by rw [fTakeS_sn, if_pos rfl]; omega, fun c i hc hi => by rw [fTakeS_sE, if_neg hi, if_neg (fun e => hc e.1)], fun c j i hc hj => by rw [fTakeS_sT hc, if_neg (fun e => hj ⟨e.1, e.2.1⟩)], fun j i hi => fTakeS_sT7 hi, ⟨[(sn S 7 : Int)], by rw [fTakeS_sE, if_pos ⟨rfl, rfl⟩], fun x hx => ?_⟩, fun i => ?_⟩
  · rw [List.mem_singleton] at hx
    subst hx
    rw [fTakeS_sn, if_pos rfl, Int.toNat_natCast]
    exact ⟨by omega, Nat.le_refl _, by omega⟩
  · unfold av
    rw [fTakeS_sT (by decide), fTakeS_sT (by decide), if_neg (by omega)]
    split
    · rename_i e
      rw [e.2.2]; omega
    · omega
theorem tlL_take {l : Nat} {t : Int} (h : ∀ t ∈ sE S 26 m, t.toNat < sn S 7) : tlL (fTakeS S m l t) m = tlL S m ++ [((l : Int), t)] := by
  unfold tlL
  rw [fTakeS_sE, if_pos ⟨rfl, rfl⟩, List.map_append, List.map_cons, List.map_nil, Int.toNat_natCast, fTakeS_new0, fTakeS_new1]
  congr 1
  exact List.map_congr_left (fun x hx => by rw [fTakeS_sT7 (h x hx), fTakeS_sT7 (h x hx)])
theorem av_take {l i : Nat} {t : Int} : av (fTakeS S m l t) i = if i = l then av S i - t else av S i := by
  unfold av
  rw [fTakeS_sT (by decide), fTakeS_sT (by decide), if_neg (by omega)]
  by_cases e : i = l
  · rw [if_pos ⟨rfl, rfl, e⟩, if_pos e, e]; omega
  · rw [if_neg (fun w => e w.2.2), if_neg e]
/-- what one component's reserving has done, when it has come to lot k -/
def rsG (S : hS) (m : Nat) (pt n : Int) (k : Nat) (T : hS) (left : Int) (es : List (Int × Int)) : Prop :=
  rkG m S T ∧ tlL T m = tlL S m ++ es ∧ (0 ≤ left ∧ (es.map Prod.snd).sum + left = n) ∧ (∀ e ∈ es, ∃ l : Nat, l < k ∧ e.1 = l ∧ fPnum S l = pt ∧ 1 ≤ e.2 ∧ 0 < av S l) ∧ (es.map Prod.fst).Pairwise (· < ·) ∧ (0 < left → ∀ e ∈ es, av T e.1.toNat = 0) ∧ (∀ e ∈ es.dropLast, av T e.1.toNat = 0) ∧ ∀ l : Nat, k ≤ l → av T l = av S l
theorem resG (hS : ∀ t ∈ sE S 26 m, t.toNat < sn S 7) (hn : 0 ≤ n) : ∀ k : Nat, k ≤ sn S 6 → ∃ es : List (Int × Int), rsG S m pt n k (fResN S m pt n k).1 (fResN S m pt n k).2.1 es := by
  intro k
  induction k with
  | zero =>
    intro _
    exact ⟨[], rkG.refl, by rw [List.append_nil]; rfl, ⟨hn, by show 0 + n = n; omega⟩, fun e he => absurd he List.not_mem_nil, List.Pairwise.nil, fun _ e he => absurd he List.not_mem_nil, fun e he => absurd he List.not_mem_nil, fun _ _ => rfl⟩
  | succ k ih =>
    intro hk
    obtain ⟨es, g1, g2, ⟨g3, g3'⟩, g4, g5, g6, g7, g8⟩ := ih (by omega)
    rw [fResN_succ]
    unfold fResStep
    generalize fResN S m pt n k = F at *
    obtain ⟨T, left, c1, c2⟩ := F
    have g1 : rkG m S T := g1
    have g2 : tlL T m = tlL S m ++ es := g2
    have g3 : 0 ≤ left := g3
    have g3' : (es.map Prod.snd).sum + left = n := g3'
    have g6 : 0 < left → ∀ e ∈ es, av T e.1.toNat = 0 := g6
    have g7 : ∀ e ∈ es.dropLast, av T e.1.toNat = 0 := g7
    have g8 : ∀ l : Nat, k ≤ l → av T l = av S l := g8
    show ∃ es : List (Int × Int), rsG S m pt n (k + 1) (if 0 < fThere T pt left k then _ else _ : fRst).1 (if 0 < fThere T pt left k then _ else _ : fRst).2.1 es
    by_cases h : 0 < fThere T pt left k
    · simp only [if_pos h]
      have hth : fPnum T k = pt ∧ fThere T pt left k = imin left (av T k) := by
        unfold fThere at h ⊢
        split at h
        · rename_i e
          rw [if_pos e]
          exact ⟨e.1, rfl⟩
        · omega
      obtain ⟨t1, t2⟩ := hth
      have hle : fThere T pt left k ≤ left ∧ fThere T pt left k ≤ av T k ∧ (fThere T pt left k < left → fThere T pt left k = av T k) := by
        rw [t2]
        unfold imin
        split <;> refine ⟨?_, ?_, ?_⟩ <;> omega
      generalize fThere T pt left k = t at *
      have ltT := g1.lt hS
      have hpos : 0 < left := by omega
      have g6' := g6 hpos
      have hneq : ∀ e ∈ es, e.1.toNat ≠ k := fun e he => by
        obtain ⟨l, l1, l2, -⟩ := g4 e he
        omega
      refine ⟨es ++ [((k : Int), t)], g1.trans (rkG_take (by omega)), by rw [tlL_take ltT, g2, List.append_assoc], ⟨by omega, ?_⟩, fun e he => ?_, ?_, fun hl e he => ?_, fun e he => ?_, fun l hl => ?_⟩
      · rw [List.map_append, List.sum_append, List.map_cons, List.map_nil, List.sum_cons, List.sum_nil]
        show (es.map Prod.snd).sum + (t + 0) + (left - t) = n
        omega
      · rcases List.mem_append.mp he with h' | h'
        · obtain ⟨l, l1, l2⟩ := g4 e h'
          exact ⟨l, by omega, l2⟩
        · rw [List.mem_singleton] at h'
          subst h'
          refine ⟨k, by omega, rfl, by rw [← g1.pn]; exact t1, by show 1 ≤ t; omega, ?_⟩
          have := g8 k (Nat.le_refl _)
          omega
      · rw [List.map_append, List.map_cons, List.map_nil, List.pairwise_append]
        refine ⟨g5, List.pairwise_singleton _ _, fun x hx y hy => ?_⟩
        rw [List.mem_singleton] at hy
        obtain ⟨e, he, rfl⟩ := List.mem_map.mp hx
        obtain ⟨l, l1, l2, -⟩ := g4 e he
        rw [hy, l2]
        show ((l : Nat) : Int) < (k : Nat)
        omega
      · have hl : 0 < left - t := hl
        rcases List.mem_append.mp he with h' | h'
        · rw [av_take, if_neg (hneq e h')]
          exact g6' e h'
        · rw [List.mem_singleton] at h'
          subst h'
          have : (((k : Nat) : Int), t).1.toNat = k := Int.toNat_natCast _
          rw [this, av_take, if_pos rfl]
          have := hle.2.2 (by omega)
          omega
      · rw [List.dropLast_concat] at he
        rw [av_take, if_neg (hneq e he)]
        exact g6' e he
      · rw [av_take, if_neg (by omega)]
        exact g8 l (by omega)
    · simp only [if_neg h]
      refine ⟨es, g1, g2, ⟨g3, g3'⟩, fun e he => ?_, g5, g6, g7, fun l hl => g8 l (by omega)⟩
      obtain ⟨l, l1, l2⟩ := g4 e he
      exact ⟨l, by omega, l2⟩
end ZDA
