/-! THE ROOM: reserving comes to a lot only when the lots ahead of it have no free pieces -/
set_option maxRecDepth 100000
def hldF (S : hS) (l : Nat) : Bool := tHeld (fh S) (fch S) 100 l
/-- entries of lots that aren't held and had free pieces; the lots ahead, if not held, have none any more -/
def exQ (hd : Nat → Bool) (S T : hS) (L : List (Int × Int)) : Prop := ∀ e ∈ L, ∃ l : Nat, e.1 = l ∧ l < sn S 6 ∧ hd l = false ∧ 0 < av S l ∧ ∀ l2 : Nat, l2 < l → fPnum S l2 = fPnum S l → hd l2 = false → av T l2 ≤ 0
section ZF0
variable {z : Nat → Nat} {k o l m : Nat} {S T X Y : hS} {pt n : Int} {hd : Nat → Bool}
theorem rkG.held (h : rkG m S T) (hL : iLo S) (hT : iTk S) (hch : ∀ i : Nat, i < sn S 6 → ∀ y ∈ fch S i, y < sn S 6) (hn : noLot S m) (hl : l < sn S 6) : hldF T l = hldF S l := by
  unfold hldF
  exact tHeld_cg (N := sn S 6) (fun i _ => by
    unfold fh
    rw [h.2.2.2.1 6 7 i (by decide) (by omega)]) (fun i hi => h.ch hL hT hn hi) hch 100 l hl
theorem exQ.mono {U : hS} {L : List (Int × Int)} (h : exQ hd S T L) (hu : ∀ l : Nat, av U l ≤ av T l) : exQ hd S U L := fun e he => by
  obtain ⟨l, h1, h2, h3, h4, h5⟩ := h e he
  exact ⟨l, h1, h2, h3, h4, fun l2 a b c => Int.le_trans (hu l2) (h5 l2 a b c)⟩
theorem resQ (hh : ∀ T : hS, rkG m S T → ∀ l : Nat, l < sn S 6 → hldF T l = hd l) (hS : ∀ t ∈ sE S 26 m, t.toNat < sn S 7) : ∀ k : Nat, k ≤ sn S 6 →
    rkG m S (fResN S m pt n k).1 ∧ (∃ es : List (Int × Int), tlL (fResN S m pt n k).1 m = tlL S m ++ es ∧ exQ hd S (fResN S m pt n k).1 es) ∧ (∀ l : Nat, k ≤ l → av (fResN S m pt n k).1 l = av S l) ∧
      (0 < (fResN S m pt n k).2.1 → ∀ l : Nat, l < k → fPnum S l = pt → hd l = false → av (fResN S m pt n k).1 l ≤ 0) := by
  intro k
  induction k with
  | zero =>
    intro _
    exact ⟨rkG.refl, ⟨[], (List.append_nil _).symm, fun e he => absurd he List.not_mem_nil⟩, fun _ _ => rfl, fun _ l hl => absurd hl (Nat.not_lt_zero l)⟩
  | succ k ih =>
    intro hk
    obtain ⟨g1, ⟨es, g2, g3⟩, g4, g5⟩ := ih (by omega)
    rw [fResN_succ]
    unfold fResStep
    generalize fResN S m pt n k = F at *
    obtain ⟨T, left, c1, c2⟩ := F
    have g1 : rkG m S T := g1
    have g2 : tlL T m = tlL S m ++ es := g2
    have g3 : exQ hd S T es := g3
    have g4 : ∀ l : Nat, k ≤ l → av T l = av S l := g4
    have g5 : 0 < left → ∀ l : Nat, l < k → fPnum S l = pt → hd l = false → av T l ≤ 0 := g5
    have hhd := hh T g1 k (by omega)
    have hpn := g1.pn k
    by_cases h : 0 < fThere T pt left k
    · simp only [if_pos h]
      have hth : (fPnum T k = pt ∧ hldF T k = false) ∧ fThere T pt left k = imin left (av T k) := by
        unfold fThere at h ⊢
        split at h
        · rename_i e
          rw [if_pos e]
          exact ⟨e, rfl⟩
        · omega
      obtain ⟨⟨t1, t1'⟩, t2⟩ := hth
      have hle : fThere T pt left k ≤ left ∧ fThere T pt left k ≤ av T k ∧ (fThere T pt left k < left → fThere T pt left k = av T k) := by
        rw [t2]
        unfold imin
        split <;> refine ⟨?_, ?_, ?_⟩ <;> omega
      generalize fThere T pt left k = t at *
      have ltT := g1.lt hS
      have g1' : rkG m S (fTakeS T m k t) := g1.trans (rkG_take (by omega))
      have hav : ∀ l : Nat, av (fTakeS T m k t) l ≤ av T l := fun l => by
        rw [av_take]
        split
        · rename_i e; rw [e]; omega
        · omega
      refine ⟨g1', ⟨es ++ [((k : Int), t)], by rw [tlL_take ltT, g2, List.append_assoc], fun e he => ?_⟩, fun l hl => ?_, fun hl l hlk hp hd2 => ?_⟩
      · rcases List.mem_append.mp he with h' | h'
        · exact (g3.mono hav) e h'
        · rw [List.mem_singleton] at h'
          subst h'
          refine ⟨k, rfl, by omega, by rw [← hhd]; exact t1', by have := g4 k (Nat.le_refl _); omega, fun l2 a b c => ?_⟩
          exact Int.le_trans (hav l2) (g5 (by omega) l2 a (by rw [b, ← hpn]; exact t1) c)
      · rw [av_take, if_neg (by omega)]
        exact g4 l (by omega)
      · have hl : 0 < left - t := hl
        by_cases e : l = k
        · rw [av_take, if_pos e, e]
          have := hle.2.2 (by omega)
          omega
        · exact Int.le_trans (hav l) (g5 (by omega) l (by omega) hp hd2)
    · simp only [if_neg h]
      refine ⟨g1, ⟨es, g2, g3⟩, fun l hl => g4 l (by omega), fun hl l hlk hp hd2 => ?_⟩
      by_cases e : l = k
      · subst e
        unfold fThere at h
        rw [if_pos ⟨by rw [hpn]; exact hp, by show hldF T l = false; rw [hhd]; exact hd2⟩] at h
        unfold imin at h
        unfold av
        split at h <;> omega
      · exact g5 hl l (by omega) hp hd2
theorem ranQ (hh : ∀ T : hS, rkG (fOL S o) S T → ∀ l : Nat, l < sn S 6 → hldF T l = hd l) (hnew : sE S 26 (fOL S o) = []) : ∀ p : Nat, p ≤ (fComps S o).length → rkG (fOL S o) S (fRAN S o p).1 ∧ exQ hd S (fRAN S o p).1 (tlL (fRAN S o p).1 (fOL S o)) := by
  intro p
  induction p with
  | zero =>
    intro _
    refine ⟨rkG.refl, fun e he => ?_⟩
    have : tlL S (fOL S o) = [] := by unfold tlL; rw [hnew]; rfl
    have he : e ∈ tlL S (fOL S o) := he
    rw [this] at he
    exact absurd he List.not_mem_nil
  | succ p ih =>
    intro hp
    obtain ⟨g1, g2⟩ := ih (by omega)
    have hk : (fComps S o)[p]? = some ((fComps S o)[p]'(by omega)) := List.getElem?_eq_getElem (by omega)
    generalize (fComps S o)[p]'(by omega) = kk at hk
    rw [fRAN_succ hk]
    unfold fRAstep
    generalize fRAN S o p = F at *
    obtain ⟨T, fl, c1, c2⟩ := F
    have g1 : rkG (fOL S o) S T := g1
    have g2 : exQ hd S T (tlL T (fOL S o)) := g2
    cases fl with
    | false => rw [if_pos rfl]; exact ⟨g1, g2⟩
    | true =>
      rw [if_neg (show ¬ (T, true, c1, c2).2.1 = false from fun h => absurd h.symm Bool.false_ne_true)]
      by_cases hf : fFor T kk.toNat (sT T 8 3 o) = true
      · rw [if_pos hf]
        have hlt : ∀ t ∈ sE T 26 (fOL S o), t.toNat < sn T 7 := g1.lt (fun t ht => by rw [hnew] at ht; exact absurd ht List.not_mem_nil)
        have e6 : sn T 6 = sn S 6 := g1.1 6 (by decide)
        obtain ⟨q1, ⟨es, q2, q3⟩, -, -⟩ := resQ (S := T) (m := fOL S o) (pt := sT T 4 0 kk.toNat) (n := sT T 8 2 o * sT T 4 1 kk.toNat) (hd := hd) (fun U hU l hl => hh U (g1.trans hU) l (by omega)) hlt (sn T 6) (Nat.le_refl _)
        have g3 := g1.trans q1
        refine ⟨g3, ?_⟩
        show exQ hd S (fResN T (fOL S o) (sT T 4 0 kk.toNat) (sT T 8 2 o * sT T 4 1 kk.toNat) (sn T 6)).1 (tlL (fResN T (fOL S o) (sT T 4 0 kk.toNat) (sT T 8 2 o * sT T 4 1 kk.toNat) (sn T 6)).1 (fOL S o))
        intro e he
        rw [q2] at he
        rcases List.mem_append.mp he with h' | h'
        · exact (g2.mono q1.2.2.2.2.2.2) e h'
        · obtain ⟨l, a1, a2, a3, a4, a5⟩ := q3 e h'
          exact ⟨l, a1, by omega, a3, Int.lt_of_lt_of_le a4 (g1.2.2.2.2.2.2 l), fun l2 b1 b2 b3 => a5 l2 b1 (by rw [g1.pn, g1.pn]; exact b2) b3⟩
      · rw [if_neg hf]
        exact ⟨g1, g2⟩
/-- a promise's entries: of two lots of a part the first has no free pieces any more -/
theorem raQ (hI : iAll z k S) (hn : noLot S (fOL S o)) (hnew : sE S 26 (fOL S o) = []) : exQ (hldF S) S (fRAN S o (fComps S o).length).1 (tlL (fRAN S o (fComps S o).length).1 (fOL S o)) :=
  (ranQ (fun T hT l hl => hT.held hI.lo hI.tk hI.chlt hn hl) hnew _ (Nat.le_refl _)).2
end ZF0
