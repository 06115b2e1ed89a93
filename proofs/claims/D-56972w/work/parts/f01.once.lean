/-! THE ROOM: a lot is exhausted once, but for promises that are taken back: what it says, and what keeps it -/
set_option maxRecDepth 100000
def ofs (L : List (Int × Int)) : List Nat := L.map (fun e => e.1.toNat)
/-- order o has taken from lot l and then from a later lot of its part -/
def t26 (X : hS) (o l : Nat) : Bool := (ofs (fTl X o)).contains l && (ofs (fTl X o)).any (fun m => decide (l < m ∧ ptL X m = ptL X l))
/-- order o was delivered from lot l and then from another -/
def t27 (X : hS) (o l : Nat) : Bool := ((ofs (fDv X o)).dropLast).contains l
/-- how often lot l was gone beyond -/
def trL (X : hS) (l : Nat) : Nat := ns (sn X 8) (fun o => (if t26 X o l = true then 1 else 0) + (if t27 X o l = true then 1 else 0))
def iX (w : Nat) (X : hS) : Prop := ∀ l : Nat, l < sn X 6 → trL X l ≤ w + (if av X l ≤ 0 then 1 else 0)
/-- c: how many promises' taking back are to be counted -/
def gX (c : Nat) (X Y : hS) : Prop := ∀ w : Nat, iX w X → iX (w + c) Y
section ZF1
variable {z : Nat → Nat} {k k2 o l : Nat} {X Y S T : hS}
theorem gX.trans {a b : Nat} (h : gX a X S) (h2 : gX b S Y) : gX (a + b) X Y := fun w hw => by
  have := h2 (w + a) (h w hw)
  rw [Nat.add_assoc] at this
  exact this
theorem ns_ext {f : Nat → Nat} {n : Nat} : ∀ d : Nat, (∀ i : Nat, n ≤ i → i < n + d → f i = 0) → ns (n + d) f = ns n f
  | 0, _ => rfl
  | d + 1, h => by
    show ns (n + d) f + f (n + d) = _
    rw [ns_ext d (fun i h1 h2 => h i h1 (by omega)), h (n + d) (by omega) (by omega)]
    rfl
theorem fTl_at (hI : iAll z k X) (ho : o < sn X 8) : ∀ e ∈ fTl X o, 0 ≤ e.1 ∧ e.1 < (sn X 6 : Nat) ∧ 1 ≤ e.2 := fun e he => by
  unfold fTl at he
  obtain ⟨t, ht, rfl⟩ := List.mem_map.mp he
  have h5 := (hI.or o ho).2.2.2.2.2.1
  have h1 := hI.tk.1 (fOL X o) (by unfold fOL; omega) t ht
  have h2 := hI.tk.2.2 t.toNat (by omega)
  exact ⟨h2.1.1, h2.1.2, h2.2.1⟩
theorem fDv_at (hI : iAll z k X) (ho : o < sn X 8) : ∀ e ∈ fDv X o, 0 ≤ e.1 ∧ e.1 < (sn X 6 : Nat) ∧ 1 ≤ e.2 := fun e he => by
  unfold fDv at he
  obtain ⟨t, ht, rfl⟩ := List.mem_map.mp he
  have h5 := (hI.or o ho).2.2.2.2.2.2.1
  have h1 := hI.tk.2.1 (fDelL X o) (by unfold fDelL; omega) t ht
  have h2 := hI.tk.2.2 t.toNat (by omega)
  exact ⟨h2.1.1, h2.1.2, h2.2.1⟩
/-- free pieces are what no order has -/
theorem av_eq (hI : iAll z k X) (hl : l < sn X 6) : av X l = sT X 6 2 l - isum (sn X 8) (fun o => pl (fTl X o) l + pl (fDv X o) l) ∧ 0 ≤ av X l := by
  obtain ⟨h1, h2, h3⟩ := hI.res l hl
  have e : isum (sn X 8) (fun o => pl (fTl X o) l + pl (fDv X o) l) = isum (sn X 8) (fun o => if fPr z X o = true then pl (fTl X o) l else 0) + isum (sn X 8) (fun o => (if fPr z X o = true then 0 else pl (fTl X o) l) + pl (fDv X o) l) := by
    rw [← isum_add]
    refine isum_cg (fun o _ => ?_)
    split <;> omega
  rw [e]
  unfold av
  omega
/-- lists of orders that were there: the same, or emptied; new ones have none -/
def lkK (X Y : hS) : Prop := (∀ o : Nat, o < sn X 8 → (fTl Y o = fTl X o ∨ fTl Y o = []) ∧ fDv Y o = fDv X o) ∧ ∀ o : Nat, sn X 8 ≤ o → o < sn Y 8 → fTl Y o = [] ∧ fDv Y o = []
/-- lists of orders that were there, but for o's: the same; new ones have none -/
def lkS (o : Nat) (X Y : hS) : Prop := (∀ q : Nat, q < sn X 8 → q ≠ o → fTl Y q = fTl X q ∧ fDv Y q = fDv X q) ∧ ∀ q : Nat, sn X 8 ≤ q → q < sn Y 8 → fTl Y q = [] ∧ fDv Y q = []
theorem t26_nil (h : fTl X o = []) : t26 X o l = false := by
  unfold t26
  rw [h]; rfl
theorem t27_nil (h : fDv X o = []) : t27 X o l = false := by
  unfold t27
  rw [h]; rfl
theorem pt_gW (g : gW z X Y) (hI : iAll z k X) (hl : l < sn X 6) : ptL Y l = ptL X l := by
  unfold ptL
  rw [fPnum_gW g hI.lo hI.pt hl]
theorem t26_cg (g : gW z X Y) (hI : iAll z k X) (ho : o < sn X 8) (h : fTl Y o = fTl X o) : t26 Y o l = t26 X o l := by
  unfold t26
  rw [h]
  cases hc : (ofs (fTl X o)).contains l with
  | false => rfl
  | true =>
    rw [Bool.true_and, Bool.true_and]
    have hm : ∀ m ∈ ofs (fTl X o), m < sn X 6 := fun m hm => by
      obtain ⟨e, he, rfl⟩ := List.mem_map.mp hm
      have := fTl_at hI ho e he
      omega
    have hl := hm l (List.contains_iff_mem.mp hc)
    refine any_cg (fun m hmm => ?_)
    rw [pt_gW g hI (hm m hmm), pt_gW g hI hl]
theorem t27_cg (h : fDv Y o = fDv X o) : t27 Y o l = t27 X o l := by
  unfold t27
  rw [h]
theorem trL_out (hI : iAll z k X) (hl : sn X 6 ≤ l) : trL X l = 0 := by
  unfold trL
  refine (ns_cg (g := fun _ => 0) (fun o ho => ?_)).trans (ns_zero _)
  have h1 : t26 X o l = false := by
    unfold t26
    cases hc : (ofs (fTl X o)).contains l with
    | false => rfl
    | true =>
      obtain ⟨e, he, h⟩ := List.mem_map.mp (List.contains_iff_mem.mp hc)
      have := fTl_at hI ho e he
      omega
  have h2 : t27 X o l = false := by
    unfold t27
    cases hc : ((ofs (fDv X o)).dropLast).contains l with
    | false => rfl
    | true =>
      obtain ⟨e, he, h⟩ := List.mem_map.mp ((List.dropLast_sublist _).subset (List.contains_iff_mem.mp hc))
      have := fDv_at hI ho e he
      omega
  rw [h1, h2, if_neg Bool.false_ne_true]
theorem trL_old (hg : gW z X Y) (hN : ∀ o : Nat, sn X 8 ≤ o → o < sn Y 8 → fTl Y o = [] ∧ fDv Y o = []) : trL Y l = ns (sn X 8) (fun o => (if t26 Y o l = true then 1 else 0) + (if t27 Y o l = true then 1 else 0)) := by
  have h8 := hg.2.2.1.1
  unfold trL
  have e : sn Y 8 = sn X 8 + (sn Y 8 - sn X 8) := by omega
  rw [e]
  refine ns_ext _ (fun i h1 h2 => ?_)
  obtain ⟨a, b⟩ := hN i h1 (by omega)
  rw [t26_nil a, t27_nil b, if_neg Bool.false_ne_true]
/-- promises taken back -/
theorem lkK.toX (h : lkK X Y) (hg : gW z X Y) (hI : iAll z k X) : gX 1 X Y := fun w hw l hl => by
  obtain ⟨h1, h2⟩ := h
  have hle : trL Y l ≤ trL X l := by
    rw [trL_old hg h2]
    refine ns_le (fun o ho => ?_)
    obtain ⟨a, b⟩ := h1 o ho
    rw [t27_cg b]
    rcases a with a | a
    · rw [t26_cg hg hI ho a]; exact Nat.le_refl _
    · rw [t26_nil a, if_neg Bool.false_ne_true]; omega
  by_cases h6 : l < sn X 6
  · have := hw l h6
    split at this <;> split <;> omega
  · rw [trL_out hI (by omega)] at hle
    omega
/-- nothing is taken back, one order takes something or is delivered something -/
theorem lkS.toX (h : lkS o X Y) (hg : gW z X Y) (hI : iAll z k X) (hI2 : iAll z k2 Y)
    (ho : o < sn X 8 → (fTl Y o = fTl X o ∨ (fTl X o = [] ∧ ∀ l : Nat, t26 Y o l = true → av Y l ≤ 0)) ∧ (fDv Y o = fDv X o ∨ (fDv X o = [] ∧ ∀ l : Nat, t27 Y o l = true → av Y l ≤ 0)) ∧ (fTl Y o = fTl X o ∨ fDv Y o = fDv X o)) : gX 0 X Y := fun w hw l hl => by
  obtain ⟨h1, h2⟩ := h
  have h8 := hg.2.2.1.1
  -- free pieces don't rise
  have hav : l < sn X 6 → av Y l ≤ av X l ∧ ∀ (q : Nat), q < sn X 8 → pl (fTl Y q) l + pl (fDv Y q) l - (pl (fTl X q) l + pl (fDv X q) l) ≤ av X l - av Y l := fun h6 => by
    obtain ⟨e1, -⟩ := av_eq hI h6
    obtain ⟨e2, -⟩ := av_eq hI2 hl
    have e3 := hg.1.2 2 l h6 (by decide)
    have nn : ∀ q : Nat, q < sn Y 8 → 0 ≤ pl (fTl Y q) l ∧ 0 ≤ pl (fDv Y q) l := fun q hq => ⟨pl_nn (fun e he => by have := fTl_at hI2 hq e he; omega), pl_nn (fun e he => by have := fDv_at hI2 hq e he; omega)⟩
    have dq : ∀ q : Nat, q < sn X 8 → 0 ≤ pl (fTl Y q) l + pl (fDv Y q) l - (pl (fTl X q) l + pl (fDv X q) l) := fun q hq => by
      obtain ⟨n1, n2⟩ := nn q (by omega)
      by_cases e : q = o
      · subst e
        obtain ⟨a, b, -⟩ := ho hq
        have a' : pl (fTl X q) l ≤ pl (fTl Y q) l := by
          rcases a with a | ⟨a, -⟩
          · rw [a]; exact Int.le_refl _
          · rw [a]; exact n1
        have b' : pl (fDv X q) l ≤ pl (fDv Y q) l := by
          rcases b with b | ⟨b, -⟩
          · rw [b]; exact Int.le_refl _
          · rw [b]; exact n2
        omega
      · obtain ⟨a, b⟩ := h1 q hq e
        rw [a, b]; omega
    have s1 : isum (sn Y 8) (fun q => pl (fTl Y q) l + pl (fDv Y q) l) = isum (sn X 8) (fun q => pl (fTl Y q) l + pl (fDv Y q) l) := by
      obtain ⟨d, hd⟩ := Nat.le.dest h8
      rw [← hd]
      have ext : ∀ d : Nat, sn X 8 + d ≤ sn Y 8 → isum (sn X 8 + d) (fun q => pl (fTl Y q) l + pl (fDv Y q) l) = isum (sn X 8) (fun q => pl (fTl Y q) l + pl (fDv Y q) l) := by
        intro d
        induction d with
        | zero => intro _; rfl
        | succ d ih =>
          intro hd
          rw [show sn X 8 + (d + 1) = (sn X 8 + d) + 1 from rfl, isum_succ, ih (by omega)]
          obtain ⟨a, b⟩ := h2 (sn X 8 + d) (by omega) (by omega)
          rw [a, b, pl_nil]; omega
      exact ext d (by omega)
    have s2 : isum (sn X 8) (fun q => pl (fTl Y q) l + pl (fDv Y q) l) = isum (sn X 8) (fun q => pl (fTl X q) l + pl (fDv X q) l) + isum (sn X 8) (fun q => pl (fTl Y q) l + pl (fDv Y q) l - (pl (fTl X q) l + pl (fDv X q) l)) := by
      rw [← isum_add]
      exact isum_cg (fun q _ => by omega)
    have s3 := isum_nn (n := sn X 8) dq
    refine ⟨by omega, fun q hq => ?_⟩
    have := isum_ge (n := sn X 8) dq hq
    omega
  rw [Nat.add_zero]
  -- the sum, but for o
  have hle : trL Y l ≤ trL X l + (if o < sn X 8 ∧ (t26 Y o l = true ∧ fTl X o = [] ∧ av Y l ≤ 0 ∨ t27 Y o l = true ∧ fDv X o = [] ∧ av Y l ≤ 0) then 1 else 0) := by
    rw [trL_old hg h2]
    by_cases h0 : o < sn X 8
    · obtain ⟨a, b, c⟩ := ho h0
      have key : (if t26 Y o l = true then 1 else 0) + (if t27 Y o l = true then 1 else 0) ≤ ((if t26 X o l = true then 1 else 0) + (if t27 X o l = true then 1 else 0)) + (if o < sn X 8 ∧ (t26 Y o l = true ∧ fTl X o = [] ∧ av Y l ≤ 0 ∨ t27 Y o l = true ∧ fDv X o = [] ∧ av Y l ≤ 0) then 1 else 0) := by
        rcases c with c | c
        · rw [t26_cg hg hI h0 c]
          rcases b with b | ⟨b, b2⟩
          · rw [t27_cg b]; omega
          · by_cases ht : t27 Y o l = true
            · rw [if_pos (show o < sn X 8 ∧ _ from ⟨h0, Or.inr ⟨ht, b, b2 l ht⟩⟩), if_pos ht]; omega
            · rw [if_neg ht]; omega
        · rw [t27_cg c]
          rcases a with a | ⟨a, a2⟩
          · rw [t26_cg hg hI h0 a]; omega
          · by_cases ht : t26 Y o l = true
            · rw [if_pos (show o < sn X 8 ∧ _ from ⟨h0, Or.inl ⟨ht, a, a2 l ht⟩⟩), if_pos ht]; omega
            · rw [if_neg ht]; omega
      have sp : ∀ f g : Nat → Nat, (∀ q : Nat, q < sn X 8 → q ≠ o → f q = g q) → ∀ d : Nat, f o ≤ g o + d → ns (sn X 8) f ≤ ns (sn X 8) g + d := fun f g hfg d hd => by
        have e1 : ns (sn X 8) (fun q => g q + (if q = o then d else 0)) = ns (sn X 8) g + d := by
          rw [ns_add, ns_one h0]
        rw [← e1]
        refine ns_le (fun q hq => ?_)
        by_cases e : q = o
        · rw [if_pos e, e]; exact hd
        · rw [if_neg e, hfg q hq e]; omega
      exact sp _ _ (fun q hq hne => by
        obtain ⟨a, b⟩ := h1 q hq hne
        rw [t26_cg hg hI hq a, t27_cg b]) _ key
    · rw [if_neg (fun w => h0 w.1), Nat.add_zero]
      refine ns_le (fun q hq => ?_)
      obtain ⟨a, b⟩ := h1 q hq (by omega)
      rw [t26_cg hg hI hq a, t27_cg b]
      exact Nat.le_refl _
  by_cases h6 : l < sn X 6
  · have h0 := hw l h6
    obtain ⟨m1, m2⟩ := hav h6
    by_cases hc : o < sn X 8 ∧ (t26 Y o l = true ∧ fTl X o = [] ∧ av Y l ≤ 0 ∨ t27 Y o l = true ∧ fDv X o = [] ∧ av Y l ≤ 0)
    · rw [if_pos hc] at hle
      -- it had free pieces ahead
      have hpos : 0 < av X l := by
        have hm := m2 o hc.1
        have n0 := (av_eq hI2 hl).2
        have nX : ∀ L : List (Int × Int), (∀ e ∈ L, 0 ≤ e.1 ∧ e.1 < (sn Y 6 : Nat) ∧ 1 ≤ e.2) → l ∈ ofs L → 1 ≤ pl L l := by
          intro L
          induction L with
          | nil => intro _ h; exact absurd h List.not_mem_nil
          | cons e L ih =>
            intro hL h
            have he := hL e List.mem_cons_self
            have hnn : 0 ≤ pl L l := pl_nn (fun d hd => by have := hL d (List.mem_cons_of_mem _ hd); omega)
            rw [pl_cons]
            rcases List.mem_cons.mp h with w | w
            · have w : l = e.1.toNat := w
              rw [if_pos (by omega)]; omega
            · have := ih (fun d hd => hL d (List.mem_cons_of_mem _ hd)) w
              split <;> omega
        have hoY : o < sn Y 8 := by omega
        obtain ⟨a, b, c⟩ := ho hc.1
        have nnT := fun q (hq : q < sn Y 8) => pl_nn (l := l) (fun e he => by have := fTl_at hI2 hq e he; omega)
        have nnD := fun q (hq : q < sn Y 8) => pl_nn (l := l) (fun e he => by have := fDv_at hI2 hq e he; omega)
        rcases hc.2 with ⟨t1, t2, -⟩ | ⟨t1, t2, -⟩
        · have hm26 : l ∈ ofs (fTl Y o) := by
            unfold t26 at t1
            rw [Bool.and_eq_true] at t1
            exact List.contains_iff_mem.mp t1.1
          have := nX _ (fTl_at hI2 hoY) hm26
          have b' : pl (fDv X o) l ≤ pl (fDv Y o) l := by
            rcases b with b | ⟨b, -⟩
            · rw [b]; exact Int.le_refl _
            · rw [b]; exact nnD o hoY
          rw [t2, pl_nil] at hm
          omega
        · have hm27 : l ∈ ofs (fDv Y o) := (List.dropLast_sublist _).subset (List.contains_iff_mem.mp t1)
          have := nX _ (fDv_at hI2 hoY) hm27
          have a' : pl (fTl X o) l ≤ pl (fTl Y o) l := by
            rcases a with a | ⟨a, -⟩
            · rw [a]; exact Int.le_refl _
            · rw [a]; exact nnT o hoY
          rw [t2, pl_nil] at hm
          omega
      have hz : av Y l ≤ 0 := by
        rcases hc.2 with ⟨-, -, h⟩ | ⟨-, -, h⟩ <;> exact h
      rw [if_neg (by omega)] at h0
      rw [if_pos hz]
      omega
    · rw [if_neg hc] at hle
      split at h0 <;> split <;> omega
  · have h0 := trL_out hI (show sn X 6 ≤ l by omega)
    by_cases hc : o < sn X 8 ∧ (t26 Y o l = true ∧ fTl X o = [] ∧ av Y l ≤ 0 ∨ t27 Y o l = true ∧ fDv X o = [] ∧ av Y l ≤ 0)
    · have hz : av Y l ≤ 0 := by
        rcases hc.2 with ⟨-, -, h⟩ | ⟨-, -, h⟩ <;> exact h
      rw [if_pos hc] at hle
      rw [if_pos hz]
      omega
    · rw [if_neg hc] at hle
      omega
/-- nothing is taken, nothing is delivered -/
theorem lkS.quiet (h : lkS (sn X 8) X Y) (hg : gW z X Y) (hI : iAll z k X) (hI2 : iAll z k2 Y) : gX 0 X Y := h.toX hg hI hI2 (fun w => absurd w (Nat.lt_irrefl _))
end ZF1
