/-! THE ROOM: many delivered lots together -/
set_option maxRecDepth 100000
/-- entries of the lots R on y -/
def mZ (X : hS) (R : List Nat) (y : Nat) : Nat := (R.map (fun r => eL X r y)).sum
section ZF21
variable {z : Nat → Nat} {k w : Nat} {X : hS} {B : Nat}
theorem tops_lam (hI : iAll z k X) {f : Nat → Nat} : ∀ R : List Nat, (∀ r ∈ R, r < sn X 6) → (R.map (fun r => ((fch X r).map f).sum)).sum = ns (sn X 6) (fun y => mZ X R y * f y)
  | [], _ => by
    refine ((ns_cg (g := fun _ => 0) (fun y _ => ?_)).trans (ns_zero _)).symm
    show 0 * f y = 0
    rw [Nat.zero_mul]
  | r :: R, h => by
    rw [List.map_cons, List.sum_cons, tops_lam hI R (fun x hx => h x (List.mem_cons_of_mem _ hx)), ns_mapsum (n := sn X 6) (fch X r) (hI.chlt r (h r List.mem_cons_self)), ← ns_add]
    refine ns_cg (fun y _ => ?_)
    unfold mZ
    rw [List.map_cons, List.sum_cons, Nat.add_mul]
    rfl
/-- an entry is a piece at least -/
theorem mZ_q (hI : iAll z k X) (hL : iLt z X) (hC : iCk X) {R : List Nat} (hnd : R.Nodup) (hR : ∀ r ∈ R, r < sn X 6) {y : Nat} (hy : y < sn X 6) : mZ X R y ≤ qL X y := by
  have h1 := ns_mem (n := sn X 6) (P := fun _ => True) (f := fun r => eL X r y) hnd (fun r hr => ⟨hR r hr, trivial⟩)
  refine Nat.le_trans h1 (Nat.le_trans (ns_le (fun r hr => ?_)) ((flT hI hL hC).2.2.1 y hy))
  rw [if_pos trivial]
  exact eL_pcL hI hr
/-- all entries on a part's lots -/
theorem mZ_sum (hI : iAll z k X) (hL : iLt z X) (hC : iCk X) (hX : iX w X) {R : List Nat} (hnd : R.Nodup) (hR : ∀ r ∈ R, r < sn X 6) :
    pS (sn X 6) (ptL X) B (fun _ => true) (mZ X R) ≤ (R.map (fun y => cL X (ptL X y) B)).sum + (bL X B - 1) * (w + 1) := by
  refine Nat.le_trans (Nat.le_of_eq ?_) (tops_tr (B := B) hI hL hC hX R hnd hR)
  have key : ∀ R : List Nat, pS (sn X 6) (ptL X) B (fun _ => true) (mZ X R) = (R.map (fun y => pS (sn X 6) (ptL X) B (fun _ => true) (eL X y))).sum := by
    intro R
    induction R with
    | nil =>
      unfold pS
      refine (ns_cg (g := fun _ => 0) (fun y _ => ?_)).trans (ns_zero _)
      split <;> rfl
    | cons r R ih =>
      rw [List.map_cons, List.sum_cons, ← ih, ← pS_add]
      rfl
  exact key R
/-- all lots looked for in the lots R -/
theorem tops_cost (hI : iAll z k X) (hL : iLt z X) (hC : iCk X) {R : List Nat} (hR : ∀ r ∈ R, r < sn X 6) (hk : ∀ r ∈ R, ∀ B : Nat, 0 < cT X (ptL X r) B → kB X B ≤ 62) :
    (R.map (fun r => ((allL X).map (fun x => iw (fch X) 100 x r)).sum)).sum ≤ R.length * sn X 6 + ns (sn X 6) (fun y => mZ X R y * (lam X y * nT X y)) + (R.map (fun r => ns (np X) (fun B => if 0 < cT X (ptL X r) B then eaS X (nboA X) B (nlb X B) else 0))).sum := by
  rw [← tops_lam hI R hR]
  induction R with
  | nil => exact Nat.zero_le _
  | cons r R ih =>
    have h1 := ih (fun x hx => hR x (List.mem_cons_of_mem _ hx)) (fun x hx => hk x (List.mem_cons_of_mem _ hx))
    have h2 := top_cost hI hL hC (hR r List.mem_cons_self) (hk r List.mem_cons_self)
    rw [List.map_cons, List.sum_cons, List.map_cons, List.sum_cons, List.map_cons, List.sum_cons, List.length_cons, Nat.add_mul, Nat.one_mul]
    omega
end ZF21
