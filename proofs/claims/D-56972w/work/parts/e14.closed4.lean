/-! THE ROOM: a lot's nodes below the table, the lots outside a closed set not counted -/
set_option maxRecDepth 100000
section ZE14
variable {z : Nat → Nat} {k : Nat} {X : hS} {Kf : Nat → Bool} {c : Nat → Nat → Nat} {b cap cap' : Nat → Nat}
theorem hoN_cg : ∀ n A R : Nat, (∀ B : Nat, B < A → cap B = cap' B) → hoN c b cap n A R = hoN c b cap' n A R := by
  intro n
  induction n with
  | zero => intro A R _; rfl
  | succ n ih =>
    intro A R h
    show ns A _ = ns A _
    refine ns_cg (fun B hB => ?_)
    rw [h B hB, ih B _ (fun C hC => h C (by omega))]
theorem ho_cg {A R : Nat} (h : ∀ B : Nat, B < A → cap B = cap' B) : ho c b cap A R = ho c b cap' A R := hoN_cg A A R h
theorem capK_eq {B : Nat} (hB : B < np X) : capKx X Kf B = capP (bKx X Kf) (mkL X) B := by
  unfold capKx capP bKx
  rw [if_pos hB, if_pos hB]
/-- one lot of a closed set, below the table -/
theorem nT_tab (hI : iAll z k X) (hL : iLt z X) (hC : iCk X) (hcl : ∀ y l : Nat, Kf y = true → l ∈ fch X y → Kf l = true) {y : Nat} (hy : y < sn X 6) (hk : Kf y = true) (h62 : ns (ptL X y) (ownP (cT X) (bKx X Kf) (mkL X)) ≤ 62) :
    nT X y ≤ 1 + jt 0 (ns (ptL X y) (cT X (ptL X y))) 0 (ns (ptL X y) (ownP (cT X) (bKx X Kf) (mkL X))) := by
  obtain ⟨p, hp, -, -, e3⟩ := ptL_at hI hy
  have h1 := nT_K hI hL hC hcl hy hk
  rw [ho_cg (cap' := capP (bKx X Kf) (mkL X)) (fun B hB => capK_eq (by omega))] at h1
  have h2 := (skel_tab (c := cT X) (b := bKx X Kf) (mk := mkL X) (fun A => (skC hI A).1) (fun A hA => (skC hI A).2 hA) (ptL X y) h62).1 0 0 (by decide) (by decide)
  have g1 : gR 0 = 1 := by decide
  rw [g1] at h2
  omega
end ZE14
