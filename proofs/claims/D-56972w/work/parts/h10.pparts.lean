/-! THE ROOM: a lot's search by the parts below it -/
set_option maxRecDepth 100000
/-- lots of the parts between Q and B -/
def btw (b : Nat → Nat) (B Q : Nat) : Nat := ns B b - ns (Q + 1) b
/-- what a part's lots bring to a search from above: each once anew, and the further visits -/
def pPt (c : Nat → Nat → Nat) (b : Nat → Nat) (mk : Nat → Bool) (B l Q : Nat) : Nat :=
  if 0 < c B Q ∧ 0 < b Q then ns (b Q) (fun i => pP (ns Q (c Q)) (l + btw b B Q + i) (ns Q (ownP c b mk))) + pRep (c B Q) (ns Q (c Q)) (b Q - 1) (l + btw b B Q) (ns Q (ownP c b mk)) else 0
section ZH10
variable {c : Nat → Nat → Nat} {b : Nat → Nat} {mk : Nat → Bool}
theorem own_b {Q : Nat} : 1 + b Q ≤ ownP c b mk Q := by
  unfold ownP
  cases mk Q with
  | true => rw [if_pos rfl]; omega
  | false => rw [if_neg (by decide)]; omega
theorem own_bs : ∀ n : Nat, ns n b + n ≤ ns n (ownP c b mk)
  | 0 => Nat.le_refl _
  | n + 1 => by
    have h1 := own_bs n
    have h2 := own_b (c := c) (b := b) (mk := mk) (Q := n)
    show ns n b + b n + (n + 1) ≤ ns n (ownP c b mk) + ownP c b mk n
    omega
/-- between two numbers of parts -/
theorem own_gap {m n : Nat} (h : m ≤ n) : (ns n b - ns m b) + ns m (ownP c b mk) ≤ ns n (ownP c b mk) := by
  obtain ⟨q, rfl⟩ := Nat.le.dest h
  clear h
  induction q with
  | zero => rw [Nat.add_zero, Nat.sub_self]; omega
  | succ q ih =>
    have h2 := own_b (c := c) (b := b) (mk := mk) (Q := m + q)
    have h3 := ns_up (f := b) (m := m) (n := m + q) (by omega)
    show (ns (m + q) b + b (m + q) - ns m b) + ns m (ownP c b mk) ≤ ns (m + q) (ownP c b mk) + ownP c b mk (m + q)
    omega
theorem pPt_tab (hC : ∀ A : Nat, ns A (c A) ≤ 4) (hbt : ∀ A : Nat, mk A = false → ns A (c A) = 0) {B l : Nat} (h62 : ns B (ownP c b mk) ≤ 62) (h84 : l + ns B (ownP c b mk) ≤ 84) :
    ∀ A : Nat, A ≤ B → ns A (pPt c b mk B l) ≤ pF (ns A (c B)) (l + (ns B b - ns A b)) (ns A (ownP c b mk)) := by
  intro A
  induction A with
  | zero => intro _; exact Nat.zero_le _
  | succ A ih =>
    intro hA
    have ih := ih (by omega)
    have k1 : ns (A + 1) (ownP c b mk) = ns A (ownP c b mk) + ownP c b mk A := rfl
    have k2 : ns (A + 1) (c B) = ns A (c B) + c B A := rfl
    have k3 : ns (A + 1) b = ns A b + b A := rfl
    have u1 := ns_up (f := ownP c b mk) (m := A + 1) (n := B) hA
    have u2 := ns_up (f := b) (m := A + 1) (n := B) hA
    have u3 := ns_up (f := c B) (m := A + 1) (n := B) hA
    have c4 := hC B
    have gap := own_gap (c := c) (b := b) (mk := mk) (m := A + 1) (n := B) hA
    have ob := own_b (c := c) (b := b) (mk := mk) (Q := A)
    have own0 : ownP c b mk A = 1 + ns A (c A) + (if mk A = true then 2 else 1) * b A := rfl
    have el : l + (ns B b - ns A b) = l + btw b B A + b A := by unfold btw; omega
    rw [el] at ih
    show ns A (pPt c b mk B l) + pPt c b mk B l A ≤ pF (ns (A + 1) (c B)) (l + btw b B A) (ns (A + 1) (ownP c b mk))
    have hlb : l + btw b B A + (ns A (ownP c b mk) + ownP c b mk A) ≤ 84 := by unfold btw; omega
    generalize hl2 : l + btw b B A = l2 at *
    have ePt : pPt c b mk B l A = if 0 < c B A ∧ 0 < b A then ns (b A) (fun i => pP (ns A (c A)) (l2 + i) (ns A (ownP c b mk))) + pRep (c B A) (ns A (c A)) (b A - 1) l2 (ns A (ownP c b mk)) else 0 := by
      unfold pPt
      rw [hl2]
    rw [ePt]
    by_cases hp : 0 < c B A ∧ 0 < b A
    · obtain ⟨hc0, hb0⟩ := hp
      rw [if_pos ⟨hc0, hb0⟩]
      obtain ⟨b', hb'⟩ : ∃ b' : Nat, b A = b' + 1 := ⟨b A - 1, by omega⟩
      rw [k1, k2, Nat.add_comm (ns A (c B)) (c B A)]
      cases hm : mk A with
      | true =>
        have eo : ownP c b mk A = 3 + 2 * b' + ns A (c A) := by rw [own0, if_pos hm, hb']; omega
        have Q := F_made (d := ns A (c A)) (c1 := c B A) (f := ns A (c B)) (b := b') (l := l2) (k := ns A (ownP c b mk)) (hC A) hc0 (by omega) (by omega) (by omega)
        rw [hb', Nat.add_sub_cancel, eo]
        rw [hb'] at ih
        omega
      | false =>
        have eo : ownP c b mk A = 2 + b' := by rw [own0, if_neg (by rw [hm]; decide), hb', hbt A hm]; omega
        have Q := F_bought (c1 := c B A) (f := ns A (c B)) (b := b') (l := l2) (k := ns A (ownP c b mk)) hc0 (by omega) (by omega) (by omega)
        rw [hb', Nat.add_sub_cancel, eo, hbt A hm]
        rw [hb'] at ih
        omega
    · rw [if_neg hp, Nat.add_zero]
      refine Nat.le_trans ih ?_
      have h1 := pF_skip (c := ns A (c B)) (by omega) (ownP c b mk A) (b A) l2 (ns A (ownP c b mk)) (by omega) (by omega) (by omega)
      have h2 := pF_ups (c := ns A (c B)) (l := l2) (k := ns A (ownP c b mk) + ownP c b mk A) (c B A) (by omega) (by omega) (by omega)
      rw [k1, k2]
      omega
end ZH10
