/-! THE ACCOUNT: the bound that is carried, and how its parts move -/
set_option maxRecDepth 100000
/-- what was made, and deliveries -/
def cb (z : Nat → Nat) (X : hS) : Nat := np X + cmN X + (sT X 0 5 0).toNat + sn X 8 + dlN z X
/-- the bound -/
def bnd (z : Nat → Nat) (X : hS) (n n1 h q : Nat) (ch : Nat → Bool) : Nat :=
  n * (smS X + sn X 6 + FW X) + n1 * PW X + DLs z X + RLs X ch + q * MG X + h * (2 * HX X ch + (4 * sn X 8 + 3))
def AccC (z : Nat → Nat) (k : Nat) (X : hS) (T : Nat) (c : Ctr) : Prop :=
  c.1 + c.2.1 + c.2.2.1 + cb z X + chN X c.2.2.2 ≤ k ∧ (∀ o : Nat, o < sn X 8 → sb z X o = true → c.2.2.2 o = true) ∧ (∀ o : Nat, c.2.2.2 o = true → o < sn X 8 ∧ (sT X 8 1 o).toNat % 2 = 0) ∧
  ∃ n1 : Nat, n1 ≤ c.1 ∧ (n1 = 0 ∨ 1 ≤ c.2.2.1 ∨ ∃ o : Nat, c.2.2.2 o = true ∧ rb z X o = false) ∧ T ≤ bnd z X c.1 n1 c.2.1 c.2.2.1 c.2.2.2 + 9 * k
section ZG17
variable {z : Nat → Nat} {k k2 o l e v n n1 h q : Nat} {X Y S S2 T : hS} {ch ch' : Nat → Bool}
theorem db_stay (hz : zInj z) (g : gW z X Y) (ho : o < sn X 8) (hb : db z X o = true) : db z Y o = true := by
  have h5 := of_decide_eq_true hb
  obtain ⟨⟨s', ⟨g1, g2⟩, g3, g4⟩, -⟩ := g.2.2.2.2.2.2.2.2.1 o 5 ho (by decide) (by decide) h5
  have : s' = 5 := by have := g2 (by decide); omega
  rw [this] at g4
  exact decide_eq_true g4
theorem rb_stay (hz : zInj z) (g : gW z X Y) (hO : iOr z X) (ho : o < sn X 8) (hb : rb z X o = true) : rb z Y o = true := by
  obtain ⟨w1, w2, w3⟩ := of_decide_eq_true hb
  obtain ⟨s, s6, hs⟩ := (hO o ho).2.2.2.2.2.2.2.1
  have s2 : 2 ≤ s := by
    rcases Nat.lt_or_ge s 2 with a | a
    · have : s = 0 ∨ s = 1 := by omega
      rcases this with rfl | rfl
      · exact absurd hs w2
      · exact absurd hs w3
    · exact a
  obtain ⟨⟨s', ⟨g1, -⟩, g3, g4⟩, -⟩ := g.2.2.2.2.2.2.2.2.1 o s ho s2 s6 hs
  refine decide_eq_true ⟨by rw [g.2.2.1.2 1 o ho (by decide)]; exact w1, fun w => ?_, fun w => ?_⟩
  · have := hz s' 0 (by omega) (by decide) (by omega)
    omega
  · have := hz s' 1 (by omega) (by decide) (by omega)
    omega
theorem rlN_gW (hz : zInj z) (g : gW z X Y) (hO : iOr z X) : rlN z X ≤ rlN z Y := by
  refine Nat.le_trans ?_ (ns_up g.2.2.1.1)
  exact ns_le (fun o ho => ite01 (fun w => rb_stay hz g hO ho w))
theorem cb_of (hz : zInj z) (g : gW z X Y) (hO : iOr z X) (h : cn z Y ≤ cn z X + e) : cb z Y ≤ cb z X + e := by
  have := rlN_gW hz g hO
  unfold cn at h
  unfold cb
  omega
theorem cb_cq (hq : cq X Y) (hd : ∀ o : Nat, o < sn X 8 → db z Y o = true → db z X o = true) : cb z Y ≤ cb z X := by
  obtain ⟨h1, h2, h3, h4, h5⟩ := hq
  have e1 : np Y = np X := by show (sE Y 21 0).length = _; rw [h1]
  have e2 : cmN Y = cmN X := by
    unfold cmN
    rw [h2]
    exact ns_cg (fun i _ => by rw [h3])
  have e4 : dlN z Y ≤ dlN z X := by
    unfold dlN
    rw [h5]
    exact ns_le (fun o ho => ite01 (hd o ho))
  unfold cb
  rw [e1, e2, h4, h5]
  omega
theorem ns_tail {f : Nat → Nat} : ∀ {m n : Nat}, m ≤ n → (∀ i : Nat, m ≤ i → i < n → f i = 0) → ns n f = ns m f := by
  intro m n h
  obtain ⟨d, rfl⟩ := Nat.le.dest h
  clear h
  induction d with
  | zero => intro _; rfl
  | succ d ih =>
    intro h
    show ns (m + d) f + f (m + d) = _
    rw [ih (fun i h1 h2 => h i h1 (by omega)), h (m + d) (by omega) (by omega), Nat.add_zero]
theorem chN_up (hle : sn X 8 ≤ sn Y 8) (hc : ∀ o : Nat, ch o = true → o < sn X 8) : chN Y ch = chN X ch := ns_tail hle (fun i h1 _ => if_neg (fun w => by have := hc i w; omega))
theorem up_self : (if v = v then true else ch v) = true := if_pos rfl
theorem chN_add (hv : v < sn X 8) (h0 : ch v = false) : chN X (fun o => if o = v then true else ch o) = chN X ch + 1 := by
  unfold chN
  have key : ns (sn X 8) (fun o => if (if o = v then true else ch o) = true then 1 else 0) = ns (sn X 8) (fun o => if ch o = true then 1 else 0) + ns (sn X 8) (fun i => if i = v then 1 else 0) := by
    rw [← ns_add]
    refine ns_cg (fun o _ => ?_)
    by_cases w : o = v
    · subst w
      rw [up_self, if_pos rfl, if_pos rfl, h0, if_neg Bool.false_ne_true]
    · rw [if_neg w, if_neg w, Nat.add_zero]
  rw [ns_one hv] at key
  exact key
theorem RLs_add (hv : v < sn X 8) (h0 : ch v = false) : RLs X (fun o => if o = v then true else ch o) = RLs X ch + (2 * EWs X (pO X v) + 20 * sn X 6 + 31) := by
  unfold RLs
  have key : ns (sn X 8) (fun o => if (if o = v then true else ch o) = true then 2 * EWs X (pO X o) + 20 * sn X 6 + 31 else 0) = ns (sn X 8) (fun o => if ch o = true then 2 * EWs X (pO X o) + 20 * sn X 6 + 31 else 0) + ns (sn X 8) (fun i => if i = v then 2 * EWs X (pO X v) + 20 * sn X 6 + 31 else 0) := by
    rw [← ns_add]
    refine ns_cg (fun o _ => ?_)
    by_cases w : o = v
    · subst w
      rw [up_self, if_pos rfl, if_pos rfl, h0, if_neg Bool.false_ne_true, Nat.zero_add]
    · rw [if_neg w, if_neg w]
      exact (Nat.add_zero _).symm
  rw [ns_one hv] at key
  exact key
theorem HX_le (hch : ∀ o : Nat, ch o = true → ch' o = true) : HX X ch ≤ HX X ch' := ns_le (fun p _ => ho_mono p _ _ (ns_le (fun o _ => by
  by_cases w : ch o = true ∧ pO X o = p
  · rw [if_pos w, if_pos ⟨hch o w.1, w.2⟩]
    exact Nat.le_refl _
  · rw [if_neg w]; exact Nat.zero_le _)))
theorem cap_gW (g : gW z X Y) (hI : iAll z k X) (hI2 : iAll z k2 Y) (hmk : ∀ B : Nat, B < np X → mkL Y B = mkL X B) : (∀ B : Nat, bL X B ≤ bL Y B) ∧ ∀ B : Nat, capL X B ≤ capL Y B := by
  have hb : ∀ B : Nat, bL X B ≤ bL Y B := fun B => by
    unfold bL
    refine Nat.le_trans (Nat.le_of_eq ?_) (ns_up g.1.1)
    exact ns_cg (fun l hl => by rw [ptL_gW g hI hl])
  refine ⟨hb, fun B => ?_⟩
  by_cases hB : B < np X
  · unfold capL capP
    rw [hmk B hB]
    exact Nat.mul_le_mul_left _ (hb B)
  · have h0 : bL X B = 0 := by
      unfold bL
      refine (ns_cg (g := fun _ => 0) (fun l hl => if_neg (fun w => ?_))).trans (ns_zero _)
      obtain ⟨p, hp, -, -, e⟩ := ptL_at hI hl
      omega
    unfold capL capP
    rw [h0, Nat.mul_zero]
    exact Nat.zero_le _
theorem mkL_gW (g : gW z X Y) {B : Nat} (hB : B < np X) : mkL Y B = mkL X B := by
  unfold mkL
  rw [g.2.2.2.2.2.2.1.2 B hB]
theorem HX_gW (g : gW z X Y) (hI : iAll z k X) (hI2 : iAll z (k + 1) Y) : HX X ch ≤ HX Y ch := by
  obtain ⟨h1, h2⟩ := cap_gW g hI hI2 (fun B hB => mkL_gW g hB)
  refine Nat.le_trans ?_ (ns_up g.2.2.2.2.2.2.1.1)
  exact ns_le (fun p _ => ho_grow (c := cT X) (c' := cT Y) (fun A B => cT_le_gW g hI) h1 h2 p _ _ (xN_gW g hI hI2))
/-- the bound grows with the state -/
theorem bnd_gW (hz : zInj z) (g : gW z X Y) (hI : iAll z k X) (hI2 : iAll z (k + 1) Y) : bnd z X n n1 h q ch ≤ bnd z Y n n1 h q ch := by
  have a1 := smS_gW g
  have a2 := g.1.1
  have a3 := FW_gW g hI
  have a4 := PW_gW g hI
  have a5 := DLs_gW g hI hI2 (fun o ho hb => db_stay hz g ho hb)
  have a6 := RLs_gW (ch := ch) g hI hI2
  have a7 := MG_gW g hI
  have a8 := HX_gW (ch := ch) g hI hI2
  have a9 := g.2.2.1.1
  have b1 : n * (smS X + sn X 6 + FW X) ≤ n * (smS Y + sn Y 6 + FW Y) := Nat.mul_le_mul_left n (by omega)
  have b2 : n1 * PW X ≤ n1 * PW Y := Nat.mul_le_mul_left n1 a4
  have b3 : q * MG X ≤ q * MG Y := Nat.mul_le_mul_left q a7
  have b4 : h * (2 * HX X ch + (4 * sn X 8 + 3)) ≤ h * (2 * HX Y ch + (4 * sn Y 8 + 3)) := Nat.mul_le_mul_left h (by omega)
  unfold bnd
  omega
theorem bnd_n : bnd z X (n + 1) n1 h q ch = bnd z X n n1 h q ch + (smS X + sn X 6 + FW X) := by unfold bnd; rw [Nat.add_mul, Nat.one_mul]; omega
theorem bnd_n1 : bnd z X n (n1 + 1) h q ch = bnd z X n n1 h q ch + PW X := by unfold bnd; rw [Nat.add_mul, Nat.one_mul]; omega
theorem bnd_q : bnd z X n n1 h (q + 1) ch = bnd z X n n1 h q ch + MG X := by unfold bnd; rw [Nat.add_mul, Nat.one_mul]; omega
theorem bnd_h : bnd z X n n1 (h + 1) q ch = bnd z X n n1 h q ch + (2 * HX X ch + (4 * sn X 8 + 3)) := by unfold bnd; rw [Nat.add_mul, Nat.one_mul]; omega
theorem bnd_c (hv : v < sn X 8) (h0 : ch v = false) : bnd z X n n1 h q ch + (2 * EWs X (pO X v) + 20 * sn X 6 + 31) ≤ bnd z X n n1 h q (fun o => if o = v then true else ch o) := by
  have h1 := RLs_add hv h0
  have h2 : HX X ch ≤ HX X (fun o => if o = v then true else ch o) := HX_le (fun o w => by
    by_cases e : o = v
    · exact if_pos e
    · show (if o = v then true else ch o) = true
      rw [if_neg e]; exact w)
  have h3 : h * (2 * HX X ch + (4 * sn X 8 + 3)) ≤ h * (2 * HX X (fun o => if o = v then true else ch o) + (4 * sn X 8 + 3)) := Nat.mul_le_mul_left h (by omega)
  unfold bnd
  rw [h1]
  omega
/-- a delivery is put to the account -/
theorem bnd_d (hz : zInj z) (g : gW z X Y) (hI : iAll z k X) (hI2 : iAll z (k + 1) Y) (hv : v < sn X 8) (h0 : db z X v = false) (h1 : db z Y v = true) : bnd z X n n1 h q ch + (2 * sA X (pO X v) + 4 * sn X 6 + 15) ≤ bnd z Y n n1 h q ch := by
  have a1 := smS_gW g
  have a2 := g.1.1
  have a3 := FW_gW g hI
  have a4 := PW_gW g hI
  have a6 := RLs_gW (ch := ch) g hI hI2
  have a7 := MG_gW g hI
  have a8 := HX_gW (ch := ch) g hI hI2
  have a9 := g.2.2.1.1
  have a5 : DLs z X + (2 * sA X (pO X v) + 4 * sn X 6 + 15) ≤ DLs z Y := by
    refine Nat.le_trans ?_ (ns_up a9)
    unfold DLs
    have e := ns_one (n := sn X 8) (j := v) (v := 2 * sA X (pO X v) + 4 * sn X 6 + 15) hv
    rw [← e, ← ns_add]
    refine ns_le (fun o ho => ?_)
    have hs := sA_gW (A := pO X o) g hI
    have hp := pO_gW g hI hI2 ho
    by_cases w : o = v
    · subst w
      rw [h0, if_neg Bool.false_ne_true, if_pos rfl, if_pos h1, hp]
      omega
    · rw [if_neg w]
      by_cases d : db z X o = true
      · rw [if_pos d, if_pos (db_stay hz g ho d), hp]
        omega
      · rw [if_neg d]; exact Nat.zero_le _
  have b1 : n * (smS X + sn X 6 + FW X) ≤ n * (smS Y + sn Y 6 + FW Y) := Nat.mul_le_mul_left n (by omega)
  have b2 : n1 * PW X ≤ n1 * PW Y := Nat.mul_le_mul_left n1 a4
  have b3 : q * MG X ≤ q * MG Y := Nat.mul_le_mul_left q a7
  have b4 : h * (2 * HX X ch + (4 * sn X 8 + 3)) ≤ h * (2 * HX Y ch + (4 * sn Y 8 + 3)) := Nat.mul_le_mul_left h (by omega)
  unfold bnd
  omega
end ZG17
