/-! THE ACCOUNT: what counts the calls that make something; calls that make nothing of the kind -/
set_option maxRecDepth 100000
/-- parts, components, bought lots, orders -/
def cq (X Y : hS) : Prop := sE Y 21 0 = sE X 21 0 ∧ sn Y 2 = sn X 2 ∧ (∀ i : Nat, sE Y 24 i = sE X 24 i) ∧ sT Y 0 5 0 = sT X 0 5 0 ∧ sn Y 8 = sn X 8
/-- made orders that were released; delivered ones -/
def rb (z : Nat → Nat) (X : hS) (o : Nat) : Bool := decide ((sT X 8 1 o).toNat % 2 = 0 ∧ sT X 8 7 o ≠ (z 0 : Nat) ∧ sT X 8 7 o ≠ (z 1 : Nat))
def db (z : Nat → Nat) (X : hS) (o : Nat) : Bool := decide (sT X 8 7 o = (z 5 : Nat))
def cmN (X : hS) : Nat := ns (sn X 2) (fun i => (sE X 24 i).length)
def rlN (z : Nat → Nat) (X : hS) : Nat := ns (sn X 8) (fun o => if rb z X o = true then 1 else 0)
def dlN (z : Nat → Nat) (X : hS) : Nat := ns (sn X 8) (fun o => if db z X o = true then 1 else 0)
def cn (z : Nat → Nat) (X : hS) : Nat := np X + cmN X + (sT X 0 5 0).toNat + sn X 8 + rlN z X + dlN z X
/-- orders' stages, but for one of them -/
def ky (z : Nat → Nat) (X Y : hS) (e : Nat) : Prop := ∀ o : Nat, o < sn X 8 → o ≠ e → (rb z Y o = true → rb z X o = true) ∧ (db z Y o = true → db z X o = true)
section ZG4
variable {z : Nat → Nat} {k k2 o l e : Nat} {X Y S S2 T G : hS}
theorem cq.refl : cq X X := ⟨rfl, rfl, fun _ => rfl, rfl, rfl⟩
theorem cq.trans (h : cq X Y) (g : cq Y S) : cq X S := ⟨g.1.trans h.1, g.2.1.trans h.2.1, fun i => (g.2.2.1 i).trans (h.2.2.1 i), g.2.2.2.1.trans h.2.2.2.1, g.2.2.2.2.trans h.2.2.2.2⟩
theorem cq.ff (h : ffr X Y) : cq X Y := ⟨h.2.2 21 0 (by decide), h.1 2 (by decide), fun i => h.2.2 24 i (by decide), h.2.1 0 5 0 (by decide), h.1 8 (by decide)⟩
theorem cq.cl (h : ∀ c : Nat, c = 0 ∨ c = 2 ∨ c = 8 ∨ c = 21 ∨ c = 24 → ceq X Y c) : cq X Y := ⟨(h 21 (by decide)).2.2 0, (h 2 (by decide)).1, fun i => (h 24 (by decide)).2.2 i, (h 0 (by decide)).2.1 5 0, (h 8 (by decide)).1⟩
theorem one_le : ∀ n : Nat, ns n (fun i => if i = e then 1 else 0) ≤ 1
  | 0 => Nat.zero_le _
  | n + 1 => by
    show ns n _ + (if n = e then 1 else 0) ≤ 1
    have := one_le n
    by_cases h : n = e
    · rw [if_pos h]
      have h0 : ns n (fun i => if i = e then 1 else 0) = 0 := (ns_cg (g := fun _ => 0) (fun i hi => if_neg (by omega))).trans (ns_zero _)
      omega
    · rw [if_neg h]; omega
theorem ns_bump {n : Nat} {f g : Nat → Nat} (h : ∀ i : Nat, i < n → g i ≤ f i + if i = e then 1 else 0) : ns n g ≤ ns n f + 1 := by
  have h1 := ns_le h
  rw [ns_add] at h1
  have := one_le (e := e) n
  omega
theorem ite01 {a b : Bool} (h : a = true → b = true) : (if a = true then 1 else 0) ≤ (if b = true then 1 else 0 : Nat) := by
  cases a with
  | true => rw [h rfl]; exact Nat.le_refl _
  | false => exact Nat.zero_le _
theorem ite1 {a : Bool} : (if a = true then 1 else 0 : Nat) ≤ 1 := by cases a <;> decide
theorem cn_keep (hq : cq X Y) (hk : ∀ o : Nat, o < sn X 8 → (rb z Y o = true → rb z X o = true) ∧ (db z Y o = true → db z X o = true)) : cn z Y ≤ cn z X := by
  obtain ⟨h1, h2, h3, h4, h5⟩ := hq
  have e1 : np Y = np X := by show (sE Y 21 0).length = _; rw [h1]
  have e2 : cmN Y = cmN X := by
    unfold cmN
    rw [h2]
    exact ns_cg (fun i _ => by rw [h3])
  have e3 : rlN z Y ≤ rlN z X := by
    unfold rlN
    rw [h5]
    exact ns_le (fun o ho => ite01 (hk o ho).1)
  have e4 : dlN z Y ≤ dlN z X := by
    unfold dlN
    rw [h5]
    exact ns_le (fun o ho => ite01 (hk o ho).2)
  unfold cn
  rw [e1, e2, h4, h5]
  omega
theorem cn_x (hq : cq X Y) (hk : ky z X Y e) (he : (rb z Y e = true → rb z X e = true) ∨ (db z Y e = true → db z X e = true)) : cn z Y ≤ cn z X + 1 := by
  obtain ⟨h1, h2, h3, h4, h5⟩ := hq
  have e1 : np Y = np X := by show (sE Y 21 0).length = _; rw [h1]
  have e2 : cmN Y = cmN X := by
    unfold cmN
    rw [h2]
    exact ns_cg (fun i _ => by rw [h3])
  have b1 : rlN z Y ≤ rlN z X + 1 := by
    unfold rlN
    rw [h5]
    refine ns_bump (e := e) (fun o ho => ?_)
    by_cases w : o = e
    · rw [if_pos w]
      have := ite1 (a := rb z Y o)
      omega
    · rw [if_neg w]
      exact ite01 (hk o ho w).1
  have b2 : dlN z Y ≤ dlN z X + 1 := by
    unfold dlN
    rw [h5]
    refine ns_bump (e := e) (fun o ho => ?_)
    by_cases w : o = e
    · rw [if_pos w]
      have := ite1 (a := db z Y o)
      omega
    · rw [if_neg w]
      exact ite01 (hk o ho w).2
  have b3 : rlN z Y ≤ rlN z X ∨ dlN z Y ≤ dlN z X := by
    rcases he with w | w
    · left
      unfold rlN
      rw [h5]
      refine ns_le (fun o ho => ?_)
      by_cases u : o = e
      · rw [u]; exact ite01 w
      · exact ite01 (hk o ho u).1
    · right
      unfold dlN
      rw [h5]
      refine ns_le (fun o ho => ?_)
      by_cases u : o = e
      · rw [u]; exact ite01 w
      · exact ite01 (hk o ho u).2
  unfold cn
  rw [e1, e2, h4, h5]
  omega
/-- stages that stay, or go back -/
theorem kE.ky (hz : zInj z) (h : kE z X Y) (h1 : ∀ o : Nat, o < sn X 8 → sT Y 8 1 o = sT X 8 1 o) : ∀ o : Nat, o < sn X 8 → (rb z Y o = true → rb z X o = true) ∧ (db z Y o = true → db z X o = true) := fun o ho => by
  obtain ⟨a, b⟩ := h
  have e1 := h1 o ho
  unfold rb db
  rw [e1]
  refine ⟨fun w => ?_, fun w => ?_⟩
  · obtain ⟨w1, w2, w3⟩ := of_decide_eq_true w
    refine decide_eq_true ⟨w1, ?_⟩
    rcases (b o).1 with u | u | u
    · rw [← u]; exact ⟨w2, w3⟩
    · exact absurd u w2
    · exact absurd u w3
  · have w := of_decide_eq_true w
    refine decide_eq_true ?_
    rcases (b o).1 with u | u | u
    · rw [← u]; exact w
    · have := hz 5 0 (by decide) (by decide) (by omega)
      omega
    · have := hz 5 1 (by decide) (by decide) (by omega)
      omega
/-- both: nothing is made, stages stay or go back -/
def kC (z : Nat → Nat) (X Y : hS) : Prop := kE z X Y ∧ cq X Y
theorem kC.refl : kC z X X := ⟨kE.refl, cq.refl⟩
theorem kC.trans (h : kC z X Y) (g : kC z Y S) : kC z X S := ⟨h.1.trans g.1, h.2.trans g.2⟩
theorem kC.ff (h : ffr X Y) : kC z X Y := ⟨.ff h, .ff h⟩
theorem kC.cl (h : ∀ c : Nat, c = 0 ∨ c = 2 ∨ c = 8 ∨ c = 21 ∨ c = 24 → ceq X Y c) : kC z X Y := ⟨.cq (h 8 (by decide)), .cl h⟩
theorem kC.le (hz : zInj z) (h : kC z X Y) (g : gW z X Y) : cn z Y ≤ cn z X := cn_keep h.2 (h.1.ky hz (fun o ho => g.2.2.1.2 1 o ho (by decide)))
theorem cq_fr : cq X (fFr z X o) := by
  refine ⟨?_, fFr_sn, fun i => ?_, fFr_sT (by omega) (by omega), fFr_sn⟩
  · show sE (fTakeBack X o) 21 0 = _
    rw [fTB_sE, if_neg (by omega)]
  · show sE (fTakeBack X o) 24 i = _
    rw [fTB_sE, if_neg (by omega)]
theorem cq_lose : ∀ n : Nat, cq X (fLoseN z X n).1 := by
  intro n
  induction n with
  | zero => exact cq.refl
  | succ n ih =>
    have sF : fLoseN z X (n + 1) = fLoseStep z (fLoseN z X n) n := fLoseN_succ'
    unfold fLoseStep at sF
    cases e : fLoses z (fLoseN z X n).1 n with
    | false =>
      rw [e, if_neg (by decide)] at sF
      rw [sF]; exact ih
    | true =>
      rw [e, if_pos rfl] at sF
      rw [sF]
      exact ih.trans cq_fr
theorem kC_lose (n : Nat) : kC z X (fLoseN z X n).1 := ⟨kE_lose n, cq_lose n⟩
theorem chF.kC {c i : Nat} (h : chF X Y c i) (hc : c = 2 ∨ c = 3) : _root_.Jvm.Pilot.CFoundrymarkLaw_law_r2382_07130c.kC z X Y := by
  refine ⟨.sm (h.same hc), ?_⟩
  obtain ⟨a, b, d, f⟩ := h
  have u : ∀ x : Nat, x ≠ 2 → x ≠ 3 → ceq X Y x := fun x h2 h3 => a x (by omega)
  refine ⟨(u 21 (by decide) (by decide)).2.2 0, ?_, fun i => (u 24 (by decide) (by decide)).2.2 i, (u 0 (by decide) (by decide)).2.1 5 0, (u 8 (by decide) (by decide)).1⟩
  rcases hc with rfl | rfl
  · exact b
  · exact (a 2 (by decide)).1
theorem hl_kC {i : Nat} {on : Bool} : kC z X (fHl X i on) := ⟨.sm hl_same, ⟨rfl, rfl, fun _ => rfl, by unfold fHl; rw [sT_set, if_neg (by omega)], rfl⟩⟩
theorem ra_kC (hz : zInj z) (hI : iAll z k S) (ho : o < sn S 8) (hmd : (sT S 8 1 o).toNat % 2 = 0) (hst : sT S 8 7 o = (z 0 : Nat)) : kC z S (fRA z S o).1 := by
  refine ⟨kE_ra hz hI ho hst, ?_⟩
  obtain ⟨p1, p2⟩ := hI.cp1 ho hmd
  have hem : sE S 26 (fOL S o) = [] := (hI.em o ho).1 hst
  by_cases hok : (fRA z S o).2.1 = true
  · obtain ⟨T, e, h, -⟩ := raG hem p1 p2 hok
    rw [e]
    obtain ⟨a1, a2, a3, a4, -⟩ := h
    refine ⟨a3 21 0 (by decide) (by omega), a1 2 (by decide), fun i => a3 24 i (by decide) (by omega), ?_, a1 8 (by decide)⟩
    rw [sT_set, if_neg (by omega)]
    exact a4 0 5 0 (by decide) (by omega)
  · obtain ⟨T, e, h⟩ := raG0 (z := z) hem p1 p2 (by cases hh : (fRA z S o).2.1 with
      | true => exact absurd hh hok
      | false => rfl)
    rw [e]
    obtain ⟨a1, a2, a3, a4, -⟩ := h
    refine ⟨?_, fTB_sn.trans (a1 2 (by decide)), fun i => ?_, ?_, fTB_sn.trans (a1 8 (by decide))⟩
    · rw [fTB_sE, if_neg (by omega)]; exact a3 21 0 (by decide) (by omega)
    · rw [fTB_sE, if_neg (by omega)]; exact a3 24 i (by decide) (by omega)
    · rw [fTB_sT (by omega)]; exact a4 0 5 0 (by decide) (by omega)
theorem relT_kC (hz : zInj z) (hI : iAll z k S) (ho : o < sn S 8) (hmd : (sT S 8 1 o).toNat % 2 = 0) : kC z S (fRelT z S o).1 := by
  unfold fRelT
  split
  · rename_i h
    exact ra_kC hz hI ho hmd (of_decide_eq_true h)
  · exact kC.refl
end ZG4
