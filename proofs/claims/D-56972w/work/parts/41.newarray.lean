/-! THE INTERPRETER: new arrays (of some millions of places at most) -/
/-- by the opcode's type: the kind's number, the contents, a place's bytes -/
def zb_new (t : ArrayType) (n : Nat) : Option (Nat × vp_A) := match t with
  | .int => some (0, (n, .inl (fun _ => 0)))
  | .boolean => some (2, (n, .inl (fun _ => 0)))
  | .char => some (3, (n, .inl (fun _ => 0)))
  | .long => some (4, (n, .inr (.inl (fun _ => 0))))
  | .double => some (5, (n, .inr (.inr (.inr (.inl (fun _ => 0))))))
  | _ => none
def zb_step (t : ArrayType) (pc : Nat) (lv : zp_L) (st : List Value) (j : Int32) (σ : zS) : Option (zp_F × zS) :=
  if ¬ j < 0 ∧ j.toNatClampNeg ≤ 1000000 then match zb_new t j.toNatClampNeg with
    | some x => some ((pc + 2, lv, .ref σ.2.1 :: st), (zw_up σ.1 σ.2.1 (.inl x), σ.2.1 + 1, σ.2.2 + j.toNatClampNeg))
    | none => none
  else none
/-- an array of references, by the name of its elements' class -/
def zb_kind (C : String) : Option Nat := if C = "java/lang/Object" then some 1 else if C = "Foundrymark$Supplier" then some 6 else none
def zb_astep (own idx : Nat) (pc : Nat) (lv : zp_L) (st : List Value) (j : Int32) (σ : zS) : Option (zp_F × zS) :=
  if ¬ j < 0 ∧ j.toNatClampNeg ≤ 1000000 then match zl_at own idx with
    | some C => match zb_kind C with
      | some kd => some ((pc + 3, lv, .ref σ.2.1 :: st), (zw_up σ.1 σ.2.1 (.inl (kd, j.toNatClampNeg, .inr (.inr (.inr (.inr (fun _ => none)))))), σ.2.1 + 1, σ.2.2 + j.toNatClampNeg))
      | none => none
    | none => none
  else none
section ZB
variable {p : Program} {l : Launch} {e : Env} {R : Room} {s : State} {m : MethodId} {args : Array Value} {below : List Frame} {meth : Method} {c : Code} {H : Heap} {locs : List Loc} {cells slots : Nat} {Q : State → Prop}
variable {ls : Array Slot} {g : zG} {μ : zMt} {own idx pc : Nat} {lv : zp_L} {st : List Value} {j : Int32} {σ : zS} {f : zp_F × zS} {t : ArrayType}
theorem zb_S {H1 : Heap} {n0 : Nat} (hS : va_S (fun q => n0 ≤ q) s.heap H locs) (q2 : H1.size = H.size + 1) (q3 : ∀ q : Nat, q < H.size → H1[q]? = H[q]?) : va_S (fun q => n0 ≤ q) s.heap H1 locs :=
  ⟨Nat.le_trans hS.1 (by rw [q2]; omega), fun q h1 h2 => (q3 q (Nat.lt_of_lt_of_le h1 hS.1)).trans (hS.2.1 q h1 h2), hS.2.2⟩
theorem zb_step_ok (C : zCtx g p s m args meth c μ own) (hg : zWf g) (h : zb_step t pc lv st j σ = some f) (hP : zw_P (zg_D g) (zg_A g) (zg_cl g) σ.1 H) (hz : H.size = σ.2.1) (hS : va_S (zA g) s.heap H locs) (hcells : cells + (f.2.2.1 - σ.2.1) ≤ R.cells) (hslots : slots + (f.2.2.2 - σ.2.2) ≤ R.slots) (hd : decode μ.2.1 pc = .ok (.newarray t, 2))
    (k : ∀ (H1 : Heap), zw_P (zg_D g) (zg_A g) (zg_cl g) f.2.1 H1 → H1.size = f.2.2.1 → f.1.2.1 = lv → va_S (zA g) s.heap H1 locs → W p l e R s m args below meth c H1 locs (cells + (f.2.2.1 - σ.2.1)) (slots + (f.2.2.2 - σ.2.2)) Q (F0 m f.1.1 ls f.1.2.2)) : W p l e R s m args below meth c H locs cells slots Q (F0 m pc ls (.int j :: st)) := by
  obtain ⟨hx, hb, hml, hr, hlk, hnm, ⟨nm, hn, hown⟩, hts, hT, hcl⟩ := C
  unfold zb_step at h
  split at h
  · rename_i hj
    split at h
    · rename_i x hx2
      obtain rfl := Option.some.inj h
      have e1 : σ.2.1 + 1 - σ.2.1 = 1 := by omega
      have e2 : σ.2.2 + j.toNatClampNeg - σ.2.2 = j.toNatClampNeg := by omega
      simp only [e1, e2] at hcells hslots k
      have fin : ∀ (x : Nat × vp_A) (hx : zb_new t j.toNatClampNeg = some x), ∀ H1 : Heap, zy_at (zg_D g) (zg_cl g) (H.size, .inl (zg_A g x.1, x.2)) H1 → H1.size = H.size + 1 → (∀ q : Nat, q < H.size → H1[q]? = H[q]?) → W p l e R s m args below meth c H1 locs (cells + 1) (slots + j.toNatClampNeg) Q (F0 m (pc + 2) ls (.ref H.size :: st)) := by
        intro x hx H1 q1 q2 q3
        cases Option.some.inj (hx.symm.trans hx2)
        rw [hz] at q1 ⊢
        exact k H1 (hP.up q1 (fun q _ hq => q3 q hq)) (by rw [q2, hz]) trivial (zb_S hS q2 q3)
      have b4 : ∀ n : Nat, n ≤ 1000000 → n * 8 ≤ 536870912 := fun n h => by omega
      have b1 : ∀ n : Nat, n ≤ 1000000 → n * 1 ≤ 536870912 := fun n h => by omega
      have b2 : ∀ n : Nat, n ≤ 1000000 → n * 2 ≤ 536870912 := fun n h => by omega
      have b3 : ∀ n : Nat, n ≤ 1000000 → n * 4 ≤ 536870912 := fun n h => by omega
      cases t
      · exact zq_newa hx hb (hts _ q342) (atype := .boolean) (ty := .boolean) rfl hT.1 2 (hg.2.1 2 .boolean rfl) (fun C h => by cases h) (x0 := (j.toNatClampNeg, .inl (fun _ => 0))) rfl hj.1 rfl (b1 _ hj.2) hcells hslots hd (fin _ rfl)
      · exact zq_newa hx hb (hts _ q1494) (atype := .char) (ty := .char) rfl hT.1 3 (hg.2.1 3 .char rfl) (fun C h => by cases h) (x0 := (j.toNatClampNeg, .inl (fun _ => 0))) rfl hj.1 rfl (b2 _ hj.2) hcells hslots hd (fin _ rfl)
      · cases hx2
      · exact zq_newa hx hb (hts _ q1971) (atype := .double) (ty := .double) rfl hT.1 5 (hg.2.1 5 .double rfl) (fun C h => by cases h) (x0 := (j.toNatClampNeg, .inr (.inr (.inr (.inl (fun _ => 0)))))) rfl hj.1 rfl (b4 _ hj.2) hcells hslots hd (fin _ rfl)
      · cases hx2
      · cases hx2
      · exact zq_newa hx hb (hts _ q398) (atype := .int) (ty := .int) rfl hT.1 0 (hg.2.1 0 .int rfl) (fun C h => by cases h) (x0 := (j.toNatClampNeg, .inl (fun _ => 0))) rfl hj.1 rfl (b3 _ hj.2) hcells hslots hd (fin _ rfl)
      · exact zq_newa hx hb (hts _ q1970) (atype := .long) (ty := .long) rfl hT.1 4 (hg.2.1 4 .long rfl) (fun C h => by cases h) (x0 := (j.toNatClampNeg, .inr (.inl (fun _ => 0)))) rfl hj.1 rfl (b4 _ hj.2) hcells hslots hd (fin _ rfl)
    · cases h
  · cases h
theorem zb_astep_ok (C : zCtx g p s m args meth c μ own) (hg : zWf g) (h : zb_astep own idx pc lv st j σ = some f) (hP : zw_P (zg_D g) (zg_A g) (zg_cl g) σ.1 H) (hz : H.size = σ.2.1) (hS : va_S (zA g) s.heap H locs) (hcells : cells + (f.2.2.1 - σ.2.1) ≤ R.cells) (hslots : slots + (f.2.2.2 - σ.2.2) ≤ R.slots) (hd : decode μ.2.1 pc = .ok (.anewarray idx, 3))
    (k : ∀ (H1 : Heap), zw_P (zg_D g) (zg_A g) (zg_cl g) f.2.1 H1 → H1.size = f.2.2.1 → f.1.2.1 = lv → va_S (zA g) s.heap H1 locs → W p l e R s m args below meth c H1 locs (cells + (f.2.2.1 - σ.2.1)) (slots + (f.2.2.2 - σ.2.2)) Q (F0 m f.1.1 ls f.1.2.2)) : W p l e R s m args below meth c H locs cells slots Q (F0 m pc ls (.int j :: st)) := by
  obtain ⟨hx, hb, hml, hr, hlk, hnm, ⟨nm, hn, hown⟩, hts, hT, hcl⟩ := C
  unfold zb_astep at h
  split at h
  · rename_i hj
    split at h
    · rename_i Cn hl
      split at h
      · rename_i kd hk
        obtain rfl := Option.some.inj h
        obtain ⟨own', g1, g2⟩ := zl_at_ok hl
        cases Option.some.inj (g1.symm.trans hn)
        have e1 : σ.2.1 + 1 - σ.2.1 = 1 := by omega
        have e2 : σ.2.2 + j.toNatClampNeg - σ.2.2 = j.toNatClampNeg := by omega
        simp only [e1, e2] at hcells hslots k
        have b3 : j.toNatClampNeg * 4 ≤ 536870912 := by have := hj.2; omega
        have hkd : zkinds[kd]? = some (.object Cn) ∧ Cond.arrayOver (.object Cn) ∈ lw_tbl := by
          unfold zb_kind at hk
          split at hk
          · rename_i e3; subst e3; obtain rfl := Option.some.inj hk; exact ⟨rfl, q465⟩
          · split at hk
            · rename_i e3; subst e3; obtain rfl := Option.some.inj hk; exact ⟨rfl, q128⟩
            · cases hk
        refine zq_anew hx hb hown (hts _ g2) (hT.2.1.2.2.2.2.1 _ hkd.2) hT.1 kd (hg.2.1 kd _ hkd.1) hj.1 rfl b3 hcells hslots hd (fun H1 q1 q2 q3 => ?_)
        rw [hz] at q1 ⊢
        exact k H1 (hP.up q1 (fun q _ hq => q3 q hq)) (by rw [q2, hz]) trivial (zb_S hS q2 q3)
      · cases h
    · cases h
  · cases h
end ZB
