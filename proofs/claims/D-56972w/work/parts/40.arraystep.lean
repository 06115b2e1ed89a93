/-! THE INTERPRETER: arrays (printed by tools/za.py). A place out of bounds stops it: no run of ours goes there -/
/-- no object and no array of the run's: what lies there may be one of the constants -/
def zcst (x : Option va_E) : Prop := x = none ∨ ∃ (k : Nat) (A : vp_A), x = some (.inl (k, A)) ∧ 7 ≤ k
def za_elK (K : List (String × Nat)) (E : String) (b : Nat) : Option (Option Nat) := match K.find? (fun r => r.2 == b) with
  | some r => if E = "java/lang/Object" ∧ (r.1 = "java/lang/Boolean" ∨ r.1 = "java/lang/Integer") then some (some b) else none
  | none => none
/-- what an array of references may take: null, an object, an int array -/
def za_el (K : List (String × Nat)) (E : String) (v : Value) (σ : zS) : Option (Option Nat) := match v with
  | .null => some none
  | .ref b => match σ.1 b with
    | some (.inr (ci, _)) => if zco_at ci E then some (some b) else none
    | some (.inl (k, _)) => if k = 0 ∧ E = "java/lang/Object" then some (some b) else za_elK K E b
    | none => za_elK K E b
  | _ => none
/-- an array of references by the number of its kind: its elements' class -/
def za_cls (k : Nat) : Option String := match k with
  | 1 => some "java/lang/Object"
  | 6 => some "Foundrymark$Supplier"
  | _ => none
theorem za_cls_ok {k : Nat} {E : String} (h : za_cls k = some E) : zkinds[k]? = some (.object E) := by
  unfold za_cls at h
  split at h
  · obtain rfl := Option.some.inj h; rfl
  · obtain rfl := Option.some.inj h; rfl
  · cases h
/-- what may be read: the cache of small Integers (7) too -/
def za_ld (k : Nat) : Bool := (za_cls k).isSome || k == 7
def za_in (j : Int32) (n : Nat) : Bool := decide (¬ (j < 0 ∨ n ≤ j.toNatClampNeg))
theorem za_in_ok {j : Int32} {n : Nat} (h : za_in j n = true) : vp_in j n := by
  unfold za_in at h
  have h2 : ¬ (j < 0 ∨ n ≤ j.toNatClampNeg) := of_decide_eq_true h
  exact h2
def za_load (i : Instr) (pc : Nat) (lv : zp_L) (st : List Value) (a : Nat) (j : Int32) (σ : zS) : Option (zp_F × zS) := match i, σ.1 a with
  | .iaload, some (.inl (k, n, .inl f)) => if (k == 0 || k == 8) = true ∧ za_in j n = true then some ((pc + 1, lv, .int (f j.toNatClampNeg) :: st), σ) else none
  | .baload, some (.inl (k, n, .inl f)) => if k = 2 ∧ za_in j n = true then some ((pc + 1, lv, .int (f j.toNatClampNeg) :: st), σ) else none
  | .caload, some (.inl (k, n, .inl f)) => if k = 3 ∧ za_in j n = true then some ((pc + 1, lv, .int (f j.toNatClampNeg) :: st), σ) else none
  | .laload, some (.inl (k, n, .inr (.inl f))) => if k = 4 ∧ za_in j n = true then some ((pc + 1, lv, .long (f j.toNatClampNeg) :: st), σ) else none
  | .daload, some (.inl (k, n, .inr (.inr (.inr (.inl f))))) => if k = 5 ∧ za_in j n = true then some ((pc + 1, lv, .double (f j.toNatClampNeg) :: st), σ) else none
  | .aaload, some (.inl (k, n, .inr (.inr (.inr (.inr f))))) => if za_ld k = true ∧ za_in j n = true then some ((pc + 1, lv, va_rf (f j.toNatClampNeg) :: st), σ) else none
  | _, _ => none
def za_len (pc : Nat) (lv : zp_L) (st : List Value) (a : Nat) (σ : zS) : Option (zp_F × zS) := match σ.1 a with
  | some (.inl (k, x)) => if ((zkinds[k]?).isSome || k == 8) = true then some ((pc + 1, lv, .int (Int32.ofNat x.1) :: st), σ) else none
  | _ => none
def za_store (n0 : Nat) (K : List (String × Nat)) (i : Instr) (pc : Nat) (lv : zp_L) (st : List Value) (v : Value) (j : Int32) (a : Nat) (σ : zS) : Option (zp_F × zS) := match i, v, σ.1 a with
  | .iastore, .int x, some (.inl (k, n, .inl f)) => if k = 0 ∧ za_in j n = true ∧ n0 ≤ a then some ((pc + 1, lv, st), (zw_up σ.1 a (.inl (k, n, .inl (va_up f j.toNatClampNeg x))), σ.2)) else none
  | .bastore, .int x, some (.inl (k, n, .inl f)) => if k = 2 ∧ za_in j n = true ∧ n0 ≤ a then some ((pc + 1, lv, st), (zw_up σ.1 a (.inl (k, n, .inl (va_up f j.toNatClampNeg (vp_nar .boolean x)))), σ.2)) else none
  | .castore, .int x, some (.inl (k, n, .inl f)) => if k = 3 ∧ za_in j n = true ∧ n0 ≤ a then some ((pc + 1, lv, st), (zw_up σ.1 a (.inl (k, n, .inl (va_up f j.toNatClampNeg (vp_nar .char x)))), σ.2)) else none
  | .lastore, .long x, some (.inl (k, n, .inr (.inl f))) => if k = 4 ∧ za_in j n = true ∧ n0 ≤ a then some ((pc + 1, lv, st), (zw_up σ.1 a (.inl (k, n, .inr (.inl (va_up f j.toNatClampNeg x)))), σ.2)) else none
  | .dastore, .double x, some (.inl (k, n, .inr (.inr (.inr (.inl f))))) => if k = 5 ∧ za_in j n = true ∧ n0 ≤ a then some ((pc + 1, lv, st), (zw_up σ.1 a (.inl (k, n, .inr (.inr (.inr (.inl (va_up f j.toNatClampNeg x)))))), σ.2)) else none
  | .aastore, v, some (.inl (k, n, .inr (.inr (.inr (.inr f))))) => match za_cls k with
    | some E => match za_el K E v σ with
      | some r => if za_in j n = true ∧ n0 ≤ a then some ((pc + 1, lv, st), (zw_up σ.1 a (.inl (k, n, .inr (.inr (.inr (.inr (va_up f j.toNatClampNeg r)))))), σ.2)) else none
      | none => none
    | none => none
  | _, _, _ => none
section ZAR
variable {p : Program} {l : Launch} {e : Env} {R : Room} {s : State} {m : MethodId} {args : Array Value} {below : List Frame} {meth : Method} {c : Code} {H : Heap} {locs : List Loc} {cells slots : Nat} {Q : State → Prop}
variable {ls : Array Slot} {g : zG} {μ : zMt} {own idx pc : Nat} {lv : zp_L} {st : List Value} {a : Nat} {v : Value} {j : Int32} {σ : zS} {f : zp_F × zS} {i : Instr}
theorem za_load_ok (C : zCtx g p s m args meth c μ own) (hg : zWf g) (h : za_load i pc lv st a j σ = some f) (hP : zw_P (zg_D g) (zg_A g) (zg_cl g) σ.1 H) (hd : decode μ.2.1 pc = .ok (i, 1))
    (k : f.2 = σ → f.1.2.1 = lv → W p l e R s m args below meth c H locs cells slots Q (F0 m f.1.1 ls f.1.2.2)) : W p l e R s m args below meth c H locs cells slots Q (F0 m pc ls (.int j :: .ref a :: st)) := by
  obtain ⟨hx, hb, hml, hr, hlk, hnm, ⟨nm, hn, hown⟩, hts, hT, hcl⟩ := C
  unfold za_load at h
  split at h
  · rename_i kd n f0 hw
    split at h
    · rename_i hc
      obtain ⟨hk, hin⟩ := hc
      obtain rfl := Option.some.inj h
      rw [Bool.or_eq_true] at hk
      rcases hk with hk | hk
      · obtain rfl : kd = 0 := by simpa using hk
        exact zq_iald hx hb (hP a _ hw) (hT.1.2 0 _ (hg.2.1 0 .int rfl)).1 (za_in_ok hin) hd (k rfl rfl)
      · obtain rfl : kd = 8 := by simpa using hk
        exact zq_iald hx hb (hP a _ hw) hT.2.2.2.2.2.2.1.2.2.1 (za_in_ok hin) hd (k rfl rfl)
    · cases h
  · rename_i kd n f0 hw
    split at h
    · rename_i hc
      obtain ⟨rfl, hin⟩ := hc
      obtain rfl := Option.some.inj h
      exact zq_zald hx hb hT.1 2 (hP a _ hw) (hg.2.1 2 .boolean rfl) (za_in_ok hin) hd (k rfl rfl)
    · cases h
  · rename_i kd n f0 hw
    split at h
    · rename_i hc
      obtain ⟨rfl, hin⟩ := hc
      obtain rfl := Option.some.inj h
      exact zq_cald hx hb hT.1 3 (hP a _ hw) (hg.2.1 3 .char rfl) (za_in_ok hin) hd (k rfl rfl)
    · cases h
  · rename_i kd n f0 hw
    split at h
    · rename_i hc
      obtain ⟨rfl, hin⟩ := hc
      obtain rfl := Option.some.inj h
      exact zq_lald hx hb hT.1 4 (hP a _ hw) (hg.2.1 4 .long rfl) (za_in_ok hin) hd (k rfl rfl)
    · cases h
  · rename_i kd n f0 hw
    split at h
    · rename_i hc
      obtain ⟨rfl, hin⟩ := hc
      obtain rfl := Option.some.inj h
      exact zq_dald hx hb hT.1 5 (hP a _ hw) (hg.2.1 5 .double rfl) (za_in_ok hin) hd (k rfl rfl)
    · cases h
  · rename_i kd n f0 hw
    split at h
    · rename_i hc
      obtain ⟨hk, hin⟩ := hc
      obtain rfl := Option.some.inj h
      unfold za_ld at hk
      rw [Bool.or_eq_true] at hk
      rcases hk with hk | hk
      · obtain ⟨E, hE⟩ := Option.isSome_iff_exists.mp hk
        exact zq_aald hx hb (hP a _ hw) (hT.1.2 kd _ (hg.2.1 kd _ (za_cls_ok hE))).1 (za_in_ok hin) hd (k rfl rfl)
      · obtain rfl : kd = 7 := by simpa using hk
        exact zq_aald hx hb (hP a _ hw) hT.2.2.2.2.2.2.1.2.1 (za_in_ok hin) hd (k rfl rfl)
    · cases h
  · cases h
theorem za_len_ok (C : zCtx g p s m args meth c μ own) (hg : zWf g) (h : za_len pc lv st a σ = some f) (hP : zw_P (zg_D g) (zg_A g) (zg_cl g) σ.1 H) (hd : decode μ.2.1 pc = .ok (.arraylength, 1))
    (k : f.2 = σ → f.1.2.1 = lv → W p l e R s m args below meth c H locs cells slots Q (F0 m f.1.1 ls f.1.2.2)) : W p l e R s m args below meth c H locs cells slots Q (F0 m pc ls (.ref a :: st)) := by
  obtain ⟨hx, hb, hml, hr, hlk, hnm, ⟨nm, hn, hown⟩, hts, hT, hcl⟩ := C
  unfold za_len at h
  split at h
  · rename_i kd x hw
    split at h
    · rename_i hk
      obtain rfl := Option.some.inj h
      rw [Bool.or_eq_true] at hk
      rcases hk with hk | hk
      · obtain ⟨ty, hty⟩ := Option.isSome_iff_exists.mp hk
        exact zq_alen hx hb (hP a _ hw) (hT.1.2 kd _ (hg.2.1 kd ty hty)).1 hd (k rfl rfl)
      · obtain rfl : kd = 8 := by simpa using hk
        exact zq_alen hx hb (hP a _ hw) hT.2.2.2.2.2.2.1.2.2.1 hd (k rfl rfl)
    · cases h
  · cases h
theorem za_elK_ok (hT : zT g s) {E : String} {b : Nat} {r : Option Nat} (h : za_elK (zg_k g) E b = some r) (hS : va_S (zA g) s.heap H locs) : r = some b ∧ va_Any E s H b := by
  unfold za_elK at h
  cases hf : (zg_k g).find? (fun r => r.2 == b) with
  | none => rw [hf] at h; cases h
  | some r =>
    rw [hf] at h
    simp only at h
    split at h
    · rename_i hc
      obtain ⟨rfl, hc⟩ := hc
      have h1 := List.find?_some hf
      have h2 := hT.2.2.2.2.2.2.2 r (List.mem_of_find?_eq_some hf)
      simp only [beq_iff_eq] at h1
      rw [h1] at h2
      obtain ⟨cell, c1, c2, c3, -⟩ := h2.kept hS.2.1
      refine ⟨(Option.some.inj h).symm, ?_⟩
      rcases hc with hc | hc
      · rw [hc] at c3
        exact zk_any ⟨cell, c1, c2, c3⟩ (hT.2.1.2.2.1 _ _ q2001)
      · rw [hc] at c3
        exact zk_any ⟨cell, c1, c2, c3⟩ (hT.2.1.2.2.1 _ _ q2012)
    · cases h
theorem za_el_ok (hT : zT g s) (hg : zWf g) {E : String} {r : Option Nat} (h : za_el (zg_k g) E v σ = some r) (hS : va_S (zA g) s.heap H locs) (hP : zw_P (zg_D g) (zg_A g) (zg_cl g) σ.1 H) : (v = .null ∧ r = none) ∨ ∃ b, v = .ref b ∧ r = some b ∧ va_Any E s H b := by
  unfold za_el at h
  split at h
  · exact Or.inl ⟨rfl, (Option.some.inj h).symm⟩
  · rename_i b
    split at h
    · rename_i ci fs hw
      split at h
      · rename_i hco
        obtain ⟨q, q1, q2⟩ := zco_at_ok hco
        have hat := hP b _ hw
        rw [hg.1] at hat
        have hK := hT.1
        rw [hg.1] at hK
        have hrc := zk_recv hK hat q1
        refine Or.inr ⟨b, rfl, (Option.some.inj h).symm, ?_⟩
        rcases q2 with q2 | q2
        · exact zk_any hrc (hT.2.1.2.2.1 _ _ q2)
        · have hca := zk_class hK q1
          simp only at q2
          rw [q2] at hca hrc
          exact zk_anyS hrc hca
      · cases h
    · rename_i kd x hw
      split at h
      · rename_i hc
        obtain ⟨rfl, rfl⟩ := hc
        have hty := hg.2.1 0 .int rfl
        have hra := va_nm_int (hT.1.2 0 _ hty).2
        exact Or.inr ⟨b, rfl, (Option.some.inj h).symm, zk_any (zk_recvA (hP b _ hw) hra) (hT.2.1.2.2.1 _ _ q2022)⟩
      · exact Or.inr ⟨b, rfl, za_elK_ok hT h hS⟩
    · exact Or.inr ⟨b, rfl, za_elK_ok hT h hS⟩
  · cases h
theorem za_store_ok (C : zCtx g p s m args meth c μ own) (hg : zWf g) (h : za_store (zg_n g) (zg_k g) i pc lv st v j a σ = some f) (hP : zw_P (zg_D g) (zg_A g) (zg_cl g) σ.1 H) (hz : H.size = σ.2.1) (hS : va_S (zA g) s.heap H locs) (hd : decode μ.2.1 pc = .ok (i, 1))
    (k : ∀ (H1 : Heap) (locs1 : List Loc), zw_P (zg_D g) (zg_A g) (zg_cl g) f.2.1 H1 → H1.size = f.2.2.1 → f.2.2 = σ.2 → f.1.2.1 = lv → va_S (zA g) s.heap H1 locs1 → W p l e R s m args below meth c H1 locs1 cells slots Q (F0 m f.1.1 ls f.1.2.2)) : W p l e R s m args below meth c H locs cells slots Q (F0 m pc ls (v :: .int j :: .ref a :: st)) := by
  obtain ⟨hx, hb, hml, hr, hlk, hnm, ⟨nm, hn, hown⟩, hts, hT, hcl⟩ := C
  unfold za_store at h
  split at h
  · rename_i x0 kd n f0 hw
    split at h
    · rename_i hc
      obtain ⟨rfl, hin, ha⟩ := hc
      obtain rfl := Option.some.inj h
      refine zq_iast hx hb hT.1 0 (hP a _ hw) (hg.2.1 0 .int rfl) (za_in_ok hin) hd (fun H1 hq => ?_)
      exact k H1 _ (hP.up hq.1 (fun q hq2 _ => hq.2.2 q hq2)) (by rw [hq.2.1]; exact hz) rfl rfl (hS.put hq.2.1 hq.2.2 ha)
    · cases h
  · rename_i x0 kd n f0 hw
    split at h
    · rename_i hc
      obtain ⟨rfl, hin, ha⟩ := hc
      obtain rfl := Option.some.inj h
      refine zq_zast hx hb hT.1 2 (hP a _ hw) (hg.2.1 2 .boolean rfl) (za_in_ok hin) hd (fun H1 hq => ?_)
      exact k H1 _ (hP.up hq.1 (fun q hq2 _ => hq.2.2 q hq2)) (by rw [hq.2.1]; exact hz) rfl rfl (hS.put hq.2.1 hq.2.2 ha)
    · cases h
  · rename_i x0 kd n f0 hw
    split at h
    · rename_i hc
      obtain ⟨rfl, hin, ha⟩ := hc
      obtain rfl := Option.some.inj h
      refine zq_cast hx hb hT.1 3 (hP a _ hw) (hg.2.1 3 .char rfl) (za_in_ok hin) hd (fun H1 hq => ?_)
      exact k H1 _ (hP.up hq.1 (fun q hq2 _ => hq.2.2 q hq2)) (by rw [hq.2.1]; exact hz) rfl rfl (hS.put hq.2.1 hq.2.2 ha)
    · cases h
  · rename_i x0 kd n f0 hw
    split at h
    · rename_i hc
      obtain ⟨rfl, hin, ha⟩ := hc
      obtain rfl := Option.some.inj h
      refine zq_last hx hb hT.1 4 (hP a _ hw) (hg.2.1 4 .long rfl) (za_in_ok hin) hd (fun H1 hq => ?_)
      exact k H1 _ (hP.up hq.1 (fun q hq2 _ => hq.2.2 q hq2)) (by rw [hq.2.1]; exact hz) rfl rfl (hS.put hq.2.1 hq.2.2 ha)
    · cases h
  · rename_i x0 kd n f0 hw
    split at h
    · rename_i hc
      obtain ⟨rfl, hin, ha⟩ := hc
      obtain rfl := Option.some.inj h
      refine zq_dast hx hb hT.1 5 (hP a _ hw) (hg.2.1 5 .double rfl) (za_in_ok hin) hd (fun H1 hq => ?_)
      exact k H1 _ (hP.up hq.1 (fun q hq2 _ => hq.2.2 q hq2)) (by rw [hq.2.1]; exact hz) rfl rfl (hS.put hq.2.1 hq.2.2 ha)
    · cases h
  · rename_i kd n f0 hw
    split at h
    · rename_i E hE
      split at h
      · rename_i r hr2
        split at h
        · rename_i hc
          obtain ⟨hin, ha⟩ := hc
          obtain rfl := Option.some.inj h
          rcases za_el_ok hT hg hr2 hS hP with ⟨rfl, rfl⟩ | ⟨b, rfl, rfl, hany⟩
          · refine zq_aastN hx hb hT.1 kd (hP a _ hw) (hg.2.1 kd _ (za_cls_ok hE)) (za_in_ok hin) hd (fun H1 hq => ?_)
            exact k H1 _ (hP.up hq.1 (fun q hq2 _ => hq.2.2 q hq2)) (by rw [hq.2.1]; exact hz) rfl rfl (hS.put hq.2.1 hq.2.2 ha)
          · refine zq_aast hx hb hT.1 kd (hP a _ hw) (hg.2.1 kd _ (za_cls_ok hE)) hany (za_in_ok hin) hd (fun H1 hq => ?_)
            exact k H1 _ (hP.up hq.1 (fun q hq2 _ => hq.2.2 q hq2)) (by rw [hq.2.1]; exact hz) rfl rfl (hS.put hq.2.1 hq.2.2 ha)
        · cases h
      · cases h
    · cases h
  · cases h
end ZAR
