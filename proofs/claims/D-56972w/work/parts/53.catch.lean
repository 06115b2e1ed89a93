/-! THE INTERPRETER: an exception is thrown, caught, or goes on -/
set_option maxRecDepth 100000
/-- the pairs of which a catch passes -/
def znc : List (String × String) := [("java/lang/UnsupportedOperationException", "java/lang/IndexOutOfBoundsException"), ("java/lang/IllegalArgumentException", "java/lang/IndexOutOfBoundsException"), ("java/lang/IllegalStateException", "java/lang/IndexOutOfBoundsException"), ("java/util/NoSuchElementException", "java/lang/IndexOutOfBoundsException"),
  ("java/lang/IllegalArgumentException", "java/lang/UnsupportedOperationException"), ("java/lang/IllegalStateException", "java/lang/UnsupportedOperationException"), ("java/lang/IllegalStateException", "java/lang/IllegalArgumentException")]
/-- the classes that are caught by their own names -/
def zca (E nm : String) : Bool := E == nm && (E == "java/lang/IndexOutOfBoundsException" || (E == "java/lang/UnsupportedOperationException" || (E == "java/lang/IllegalArgumentException" || (E == "java/lang/IllegalStateException" || (E == "java/util/NoSuchElementException" || (E == "java/lang/ArithmeticException" || E == "Foundrymark$Lack"))))))
theorem zca_ok {E nm : String} (h : zca E nm = true) : E = nm ∧ Cond.castable E nm ∈ lw_tbl := by
  unfold zca at h
  simp only [Bool.and_eq_true, Bool.or_eq_true, beq_iff_eq] at h
  obtain ⟨rfl, h⟩ := h
  refine ⟨rfl, ?_⟩
  rcases h with rfl | rfl | rfl | rfl | rfl | rfl | rfl
  · exact q329
  · exact q723
  · exact q413
  · exact q431
  · exact q237
  · exact q1435
  · exact q1082
/-- the handler that takes an E thrown at pc: none at all; one; or the search can't tell -/
def zhd (own pc : Nat) (E : String) : List (Nat × Nat × Nat × Nat) → Option (Option Nat)
  | [] => some none
  | z :: r => if (decide (z.1 ≤ pc) && decide (pc < z.2.1)) = false then zhd own pc E r else if z.2.2.2 = 0 then none else match zl_at own z.2.2.2 with
    | none => none
    | some nm => if zca E nm = true then some (some z.2.2.1) else if (E, nm) ∈ znc then zhd own pc E r else none
def zpass (own pc : Nat) (E : String) (z : Nat × Nat × Nat × Nat) : Prop := (decide (z.1 ≤ pc) && decide (pc < z.2.1)) = false ∨ (z.2.2.2 ≠ 0 ∧ ∃ nm : String, zl_at own z.2.2.2 = some nm ∧ (E, nm) ∈ znc)
theorem zhd_none {own pc : Nat} {E : String} : ∀ {hh : List (Nat × Nat × Nat × Nat)}, zhd own pc E hh = some none → ∀ z ∈ hh, zpass own pc E z := by
  intro hh
  induction hh with
  | nil => intro _ z hz; cases hz
  | cons y r ih =>
    intro h
    unfold zhd at h
    split at h
    · rename_i h1
      exact List.forall_mem_cons.mpr ⟨Or.inl h1, ih h⟩
    · split at h
      · cases h
      · rename_i h0
        split at h
        · cases h
        · rename_i nm hl
          split at h
          · cases h
          · split at h
            · rename_i hn
              exact List.forall_mem_cons.mpr ⟨Or.inr ⟨h0, nm, hl, hn⟩, ih h⟩
            · cases h
theorem zhd_some {own pc h9 : Nat} {E : String} : ∀ {hh : List (Nat × Nat × Nat × Nat)}, zhd own pc E hh = some (some h9) → ∃ (h1 : List (Nat × Nat × Nat × Nat)) (x : Nat × Nat × Nat × Nat) (h2 : List (Nat × Nat × Nat × Nat)) (nm : String), hh = h1 ++ x :: h2 ∧ (∀ z ∈ h1, zpass own pc E z) ∧ (decide (x.1 ≤ pc) && decide (pc < x.2.1)) = true ∧ x.2.2.2 ≠ 0 ∧ zl_at own x.2.2.2 = some nm ∧ zca E nm = true ∧ x.2.2.1 = h9 := by
  intro hh
  induction hh with
  | nil => intro h; cases h
  | cons y r ih =>
    intro h
    unfold zhd at h
    split at h
    · rename_i h1
      obtain ⟨a, x, b, nm, rfl, e2, e3⟩ := ih h
      exact ⟨y :: a, x, b, nm, rfl, List.forall_mem_cons.mpr ⟨Or.inl h1, e2⟩, e3⟩
    · rename_i hcov
      split at h
      · cases h
      · rename_i h0
        split at h
        · cases h
        · rename_i nm hl
          split at h
          · rename_i hc
            exact ⟨[], y, r, nm, rfl, (fun z hz => absurd hz List.not_mem_nil), by simpa using hcov, h0, hl, hc, Option.some.inj (Option.some.inj h)⟩
          · split at h
            · rename_i hn
              obtain ⟨a, x, b, nm', rfl, e2, e3⟩ := ih h
              exact ⟨y :: a, x, b, nm', rfl, List.forall_mem_cons.mpr ⟨Or.inr ⟨h0, nm, hl, hn⟩, e2⟩, e3⟩
            · cases h
section ZHD
variable {p : Program} {l : Launch} {e : Env} {R : Room} {s : State} {m : MethodId} {args : Array Value} {below : List Frame} {meth : Method} {c : Code} {H : Heap} {locs : List Loc} {cells slots : Nat} {Q : State → Prop}
variable {ls : Array Slot} {g : zG} {μ : zMt} {own pc : Nat} {rest : List Value} {σ : zS} {E : String} {q : Nat} {ce : Cell}
theorem zhd_pass (C : zCtx g p s m args meth c μ own) (hnc : ∀ r ∈ znc, r ∈ zg_c g) {hh : List (Nat × Nat × Nat × Nat)} (h : ∀ z ∈ hh, zpass own pc E z) {nm : String} (hn : zcn[own]? = some nm) :
    ∀ z ∈ tableOf hh, covers z pc = false ∨ (z.catchType ≠ 0 ∧ ∃ nm2 : String, (Cond.classLink nm z.catchType nm2).before args s = true ∧ va_Nc E nm2 s) := by
  obtain ⟨hx, hb, hml, hr, hlk, hnm, -, hts, hT, hcl⟩ := C
  intro z hz
  obtain ⟨y, hy, rfl⟩ := List.mem_map.mp hz
  rcases h y hy with h1 | ⟨h0, nm2, h2, h3⟩
  · exact Or.inl h1
  · obtain ⟨own', g1, g2⟩ := zl_at_ok h2
    cases Option.some.inj (g1.symm.trans hn)
    exact Or.inr ⟨h0, nm2, hts _ g2, hT.2.1.2.2.2.2.2.2 _ (hnc _ h3)⟩
theorem zhd_catch (C : zCtx g p s m args meth c μ own) (hnc : ∀ r ∈ znc, r ∈ zg_c g) (htab : c.exceptionTable.toList = tableOf μ.2.2.2.2) {h9 : Nat} (h : zhd own pc E μ.2.2.2.2 = some (some h9)) (hcell : H[q]? = some ce) (hv : ce.vm = .none) (hce : s.vm.findClass E = some ce.cls)
    (kk : W p l e R s m args below meth c H locs cells slots Q (F0 m h9 ls [.ref q])) : vx_W p l e R s m args below meth c H locs cells slots Q (F0 m pc ls rest) q := by
  obtain ⟨h1, x, h2, nm, e1, e2, e3, e4, e5, e6, e7⟩ := zhd_some h
  obtain ⟨hx, hb, hml, hr, hlk, hnm, ⟨own', hn, hown⟩, hts, hT, hcl⟩ := id C
  obtain ⟨own2, g1, g2⟩ := zl_at_ok e5
  cases Option.some.inj (g1.symm.trans hn)
  obtain ⟨rfl, k2⟩ := zca_ok e6
  rw [e1] at htab
  have htab2 : c.exceptionTable.toList = tableOf h1 ++ (⟨x.1, x.2.1, x.2.2.1, x.2.2.2⟩ : ExceptionTableEntry) :: tableOf h2 := by
    rw [htab]; unfold tableOf; rw [List.map_append, List.map_cons]
  subst e7
  exact vx_catch hown (tableOf h1) _ (tableOf h2) htab2 (zhd_pass C hnc e2 hn) e3 e4 (hts _ g2) (va_Nw.use rfl (hT.2.1.2.2.1 _ _ k2)) hcell hv hce kk
theorem zhd_leave {Qc : Array Value → State → Outcome → State → Prop} (C : zCtx g p s m args meth c μ own) (hnc : ∀ r ∈ znc, r ∈ zg_c g) (htab : c.exceptionTable.toList = tableOf μ.2.2.2.2) (h : zhd own pc E μ.2.2.2.2 = some none) (hcell : H[q]? = some ce) (hv : ce.vm = .none) (hce : s.vm.findClass E = some ce.cls)
    (hP : zw_P (zg_D g) (zg_A g) (zg_cl g) σ.1 H) (hz : H.size = σ.2.1) (hn0 : zg_n g ≤ σ.2.1) (hS : va_S (zA g) s.heap H locs) :
    vx_W p l e R s m args below meth c H locs cells slots (vx_MQ below Qc (zX g E σ) args s cells slots (zA g)) (F0 m pc ls rest) q := by
  obtain ⟨hx, hb, hml, hr, hlk, hnm, ⟨own', hn, hown⟩, hts, hT, hcl⟩ := id C
  refine zx_outP hown hlk (by rw [htab]; exact zhd_pass C hnc (zhd_none h) hn) hcell hv hce (fun t ht hW => ⟨rfl, zI.here hP hz hn0 hT hS hW ht, hS.F ht⟩) hS.2.2 (Nat.le_refl _) (Nat.le_refl _)
/-- 'throw new E()' of a JDK's exception: the words' place, the class -/
def ze_at (own ik ic : Nat) : Option String := if own = 0 then (zeL.find? (fun r => r.1 == ik && r.2.1 == ic)).map (·.2.2) else none
theorem zs_throw_ok (C : zCtx g p s m args meth c μ own) (hl : l.stackTraces = false) {ik ic : Nat} (h : ze_at own ik ic = some E) (hsz : ls.size = μ.2.2.1) (hcat : (rest.map fun v => v.category).sum ≤ 8) (hfr : 6 ≤ R.frames) (hlo : 384 ≤ R.locals)
    (hP : zw_P (zg_D g) (zg_A g) (zg_cl g) σ.1 H) (hz : H.size = σ.2.1) (hS : va_S (zA g) s.heap H locs) (hcells : cells + 1 ≤ R.cells) (hslots : slots + 6 ≤ R.slots)
    (d0 : decode μ.2.1 pc = .ok (.new ik, 3)) (d3 : decode μ.2.1 (pc + 3) = .ok (.dup, 1)) (d4 : decode μ.2.1 (pc + 4) = .ok (.invokespecial ic, 3)) (d7 : decode μ.2.1 (pc + 7) = .ok (.athrow, 1))
    (kx : ∀ (q : Nat) (ce : Cell) (H1 : Heap), zw_P (zg_D g) (zg_A g) (zg_cl g) σ.1 H1 → H1.size = σ.2.1 + 1 → va_S (zA g) s.heap H1 locs → H1[q]? = some ce → ce.vm = .none → s.vm.findClass E = some ce.cls → vx_W p l e R s m args below meth c H1 locs (cells + 1) (slots + 6) Q (F0 m (pc + 7) ls rest) q) :
    W p l e R s m args below meth c H locs cells slots Q (F0 m pc ls rest) := by
  obtain ⟨hx, hb, hml, hr, hlk, hnm, ⟨own', hn, hown⟩, hts, hT, hcl⟩ := id C
  unfold ze_at at h
  split at h
  · rename_i h0
    subst h0
    cases Option.some.inj ((show zcn[0]? = some "Foundrymark" from rfl).symm.trans hn)
    cases hf : zeL.find? (fun r => r.1 == ik && r.2.1 == ic) with
    | none => rw [hf] at h; cases h
    | some r =>
      rw [hf] at h
      obtain rfl := Option.some.inj h
      have h1 := List.find?_some hf
      obtain ⟨w1, w2, w3, w4, w5⟩ := zeL_good r (List.mem_of_find?_eq_some hf)
      simp only [Bool.and_eq_true, beq_iff_eq] at h1
      obtain ⟨rfl, rfl⟩ := h1
      refine zm_make0 hx hb hl hown w3 (by decide +kernel) (hts _ w1) (hts _ w2) (w5 g args s hts hT.2.1) (fun w hw => ?_) hT.2.2.2.2.1 hT.2.2.2.2.2.1 hS (by rw [hml]; exact hsz) d0 d3 d4 (Nat.lt_of_lt_of_le (Nat.lt_of_lt_of_le (Nat.le_of_ble_eq_true rfl : 2 + 3 < 6) (Nat.le_refl 6)) hfr) (by show _ + (13 * (2 + 1) + 42) ≤ _; omega) hcells hslots (fun H1 z o hce => ?_)
      · rcases List.mem_cons.mp hw with rfl | hw
        · rfl
        · rcases List.mem_cons.mp hw with rfl | hw
          · rfl
          · exact w4 w hw
      · obtain ⟨ce, c1, c2, c3⟩ := hce
        refine vx_athrow hx hb d7 (kx _ ce H1 (fun a x ha => (hP a x ha).kept (o a (hP.lt ha))) (by rw [z, hz]) (zb_S hS z o) c1 c2 c3)
  · cases h
end ZHD
