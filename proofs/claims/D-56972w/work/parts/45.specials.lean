/-! THE INTERPRETER: Object's constructor, Math's max, min and abs of ints: the kit's own rows, by the pool's entries (printed by tools/specials.py) -/
set_option maxRecDepth 100000
/-- 0: Object's constructor; 1, 2, 3: max, min, abs -/
def zx_name (k : Nat) : MethodName := match k with
  | 0 => Lib.objectInit
  | 1 => Lib.Math.max.name
  | 2 => Lib.Math.min.name
  | _ => Lib.Math.abs.name
def zxs_good (r : (Nat × Nat) × Nat) : Prop := ∃ own : String, zcn[r.1.1]? = some own ∧ Cond.methodLink own r.1.2 (zx_name r.2) ∈ lw_all
def zxs0 : (Nat × Nat) × Nat := ((3, 1), 0)
theorem zxs0_g : zxs_good zxs0 := ⟨_, rfl, q109⟩
def zxs1 : (Nat × Nat) × Nat := ((1, 79), 1)
theorem zxs1_g : zxs_good zxs1 := ⟨_, rfl, q601⟩
def zxs2 : (Nat × Nat) × Nat := ((5, 7), 0)
theorem zxs2_g : zxs_good zxs2 := ⟨_, rfl, q198⟩
def zxs3 : (Nat × Nat) × Nat := ((46, 1), 0)
theorem zxs3_g : zxs_good zxs3 := ⟨_, rfl, q1848⟩
def zxs4 : (Nat × Nat) × Nat := ((21, 194), 1)
theorem zxs4_g : zxs_good zxs4 := ⟨_, rfl, q544⟩
def zxs5 : (Nat × Nat) × Nat := ((22, 304), 2)
theorem zxs5_g : zxs_good zxs5 := ⟨_, rfl, q595⟩
def zxs6 : (Nat × Nat) × Nat := ((6, 1), 0)
theorem zxs6_g : zxs_good zxs6 := ⟨_, rfl, q260⟩
def zxs7 : (Nat × Nat) × Nat := ((0, 19), 0)
theorem zxs7_g : zxs_good zxs7 := ⟨_, rfl, q95⟩
def zxs8 : (Nat × Nat) × Nat := ((0, 240), 2)
theorem zxs8_g : zxs_good zxs8 := ⟨_, rfl, q1060⟩
def zxs9 : (Nat × Nat) × Nat := ((0, 375), 1)
theorem zxs9_g : zxs_good zxs9 := ⟨_, rfl, q1289⟩
def zxs10 : (Nat × Nat) × Nat := ((43, 1), 0)
theorem zxs10_g : zxs_good zxs10 := ⟨_, rfl, q1566⟩
def zxs11 : (Nat × Nat) × Nat := ((28, 3), 0)
theorem zxs11_g : zxs_good zxs11 := ⟨_, rfl, q741⟩
def zxs12 : (Nat × Nat) × Nat := ((29, 1), 0)
theorem zxs12_g : zxs_good zxs12 := ⟨_, rfl, q770⟩
def zxs13 : (Nat × Nat) × Nat := ((13, 1), 0)
theorem zxs13_g : zxs_good zxs13 := ⟨_, rfl, q799⟩
def zxs14 : (Nat × Nat) × Nat := ((31, 13), 1)
theorem zxs14_g : zxs_good zxs14 := ⟨_, rfl, q851⟩
def zxs15 : (Nat × Nat) × Nat := ((44, 1), 0)
theorem zxs15_g : zxs_good zxs15 := ⟨_, rfl, q1633⟩
def zxs16 : (Nat × Nat) × Nat := ((35, 1), 0)
theorem zxs16_g : zxs_good zxs16 := ⟨_, rfl, q982⟩
def zxs17 : (Nat × Nat) × Nat := ((4, 1), 0)
theorem zxs17_g : zxs_good zxs17 := ⟨_, rfl, q133⟩
def zxs18 : (Nat × Nat) × Nat := ((45, 1), 0)
theorem zxs18_g : zxs_good zxs18 := ⟨_, rfl, q1755⟩
def zxs19 : (Nat × Nat) × Nat := ((36, 1), 0)
theorem zxs19_g : zxs_good zxs19 := ⟨_, rfl, q1065⟩
def zxs20 : (Nat × Nat) × Nat := ((32, 46), 1)
theorem zxs20_g : zxs_good zxs20 := ⟨_, rfl, q865⟩
def zxs21 : (Nat × Nat) × Nat := ((41, 1), 0)
theorem zxs21_g : zxs_good zxs21 := ⟨_, rfl, q1462⟩
def zxs22 : (Nat × Nat) × Nat := ((41, 113), 1)
theorem zxs22_g : zxs_good zxs22 := ⟨_, rfl, q1668⟩
def zxs23 : (Nat × Nat) × Nat := ((41, 185), 3)
theorem zxs23_g : zxs_good zxs23 := ⟨_, rfl, q1726⟩
def zxs24 : (Nat × Nat) × Nat := ((41, 208), 2)
theorem zxs24_g : zxs_good zxs24 := ⟨_, rfl, q1833⟩
def zxs25 : (Nat × Nat) × Nat := ((18, 3), 0)
theorem zxs25_g : zxs_good zxs25 := ⟨_, rfl, q449⟩
def zxs26 : (Nat × Nat) × Nat := ((42, 1), 0)
theorem zxs26_g : zxs_good zxs26 := ⟨_, rfl, q1516⟩
def zxs27 : (Nat × Nat) × Nat := ((24, 3), 0)
theorem zxs27_g : zxs_good zxs27 := ⟨_, rfl, q618⟩
def zxs28 : (Nat × Nat) × Nat := ((24, 33), 3)
theorem zxs28_g : zxs_good zxs28 := ⟨_, rfl, q940⟩
def zxsL : List ((Nat × Nat) × Nat) := [zxs0, zxs1, zxs2, zxs3, zxs4, zxs5, zxs6, zxs7, zxs8, zxs9, zxs10, zxs11, zxs12, zxs13, zxs14, zxs15, zxs16, zxs17, zxs18, zxs19, zxs20, zxs21, zxs22, zxs23, zxs24, zxs25, zxs26, zxs27, zxs28]
theorem zxsL_good : ∀ r ∈ zxsL, zxs_good r := List.forall_mem_cons.mpr ⟨zxs0_g, List.forall_mem_cons.mpr ⟨zxs1_g, List.forall_mem_cons.mpr ⟨zxs2_g, List.forall_mem_cons.mpr ⟨zxs3_g, List.forall_mem_cons.mpr ⟨zxs4_g, List.forall_mem_cons.mpr ⟨zxs5_g, List.forall_mem_cons.mpr ⟨zxs6_g, List.forall_mem_cons.mpr ⟨zxs7_g, List.forall_mem_cons.mpr ⟨zxs8_g, List.forall_mem_cons.mpr ⟨zxs9_g, List.forall_mem_cons.mpr ⟨zxs10_g, List.forall_mem_cons.mpr ⟨zxs11_g, List.forall_mem_cons.mpr ⟨zxs12_g, List.forall_mem_cons.mpr ⟨zxs13_g, List.forall_mem_cons.mpr ⟨zxs14_g, List.forall_mem_cons.mpr ⟨zxs15_g, List.forall_mem_cons.mpr ⟨zxs16_g, List.forall_mem_cons.mpr ⟨zxs17_g, List.forall_mem_cons.mpr ⟨zxs18_g, List.forall_mem_cons.mpr ⟨zxs19_g, List.forall_mem_cons.mpr ⟨zxs20_g, List.forall_mem_cons.mpr ⟨zxs21_g, List.forall_mem_cons.mpr ⟨zxs22_g, List.forall_mem_cons.mpr ⟨zxs23_g, List.forall_mem_cons.mpr ⟨zxs24_g, List.forall_mem_cons.mpr ⟨zxs25_g, List.forall_mem_cons.mpr ⟨zxs26_g, List.forall_mem_cons.mpr ⟨zxs27_g, List.forall_mem_cons.mpr ⟨zxs28_g, fun _ h => absurd h List.not_mem_nil⟩⟩⟩⟩⟩⟩⟩⟩⟩⟩⟩⟩⟩⟩⟩⟩⟩⟩⟩⟩⟩⟩⟩⟩⟩⟩⟩⟩⟩
def zxs_at (own idx : Nat) : Option Nat := (zxsL.find? (fun r => r.1.1 == own && r.1.2 == idx)).map (·.2)
theorem zxs_at_ok {own idx : Nat} {x : Nat} (h : zxs_at own idx = some x) : zxs_good ((own, idx), x) := by
  unfold zxs_at at h
  cases hf : zxsL.find? (fun r => r.1.1 == own && r.1.2 == idx) with
  | none => rw [hf] at h; cases h
  | some r =>
    rw [hf] at h
    obtain rfl := Option.some.inj h
    have h1 := List.find?_some hf
    have h2 := zxsL_good r (List.mem_of_find?_eq_some hf)
    simp only [Bool.and_eq_true, beq_iff_eq] at h1
    obtain ⟨⟨a, b⟩, x⟩ := r
    obtain ⟨rfl, rfl⟩ := h1
    exact h2
def zxs_init (own idx : Nat) (pc : Nat) (lv : zp_L) (st : List Value) (σ : zS) : Option (zp_F × zS) := if zxs_at own idx = some 0 ∧ (st.map fun v => v.category).sum ≤ 8 then some ((pc + 3, lv, st), σ) else none
def zxs_math (own idx : Nat) (pc : Nat) (lv : zp_L) (st : List Value) (σ : zS) : Option (zp_F × zS) := match zxs_at own idx, st with
  | some 1, .int y :: .int x :: st => if (st.map fun v => v.category).sum ≤ 8 then some ((pc + 3, lv, .int (if x < y then y else x) :: st), σ) else none
  | some 2, .int y :: .int x :: st => if (st.map fun v => v.category).sum ≤ 8 then some ((pc + 3, lv, .int (if y < x then y else x) :: st), σ) else none
  | some 3, .int x :: st => if (st.map fun v => v.category).sum ≤ 8 then some ((pc + 3, lv, .int (if 0 ≤ x then x else 0 - x) :: st), σ) else none
  | _, _ => none
section ZXS
variable {p : Program} {l : Launch} {e : Env} {R : Room} {s : State} {m : MethodId} {args : Array Value} {below : List Frame} {meth : Method} {c : Code} {H : Heap} {locs : List Loc} {cells slots : Nat} {Q : State → Prop}
variable {ls : Array Slot} {g : zG} {μ : zMt} {own idx pc : Nat} {lv : zp_L} {st : List Value} {a : Nat} {σ : zS} {f : zp_F × zS}
theorem zxs_init_ok (C : zCtx g p s m args meth c μ own) (h : zxs_init own idx pc lv st σ = some f) (hsz : ls.size = μ.2.2.1) (hfr : 1 ≤ R.frames) (hlo : 32 ≤ R.locals) (hd : decode μ.2.1 pc = .ok (.invokespecial idx, 3))
    (k : f.2 = σ → f.1.2.1 = lv → W p l e R s m args below meth c H locs cells slots Q (F0 m f.1.1 ls f.1.2.2)) : W p l e R s m args below meth c H locs cells slots Q (F0 m pc ls (.ref a :: st)) := by
  obtain ⟨hx, hb, hml, hr, hlk, hnm, ⟨nm, hn, hown⟩, hts, hT, hcl⟩ := C
  unfold zxs_init at h
  split at h
  · rename_i hc
    obtain ⟨h1, h2⟩ := hc
    obtain rfl := Option.some.inj h
    obtain ⟨own', g1, g2⟩ := zxs_at_ok h1
    cases Option.some.inj (g1.symm.trans hn)
    refine W.objInit hx hb hown (hts _ g2) (hts _ q96) (hts _ q97) rfl (by rw [hml]; exact hsz) rfl hd hfr (Nat.le_trans ?_ hlo) (W.eq (g2 := F0 m (pc + 3) ls st) rfl (k rfl rfl))
    have := lv_room (m := m) (pc := pc) (ls := ls) (rest := .ref a :: st) h2
    omega
  · cases h
theorem zxs_math_ok (C : zCtx g p s m args meth c μ own) (h : zxs_math own idx pc lv st σ = some f) (hsz : ls.size = μ.2.2.1) (hfr : 1 ≤ R.frames) (hlo : 32 ≤ R.locals) (hc0 : cells ≤ R.cells) (hs0 : slots ≤ R.slots) (hd : decode μ.2.1 pc = .ok (.invokestatic idx, 3))
    (k : f.2 = σ → f.1.2.1 = lv → W p l e R s m args below meth c H locs cells slots Q (F0 m f.1.1 ls f.1.2.2)) : W p l e R s m args below meth c H locs cells slots Q (F0 m pc ls st) := by
  obtain ⟨hx, hb, hml, hr, hlk, hnm, ⟨nm, hn, hown⟩, hts, hT, hcl⟩ := C
  unfold zxs_math at h
  split at h
  · split at h
    · rename_i h1 hc
      obtain rfl := Option.some.inj h
      obtain ⟨own', g1, g2⟩ := zxs_at_ok h1
      cases Option.some.inj (g1.symm.trans hn)
      exact va_mmax hx hb (by rw [hml]; exact hsz.symm) hown (hts _ g2) (hts _ q545) (hts _ q49) (hts _ q546) hfr (by omega) hc0 hs0 hd (k rfl rfl)
    · cases h
  · split at h
    · rename_i h1 hc
      obtain rfl := Option.some.inj h
      obtain ⟨own', g1, g2⟩ := zxs_at_ok h1
      cases Option.some.inj (g1.symm.trans hn)
      exact va_mmin hx hb (by rw [hml]; exact hsz.symm) hown (hts _ g2) (hts _ q596) (hts _ q49) (hts _ q597) hfr (by omega) hc0 hs0 hd (k rfl rfl)
    · cases h
  · split at h
    · rename_i h1 hc
      obtain rfl := Option.some.inj h
      obtain ⟨own', g1, g2⟩ := zxs_at_ok h1
      cases Option.some.inj (g1.symm.trans hn)
      exact va_mabs hx hb (by rw [hml]; exact hsz.symm) hown (hts _ g2) (hts _ q941) (hts _ q49) (hts _ q942) hfr (by omega) hc0 hs0 hd (k rfl rfl)
    · cases h
  · cases h
end ZXS
