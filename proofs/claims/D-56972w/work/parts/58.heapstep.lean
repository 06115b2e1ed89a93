/-! THE INTERPRETER: a step that touches the heap is the machine's (but 'throw new Lack(null)', part 59's zlack) -/
set_option maxRecDepth 100000
theorem zmap_inl {x : Option (zp_F × zS)} {r : zR1} (h : x.map Sum.inl = some r) : ∃ f, x = some f ∧ r = .inl f := by
  cases x with
  | none => cases h
  | some f => exact ⟨f, rfl, (Option.some.inj h).symm⟩
theorem zheap_keep {g : zG} {own : Nat} {nm : String} {L : List zIt} {i : Instr} {len pc : Nat} {lv : zp_L} {st : List Value} {σ : zS} {r : zR1} (h : zheap g own nm L i len pc lv st σ = some r) : (∃ f, r = .inl f ∧ zkeep lv σ f) ∨ ∃ y, r = .inr (.inl (.inr y, (σ.1, σ.2.1 + 1, σ.2.2 + 6))) := by
  unfold zheap at h
  split at h
  · split at h
    · exact Or.inl ⟨_, (Option.some.inj h).symm, zk_get (by assumption)⟩
    · obtain ⟨f, e1, e2⟩ := zmap_inl h; exact Or.inl ⟨f, e2, zk_const e1⟩
  · obtain ⟨f, e1, e2⟩ := zmap_inl h; exact Or.inl ⟨f, e2, zk_put e1⟩
  · split at h
    · split at h
      · exact Or.inr ⟨_, (Option.some.inj h).symm⟩
      · cases h
    · obtain ⟨f, e1, e2⟩ := zmap_inl h; exact Or.inl ⟨f, e2, zk_new e1⟩
  · split at h
    · exact Or.inl ⟨_, (Option.some.inj h).symm, zk_cast (by assumption)⟩
    · obtain ⟨f, e1, e2⟩ := zmap_inl h; exact Or.inl ⟨f, e2, zk_castK e1⟩
  · obtain ⟨f, e1, e2⟩ := zmap_inl h; exact Or.inl ⟨f, e2, zk_inst e1⟩
  · obtain ⟨f, e1, e2⟩ := zmap_inl h; exact Or.inl ⟨f, e2, zk_len e1⟩
  · obtain ⟨f, e1, e2⟩ := zmap_inl h; exact Or.inl ⟨f, e2, zk_newa e1⟩
  · obtain ⟨f, e1, e2⟩ := zmap_inl h; exact Or.inl ⟨f, e2, zk_anewa e1⟩
  · obtain ⟨f, e1, e2⟩ := zmap_inl h; exact Or.inl ⟨f, e2, zk_stat e1⟩
  · obtain ⟨f, e1, e2⟩ := zmap_inl h; exact Or.inl ⟨f, e2, zk_ldc e1⟩
  · obtain ⟨f, e1, e2⟩ := zmap_inl h; exact Or.inl ⟨f, e2, zk_init e1⟩
  · split at h
    · exact Or.inl ⟨_, (Option.some.inj h).symm, zk_math (by assumption)⟩
    · obtain ⟨f, e1, e2⟩ := zmap_inl h; exact Or.inl ⟨f, e2, zk_copy e1⟩
  · obtain ⟨f, e1, e2⟩ := zmap_inl h; exact Or.inl ⟨f, e2, zk_getC e1⟩
  · obtain ⟨f, e1, e2⟩ := zmap_inl h; exact Or.inl ⟨f, e2, zk_load e1⟩
  · obtain ⟨f, e1, e2⟩ := zmap_inl h; exact Or.inl ⟨f, e2, zk_store e1⟩
  · cases h
/-- what 'throw new Lack(null)' owes -/
def zlack (l : Launch) : Prop := ∀ (p : Program) (e : Env) (R : Room) (s : State) (m : MethodId) (args : Array Value) (below : List Frame) (meth : Method) (c : Code) (H : Heap) (locs : List Loc) (cells slots : Nat) (Q : State → Prop) (ls : Array Slot) (g : zG) (μ : zMt) (own pc ik ic : Nat) (rest : List Value) (σ : zS),
  zCtx g p s m args meth c μ own → zWf g → (own = 0 ∧ ik = 249 ∧ ic = 251) ∨ (own = 13 ∧ ik = 67 ∧ ic = 69) → ls.size = μ.2.2.1 → (rest.map fun v => v.category).sum ≤ 8 → 6 ≤ R.frames → 384 ≤ R.locals →
  zw_P (zg_D g) (zg_A g) (zg_cl g) σ.1 H → H.size = σ.2.1 → zg_n g ≤ σ.2.1 → va_S (zA g) s.heap H locs → cells + 1 ≤ R.cells → slots + 6 ≤ R.slots →
  decode μ.2.1 pc = .ok (.new ik, 3) → decode μ.2.1 (pc + 3) = .ok (.dup, 1) → decode μ.2.1 (pc + 4) = .ok (.aconst_null, 1) → decode μ.2.1 (pc + 5) = .ok (.invokespecial ic, 3) → decode μ.2.1 (pc + 8) = .ok (.athrow, 1) →
  (∀ (q : Nat) (ce : Cell) (H1 : Heap) (locs1 : List Loc), zw_P (zg_D g) (zg_A g) (zg_cl g) σ.1 H1 → H1.size = σ.2.1 + 1 → va_S (zA g) s.heap H1 locs1 → H1[q]? = some ce → ce.vm = .none → s.vm.findClass "Foundrymark$Lack" = some ce.cls → vx_W p l e R s m args below meth c H1 locs1 (cells + 1) (slots + 6) Q (F0 m (pc + 8) ls rest) q) →
  W p l e R s m args below meth c H locs cells slots Q (F0 m pc ls rest)
section ZHO
variable {p : Program} {l : Launch} {e : Env} {R : Room} {s : State} {m : MethodId} {args : Array Value} {below : List Frame} {meth : Method} {c : Code} {H : Heap} {locs : List Loc} {cells slots : Nat} {Q : State → Prop}
variable {ls : Array Slot} {g : zG} {μ : zMt} {own pc len : Nat} {lv : zp_L} {st : List Value} {σ : zS} {i : Instr} {L : List zIt} {r : zR1}
theorem zheap_ok (C : zCtx g p s m args meth c μ own) (hg : zWf g) (hl : l.stackTraces = false) (hlk : zlack l) (hLg : zI_good μ.2.1 L) (h : zheap g own μ.1.name L i len pc lv st σ = some r) (hP : zw_P (zg_D g) (zg_A g) (zg_cl g) σ.1 H) (hz : H.size = σ.2.1) (hn0 : zg_n g ≤ σ.2.1) (hS : va_S (zA g) s.heap H locs) (hsz : ls.size = μ.2.2.1) (hfr : 6 ≤ R.frames) (hlo : 384 ≤ R.locals) (hd : decode μ.2.1 pc = .ok (i, len))
    (hr1 : ∀ f, r = .inl f → cells + (f.2.2.1 - σ.2.1) ≤ R.cells ∧ slots + (f.2.2.2 - σ.2.2) ≤ R.slots) (hr2 : ∀ y, r = .inr (.inl (.inr y, (σ.1, σ.2.1 + 1, σ.2.2 + 6))) → cells + 1 ≤ R.cells ∧ slots + 6 ≤ R.slots)
    (k1 : ∀ f, r = .inl f → ∀ (H1 : Heap) (locs1 : List Loc), zw_P (zg_D g) (zg_A g) (zg_cl g) f.2.1 H1 → H1.size = f.2.2.1 → va_S (zA g) s.heap H1 locs1 → W p l e R s m args below meth c H1 locs1 (cells + (f.2.2.1 - σ.2.1)) (slots + (f.2.2.2 - σ.2.2)) Q (F0 m f.1.1 ls f.1.2.2))
    (k2 : ∀ y, r = .inr (.inl (.inr y, (σ.1, σ.2.1 + 1, σ.2.2 + 6))) → ∀ (q : Nat) (ce : Cell) (H1 : Heap) (locs1 : List Loc) (rest : List Value), zw_P (zg_D g) (zg_A g) (zg_cl g) σ.1 H1 → H1.size = σ.2.1 + 1 → va_S (zA g) s.heap H1 locs1 → H1[q]? = some ce → ce.vm = .none → s.vm.findClass y.2 = some ce.cls → vx_W p l e R s m args below meth c H1 locs1 (cells + 1) (slots + 6) Q (F0 m y.1 ls rest) q) :
    W p l e R s m args below meth c H locs cells slots Q (F0 m pc ls st) := by
  have same : ∀ f, r = .inl f → f.2 = σ → W p l e R s m args below meth c H locs cells slots Q (F0 m f.1.1 ls f.1.2.2) := by
    intro f hf e1
    have h1 := k1 f hf H locs (by rw [e1]; exact hP) (by rw [e1]; exact hz) hS
    rw [e1, Nat.sub_self, Nat.add_zero, Nat.sub_self, Nat.add_zero] at h1
    exact h1
  have stay : ∀ f, r = .inl f → f.2.2 = σ.2 → ∀ (H1 : Heap) (locs1 : List Loc), zw_P (zg_D g) (zg_A g) (zg_cl g) f.2.1 H1 → H1.size = f.2.2.1 → va_S (zA g) s.heap H1 locs1 → W p l e R s m args below meth c H1 locs1 cells slots Q (F0 m f.1.1 ls f.1.2.2) := by
    intro f hf e1 H1 locs1 q1 q2 q3
    have h1 := k1 f hf H1 locs1 q1 q2 q3
    rw [e1, Nat.sub_self, Nat.add_zero, Nat.sub_self, Nat.add_zero] at h1
    exact h1
  unfold zheap at h
  split at h
  · split at h
    · rename_i hf
      exact zs_get_ok C hf hP hd (same _ (Option.some.inj h).symm)
    · obtain ⟨f, e1, e2⟩ := zmap_inl h
      exact zs_const_ok C e1 hS hd (fun e3 _ => same f e2 e3)
  · obtain ⟨f, e1, e2⟩ := zmap_inl h
    exact zs_put_ok C e1 hP hz hS hd (fun H1 locs1 q1 q2 q3 q4 => stay f e2 q3 H1 locs1 q1 q2 q4)
  · rename_i idx
    split at h
    · rename_i x hx
      split at h
      · rename_i hc6
        have hcat : (List.map (fun v => v.category) st).sum ≤ 8 := of_decide_eq_true hc6
        have hr := (Option.some.inj h).symm
        obtain ⟨b1, b2⟩ := hr2 _ hr
        unfold zthrow at hx
        split at hx
        · cases hx
        · rename_i ic d3 d4 d7
          cases hE : ze_at own idx ic with
          | none => rw [hE] at hx; cases hx
          | some E =>
            rw [hE] at hx
            obtain rfl := Option.some.inj hx
            exact zs_throw_ok C hl hE hsz hcat hfr hlo hP hz hS b1 b2 hd (zat_ok hLg d3) (zat_ok hLg d4) (zat_ok hLg d7) (fun q ce H1 q1 q2 q3 q4 q5 q6 => k2 _ hr q ce H1 locs _ q1 q2 q3 q4 q5 q6)
        · rename_i d3 d4
          split at hx
          · rename_i hc
            obtain rfl := Option.some.inj hx
            rcases hc with ⟨rfl, rfl, d5, d8⟩ | ⟨rfl, rfl, d5, d8⟩
            · exact hlk p e R s m args below meth c H locs cells slots Q ls g μ 0 pc 249 251 st σ C hg (Or.inl ⟨rfl, rfl, rfl⟩) hsz hcat hfr hlo hP hz hn0 hS b1 b2 hd (zat_ok hLg d3) (zat_ok hLg d4) (zat_ok hLg d5) (zat_ok hLg d8) (fun q ce H1 locs1 q1 q2 q3 q4 q5 q6 => k2 _ hr q ce H1 locs1 _ q1 q2 q3 q4 q5 q6)
            · exact hlk p e R s m args below meth c H locs cells slots Q ls g μ 13 pc 67 69 st σ C hg (Or.inr ⟨rfl, rfl, rfl⟩) hsz hcat hfr hlo hP hz hn0 hS b1 b2 hd (zat_ok hLg d3) (zat_ok hLg d4) (zat_ok hLg d5) (zat_ok hLg d8) (fun q ce H1 locs1 q1 q2 q3 q4 q5 q6 => k2 _ hr q ce H1 locs1 _ q1 q2 q3 q4 q5 q6)
          · cases hx
        · cases hx
      · cases h
    · obtain ⟨f, e1, e2⟩ := zmap_inl h
      obtain ⟨b1, b2⟩ := hr1 f e2
      exact zs_new_ok C e1 hP hz hn0 hS b1 b2 hd (fun H1 q1 q2 q3 => k1 f e2 H1 locs q1 q2 q3)
  · split at h
    · rename_i f hf
      exact zs_cast_ok C hg hf hP hd (fun e3 _ => same _ (Option.some.inj h).symm e3)
    · obtain ⟨f, e1, e2⟩ := zmap_inl h
      exact zs_castK_ok C e1 hS hd (fun e3 _ => same f e2 e3)
  · obtain ⟨f, e1, e2⟩ := zmap_inl h
    exact zs_inst_ok C hg e1 hP hd (fun e3 _ => same f e2 e3)
  · obtain ⟨f, e1, e2⟩ := zmap_inl h
    exact za_len_ok C hg e1 hP hd (fun e3 _ => same f e2 e3)
  · obtain ⟨f, e1, e2⟩ := zmap_inl h
    obtain ⟨b1, b2⟩ := hr1 f e2
    exact zb_step_ok C hg e1 hP hz hS b1 b2 hd (fun H1 q1 q2 _ q3 => k1 f e2 H1 locs q1 q2 q3)
  · obtain ⟨f, e1, e2⟩ := zmap_inl h
    obtain ⟨b1, b2⟩ := hr1 f e2
    exact zb_astep_ok C hg e1 hP hz hS b1 b2 hd (fun H1 q1 q2 _ q3 => k1 f e2 H1 locs q1 q2 q3)
  · obtain ⟨f, e1, e2⟩ := zmap_inl h
    exact zs_stat_ok C e1 hS hd (fun e3 _ => same f e2 e3)
  · obtain ⟨f, e1, e2⟩ := zmap_inl h
    exact zs_ldc_ok C e1 hd (fun e3 _ => same f e2 e3)
  · obtain ⟨f, e1, e2⟩ := zmap_inl h
    exact zxs_init_ok C e1 hsz (by omega) (by omega) hd (fun e3 _ => same f e2 e3)
  · split at h
    · rename_i f hf
      have hr := (Option.some.inj h).symm
      obtain ⟨b1, b2⟩ := hr1 _ hr
      exact zxs_math_ok C hf hsz (by omega) (by omega) (by omega) (by omega) hd (fun e3 _ => same _ hr e3)
    · obtain ⟨f, e1, e2⟩ := zmap_inl h
      exact zs_copy_ok C hg e1 hP hz hS hsz (by omega) (by omega) hd (fun H1 locs1 q1 q2 q3 _ q4 => stay f e2 q3 H1 locs1 q1 q2 q4)
  · obtain ⟨f, e1, e2⟩ := zmap_inl h
    exact zs_getC_ok C hg e1 hP hsz (by omega) (by omega) hd (fun e3 _ => same f e2 e3)
  · obtain ⟨f, e1, e2⟩ := zmap_inl h
    exact za_load_ok C hg e1 hP hd (fun e3 _ => same f e2 e3)
  · obtain ⟨f, e1, e2⟩ := zmap_inl h
    exact za_store_ok C hg e1 hP hz hS hd (fun H1 locs1 q1 q2 q3 _ q4 => stay f e2 q3 H1 locs1 q1 q2 q4)
  · cases h
end ZHO
