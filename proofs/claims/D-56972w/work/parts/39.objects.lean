/-! THE INTERPRETER: new objects, casts, 'instanceof' -/
def zs_new (own idx : Nat) (pc : Nat) (lv : zp_L) (st : List Value) (σ : zS) : Option (zp_F × zS) := match zl_at own idx with
  | some C => match zn_at C with
    | some x => some ((pc + 3, lv, .ref σ.2.1 :: st), (zw_up σ.1 σ.2.1 (.inr (x.1, x.2.2)), σ.2.1 + 1, σ.2.2 + x.2.1))
    | none => none
  | none => none
def zs_cast (own idx : Nat) (pc : Nat) (lv : zp_L) (st : List Value) (v : Value) (σ : zS) : Option (zp_F × zS) := match v with
  | .null => some ((pc + 3, lv, .null :: st), σ)
  | .ref a => match σ.1 a, zl_at own idx with
    | some (.inr (ci, _)), some nm => if zco_at ci nm then some ((pc + 3, lv, .ref a :: st), σ) else none
    | some (.inl (k, _)), some nm => if k = 0 ∧ nm = "[I" then some ((pc + 3, lv, .ref a :: st), σ) else none
    | _, _ => none
  | _ => none
/-- the pairs of which an 'instanceof' fails -/
def zno : List (Nat × String × String) := [(2, "Foundrymark$Made", "Foundrymark$Bought"), (3, "Foundrymark$Bought", "Foundrymark$Made")]
def zs_inst (own idx : Nat) (pc : Nat) (lv : zp_L) (st : List Value) (v : Value) (σ : zS) : Option (zp_F × zS) := match v with
  | .null => some ((pc + 3, lv, .int 0 :: st), σ)
  | .ref a => match σ.1 a, zl_at own idx with
    | some (.inr (ci, _)), some nm => if zco_at ci nm then some ((pc + 3, lv, .int 1 :: st), σ) else match zno.find? (fun r => r.1 == ci && r.2.2 == nm) with
      | some _ => some ((pc + 3, lv, .int 0 :: st), σ)
      | none => none
    | _, _ => none
  | _ => none
/-- the array types by number; what a g must be: its lists -/
def zkinds : List FieldType := [.int, .object "java/lang/Object", .boolean, .char, .long, .double, .object "Foundrymark$Supplier"]
def zWf (g : zG) : Prop := zg_cl g = zcl ∧ (∀ (k : Nat) (ty : FieldType), zkinds[k]? = some ty → (zg_ty g)[k]? = some (zg_A g k, ty)) ∧ ∀ r ∈ zno, (r.2.1, r.2.2) ∈ zg_c g
section ZO
variable {p : Program} {l : Launch} {e : Env} {R : Room} {s : State} {m : MethodId} {args : Array Value} {below : List Frame} {meth : Method} {c : Code} {H : Heap} {locs : List Loc} {cells slots : Nat} {Q : State → Prop}
variable {ls : Array Slot} {g : zG} {μ : zMt} {own idx pc : Nat} {lv : zp_L} {st : List Value} {a : Nat} {v : Value} {σ : zS} {f : zp_F × zS}
theorem zs_new_ok (C : zCtx g p s m args meth c μ own) (h : zs_new own idx pc lv st σ = some f) (hP : zw_P (zg_D g) (zg_A g) (zg_cl g) σ.1 H) (hz : H.size = σ.2.1) (hn0 : zg_n g ≤ σ.2.1) (hS : va_S (zA g) s.heap H locs) (hcells : cells + (f.2.2.1 - σ.2.1) ≤ R.cells) (hslots : slots + (f.2.2.2 - σ.2.2) ≤ R.slots) (hd : decode μ.2.1 pc = .ok (.new idx, 3))
    (k : ∀ (H1 : Heap), zw_P (zg_D g) (zg_A g) (zg_cl g) f.2.1 H1 → H1.size = f.2.2.1 → va_S (zA g) s.heap H1 locs → W p l e R s m args below meth c H1 locs (cells + (f.2.2.1 - σ.2.1)) (slots + (f.2.2.2 - σ.2.2)) Q (F0 m f.1.1 ls f.1.2.2)) : W p l e R s m args below meth c H locs cells slots Q (F0 m pc ls st) := by
  obtain ⟨hx, hb, hml, hr, hlk, hnm, ⟨nm, hn, hown⟩, hts, hT, hcl⟩ := C
  unfold zs_new at h
  split at h
  · rename_i Cn hl
    split at h
    · rename_i x hx2
      obtain rfl := Option.some.inj h
      obtain ⟨own', g1, g2⟩ := zl_at_ok hl
      cases Option.some.inj (g1.symm.trans hn)
      obtain ⟨T, N, ty0, n1, n2, n3, n4⟩ := zn_at_ok hx2
      have hK := hT.1
      rw [hcl] at hK
      have e1 : σ.2.1 + 1 - σ.2.1 = 1 := by omega
      have e2 : σ.2.2 + x.2.1 - σ.2.2 = x.2.1 := by omega
      simp only [e1, e2] at hcells hslots k
      refine zh_new hx hb hts n1 hown hK (hts _ g2) (hts _ n2) (hts _ n3) n4 hcells hslots hd (fun H1 q1 q2 q3 => ?_)
      rw [hz] at q1 q2 ⊢
      refine k H1 ?_ q2 ?_
      · exact hP.up (by rw [hcl]; exact Or.inl q1) (fun q _ hq => q3 q hq)
      · exact ⟨Nat.le_trans hS.1 (by rw [hz, q2]; omega), fun q h1 h2 => (q3 q (Nat.lt_of_lt_of_le h1 hS.1)).trans (hS.2.1 q h1 h2), hS.2.2⟩
    · cases h
  · cases h
theorem zs_cast_ok (C : zCtx g p s m args meth c μ own) (hg : zWf g) (h : zs_cast own idx pc lv st v σ = some f) (hP : zw_P (zg_D g) (zg_A g) (zg_cl g) σ.1 H) (hd : decode μ.2.1 pc = .ok (.checkcast idx, 3))
    (k : f.2 = σ → f.1.2.1 = lv → W p l e R s m args below meth c H locs cells slots Q (F0 m f.1.1 ls f.1.2.2)) : W p l e R s m args below meth c H locs cells slots Q (F0 m pc ls (v :: st)) := by
  obtain ⟨hx, hb, hml, hr, hlk, hnm, ⟨nm, hn, hown⟩, hts, hT, hcl⟩ := C
  unfold zs_cast at h
  split at h
  · obtain rfl := Option.some.inj h
    exact lv_castN hx hb hd (k rfl rfl)
  · rename_i a
    split at h
    · rename_i ci fs nm2 hw hl
      split at h
      · rename_i hco
        obtain rfl := Option.some.inj h
        obtain ⟨own', g1, g2⟩ := zl_at_ok hl
        cases Option.some.inj (g1.symm.trans hn)
        obtain ⟨q, q1, q2⟩ := zco_at_ok hco
        have hat := hP a _ hw
        rw [hcl] at hat
        have hK := hT.1
        rw [hcl] at hK
        have hrc := zk_recv hK hat q1
        rcases q2 with q2 | q2
        · exact va_castY hx hb hown (hts _ g2) (hT.2.1.2.2.1 _ _ q2) hrc hd (k rfl rfl)
        · have hca := zk_class hK q1
          simp only at q2
          rw [q2] at hca hrc
          exact va_castS hx hb hown (hts _ g2) hca hrc hd (k rfl rfl)
      · cases h
    · rename_i kd x nm2 hw hl
      split at h
      · rename_i hc
        obtain ⟨rfl, rfl⟩ := hc
        obtain rfl := Option.some.inj h
        obtain ⟨own', g1, g2⟩ := zl_at_ok hl
        cases Option.some.inj (g1.symm.trans hn)
        have hat := hP a _ hw
        have hty := hg.2.1 0 .int rfl
        have hra := (hT.1.2 0 _ hty).2
        obtain ⟨ce, u1, u2⟩ := hat
        have hcl0 : (vp_cell (zg_A g 0) x).cls = zg_A g 0 := by
          obtain ⟨n, f | f | f | f | f⟩ := x <;> rfl
        intro T hT1 X
        obtain ⟨vm1, X1, stp⟩ := X.checkcastYes hx hown (hts _ g2) (by rw [hT1]; exact u1) (zy_sta u2) (va_nm_int hra) (by rw [u2.1]; show s.vm.assignable (vp_cell (zg_A g 0) x).cls (zg_A g 0) = true; rw [hcl0]; exact va_asg _ _) (g := F0 m pc ls (.ref a :: st)) rfl rfl (by rw [hb]; exact hd)
        obtain ⟨t, a1, b1⟩ := (k rfl rfl) (T.setVm vm1) hT1 X1
        exact ⟨t, stp t a1, b1⟩
      · cases h
    · cases h
  · cases h
theorem zs_inst_ok (C : zCtx g p s m args meth c μ own) (hg : zWf g) (h : zs_inst own idx pc lv st v σ = some f) (hP : zw_P (zg_D g) (zg_A g) (zg_cl g) σ.1 H) (hd : decode μ.2.1 pc = .ok (.instanceof idx, 3))
    (k : f.2 = σ → f.1.2.1 = lv → W p l e R s m args below meth c H locs cells slots Q (F0 m f.1.1 ls f.1.2.2)) : W p l e R s m args below meth c H locs cells slots Q (F0 m pc ls (v :: st)) := by
  obtain ⟨hx, hb, hml, hr, hlk, hnm, ⟨nm, hn, hown⟩, hts, hT, hcl⟩ := C
  unfold zs_inst at h
  split at h
  · obtain rfl := Option.some.inj h
    exact lv_instN hx hb hd (k rfl rfl)
  · rename_i a
    split at h
    · rename_i ci fs nm2 hw hl
      obtain ⟨own', g1, g2⟩ := zl_at_ok hl
      cases Option.some.inj (g1.symm.trans hn)
      have hat := hP a _ hw
      rw [hcl] at hat
      have hK := hT.1
      rw [hcl] at hK
      split at h
      · rename_i hco
        obtain rfl := Option.some.inj h
        obtain ⟨q, q1, q2⟩ := zco_at_ok hco
        have hrc := zk_recv hK hat q1
        rcases q2 with q2 | q2
        · exact va_instY hx hb hown (hts _ g2) (hT.2.1.2.2.1 _ _ q2) hrc hd (k rfl rfl)
        · have hca := zk_class hK q1
          simp only at q2
          rw [q2] at hca hrc
          exact va_instS hx hb hown (hts _ g2) hca hrc hd (k rfl rfl)
      · split at h
        · rename_i r hr2
          obtain rfl := Option.some.inj h
          have h1 := List.find?_some hr2
          have h2 := List.mem_of_find?_eq_some hr2
          have h3 := hT.2.1.2.2.2.2.2.2 _ (hg.2.2 r h2)
          simp only [Bool.and_eq_true, beq_iff_eq] at h1
          obtain ⟨h4, h5⟩ := h1
          have h6 : ∃ q : vw_C, zcl[ci]? = some q ∧ q.1 = r.2.1 := by
            rw [← h4]
            simp only [zno, List.mem_cons, List.not_mem_nil, or_false] at h2
            rcases h2 with rfl | rfl
            · exact ⟨_, rfl, rfl⟩
            · exact ⟨_, rfl, rfl⟩
          obtain ⟨q, q1, q2⟩ := h6
          have hrc := zk_recv hK hat q1
          rw [q2] at hrc
          rw [← h5] at g2
          exact va_instNo hx hb hown (hts _ g2) h3 hrc hd (k rfl rfl)
        · cases h
    · cases h
  · cases h
end ZO
