/-! THE INTERPRETER: the world as a function from addresses to cells; a row that changes one cell says the new cell, the heap's size and that all else stays -/
/-- an array's class by the number of its kind -/
def zr (dA : Nat → Nat) (x : va_E) : va_E := match x with
  | .inl a => .inl (dA a.1, a.2)
  | .inr o => .inr o
/-- cells alike but for monitor and hash: what is known of an array -/
def zy_like (ce b : Cell) : Prop := ce.cls = b.cls ∧ (ce.vm ≠ .unknown ∧ ∀ k, ce.vm ≠ .statics k) ∧ b.slots.size ≤ ce.slots.size ∧ ce.slots.size.toInt32 = b.slots.size.toInt32 ∧ ∀ j : Nat, j < b.slots.size → ce.slots[j]? = b.slots[j]?
theorem zy_rd {ce b : Cell} (h : zy_like ce b) {j : Nat} {v : Value} (hv : b.slots[j]? = some v) : ce.slots[j]? = some v := (h.2.2.2.2 j (Array.getElem?_eq_some_iff.mp hv).1).trans hv
theorem zy_in {ce b : Cell} (h : zy_like ce b) {i : Int32} (hi : ¬ (i < 0 ∨ b.slots.size ≤ i.toNatClampNeg)) : ¬ (i < 0 ∨ ce.slots.size ≤ i.toNatClampNeg) := fun q => hi (q.imp id (fun q => Nat.le_trans h.2.2.1 q))
theorem zy_sta {ce b : Cell} (h : zy_like ce b) : ce.vm.isStatics = false := by
  cases hv : ce.vm with
  | statics k => exact absurd hv (h.2.1.2 k)
  | _ => rfl
/-- an object that was there before the run: read only (below the address that D.2 20 0 names) -/
def zi_at (D : va_G) (cl : List vw_C) (a ci : Nat) (fs : List Value) (H : Heap) : Prop := a < D.2 20 0 ∧ ∃ (r : vw_C) (cell : Cell), cl[ci]? = some r ∧ H[a]? = some cell ∧ cell.cls = D.1 ci ∧ (cell.vm ≠ .unknown ∧ ∀ k, cell.vm ≠ .statics k) ∧ ∀ k, k < r.2.2 → cell.slots[D.2 ci k]? = some (vp_V fs k)
def zy_at (D : va_G) (cl : List vw_C) (q : Nat × va_E) (H : Heap) : Prop := match q.2 with
  | .inl a => ∃ ce : Cell, H[q.1]? = some ce ∧ zy_like ce (vp_cell a.1 a.2)
  | .inr o => va_at D cl (q.1, .inr o) H ∨ zi_at D cl q.1 o.1 o.2 H
theorem zy_set {ce b : Cell} {k : Nat} {v : Value} (h : zy_like ce b) : zy_like (ce.setSlot k v) (b.setSlot k v) := by
  refine ⟨h.1, h.2.1, ?_, ?_, ?_⟩
  · show (b.slots.setIfInBounds k v).size ≤ (ce.slots.setIfInBounds k v).size
    rw [Array.size_setIfInBounds, Array.size_setIfInBounds]
    exact h.2.2.1
  · show (ce.slots.setIfInBounds k v).size.toInt32 = (b.slots.setIfInBounds k v).size.toInt32
    rw [Array.size_setIfInBounds, Array.size_setIfInBounds]
    exact h.2.2.2.1
  · intro j hj
    have hj : j < (b.slots.setIfInBounds k v).size := hj
    rw [Array.size_setIfInBounds] at hj
    have h1 := h.2.2.1
    show (ce.slots.setIfInBounds k v)[j]? = (b.slots.setIfInBounds k v)[j]?
    rw [Array.getElem?_setIfInBounds, Array.getElem?_setIfInBounds]
    by_cases e : k = j
    · rw [if_pos e, if_pos e, if_pos (by omega), if_pos (by omega)]
    · rw [if_neg e, if_neg e, h.2.2.2.2 j hj]
theorem zy_arr {s : State} {ce b : Cell} {ty : FieldType} (h : zy_like ce b) (hA : s.isArrayOf b ty) : s.isArrayOf ce ty := by
  obtain ⟨-, kA, h2, comp, h3⟩ := hA
  exact ⟨h.2.1.2, kA, by rw [h.1]; exact h2, comp, h3⟩
theorem zy_vm {cA : ClassId} {x : vp_A} : (vp_cell cA x).vm = .none := by
  obtain ⟨n, f | f | f | f | f⟩ := x <;> rfl
theorem zy_unk {ce : Cell} {cA : ClassId} {x : vp_A} (h : zy_like ce (vp_cell cA x)) : ce.vm ≠ .unknown := h.2.1.1
theorem zy_of {D : va_G} {cl : List vw_C} {q : Nat × va_E} {H : Heap} (h : va_at D cl q H) : zy_at D cl q H := by
  obtain ⟨a, x | x⟩ := q
  · exact ⟨_, h, rfl, ⟨(by rw [zy_vm]; exact fun q => by cases q), fun k => (by rw [zy_vm]; exact fun q => by cases q)⟩, Nat.le_refl _, rfl, fun _ _ => rfl⟩
  · exact Or.inl h
theorem zy_new {D : va_G} {cl : List vw_C} {a : Nat} {o : Nat × List Value} {H : Heap} (h : zy_at D cl (a, .inr o) H) (hn : D.2 20 0 ≤ a) : va_at D cl (a, .inr o) H := by
  rcases h with h | h
  · exact h
  · exact absurd h.1 (Nat.not_lt.mpr hn)
theorem zy_at.lt {D : va_G} {cl : List vw_C} {q : Nat × va_E} {H : Heap} (h : zy_at D cl q H) : q.1 < H.size := by
  obtain ⟨a, x | x⟩ := q
  · obtain ⟨ce, h1, -⟩ := h
    exact (Array.getElem?_eq_some_iff.mp h1).1
  · rcases h with h | ⟨-, r, ce, -, h, -⟩
    · exact va_at.lt (q := (a, .inr x)) h
    · exact (Array.getElem?_eq_some_iff.mp h).1
theorem zy_at.kept {D : va_G} {cl : List vw_C} {q : Nat × va_E} {H H1 : Heap} (h : zy_at D cl q H) (h1 : H1[q.1]? = H[q.1]?) : zy_at D cl q H1 := by
  obtain ⟨a, x | x⟩ := q
  · obtain ⟨ce, h2, h3⟩ := h
    exact ⟨ce, h1.trans h2, h3⟩
  · rcases h with h | ⟨h0, r, ce, h2, h3, h4⟩
    · exact Or.inl (va_at.kept (q := (a, .inr x)) h h1)
    · exact Or.inr ⟨h0, r, ce, h2, h1.trans h3, h4⟩
theorem zy_pairs {k : Nat} (vs : List (Value × Nat)) : ∀ {c b : Cell}, zy_like c b → zy_like (c.storePairs k vs) (b.storePairs k vs) := by
  induction vs with
  | nil => exact fun h => h
  | cons p r ih => exact fun h => ih (zy_set h)
abbrev zw_W : Type := Nat → Option va_E
def zw_P (D : va_G) (dA : Nat → Nat) (cl : List vw_C) (w : zw_W) (H : Heap) : Prop := ∀ (a : Nat) (x : va_E), w a = some x → zy_at D cl (a, zr dA x) H
def zw_up (w : zw_W) (a : Nat) (x : va_E) : zw_W := fun b => if b = a then some x else w b
theorem zw_up_same (w : zw_W) (a : Nat) (x : va_E) : zw_up w a x a = some x := by simp [zw_up]
theorem zw_up_ne (w : zw_W) {a b : Nat} (x : va_E) (h : b ≠ a) : zw_up w a x b = w b := by simp [zw_up, h]
theorem zw_P.lt {D : va_G} {dA : Nat → Nat} {cl : List vw_C} {w : zw_W} {H : Heap} (h : zw_P D dA cl w H) {a : Nat} {x : va_E} (hx : w a = some x) : a < H.size := (h a x hx).lt
theorem zw_P.up {D : va_G} {dA : Nat → Nat} {cl : List vw_C} {w : zw_W} {H H1 : Heap} (h : zw_P D dA cl w H) {a : Nat} {x : va_E} (hx : zy_at D cl (a, zr dA x) H1) (hs : ∀ q, q ≠ a → q < H.size → H1[q]? = H[q]?) : zw_P D dA cl (zw_up w a x) H1 := by
  intro b y hy
  by_cases hb : b = a
  · subst hb
    rw [zw_up_same] at hy
    obtain rfl := Option.some.inj hy
    exact hx
  · rw [zw_up_ne w x hb] at hy
    exact (h b y hy).kept (hs b hb (h.lt hy))
/-- a class of the list, with all that its rows ask -/
def zc_ok (cl : List vw_C) (ci : Nat) (C : String) (T : u_T) (N : Nat) (ty0 : Nat → FieldType) : Prop :=
  cl[ci]? = some (C, T, N) ∧ (∀ w ∈ u_ws C T N, w ∈ lw_all) ∧ (∀ k, k < N → parseFieldDescriptor (T k).2.2.1 = some (ty0 k)) ∧ (∀ a, a < N → ∀ b, b < N → a ≠ b → (T a).2.1 ≠ (T b).2.1)
section ZH
variable {p : Program} {l : Launch} {e : Env} {R : Room} {s : State} {m : MethodId} {args : Array Value} {below : List Frame} {meth : Method} {c : Code} {H : Heap} {locs : List Loc} {cells slots : Nat} {Q : State → Prop}
variable {cc : ByteArray} {pc : Nat} {ls : Array Slot} {rest : List Value} {D : va_G} {cl : List vw_C} {a : Nat} {tys : List (ClassId × FieldType)}
variable {own ref C host : String} {T : u_T} {N ci index : Nat} {ty0 : Nat → FieldType} {fs : List Value} {v : Value}
theorem zh_one {D : va_G} {cl : List vw_C} {H : Heap} {q : Nat × va_E} (h : va_at D cl q H) : va_P D cl [q] H := by
  intro k x hx
  have hz : k < 1 := (List.getElem?_eq_some_iff.mp hx).1
  rw [show k = 0 by omega] at hx
  cases hx
  exact h
theorem zh_get (hexec : p.tables.exec = Jvm.exec) (hb : c.code = cc) (hts : ∀ w ∈ lw_all, w.before args s = true) (hC : zc_ok cl ci C T N ty0) (hown : s.vm.findClass own = some m.cls) (hK : va_K D cl tys s) (hw : zy_at D cl (a, .inr (ci, fs)) H) (k : Nat) (hk : k < N) (hlink : (Cond.fieldLink own index ref (T k).2.1 (T k).2.2.1).before args s = true) (hsame : ∀ x, s.fieldFound? (T k).1 (T k).2.1 (T k).2.2.1 = some x → s.fieldFound? ref (T k).2.1 (T k).2.2.1 = some x) (hv : fs[k]? = some v) (hdg : decode cc pc = .ok (.getfield index, 3))
    (kk : W p l e R s m args below meth c H locs cells slots Q (F0 m (pc + 3) ls (v :: rest))) : W p l e R s m args below meth c H locs cells slots Q (F0 m pc ls (.ref a :: rest)) := by
  rcases hw with hw | ⟨-, r, cell, h1, q1, q2, q3, q4⟩
  · exact va_get hexec hb hts hC.2.1 hown hK (zh_one hw) 0 rfl hC.1 k hk hlink hsame hv hdg kk
  · have hr : r = (C, T, N) := Option.some.inj (h1.symm.trans hC.1)
    subst hr
    obtain ⟨hS, hfc, kC, hkC, hkind⟩ := hK.1 ci _ hC.1
    obtain ⟨cf, kf, fi, f, hi, hsl⟩ := hS k hk
    refine W.getf hexec hb hown hlink (hsame _ hi) (u_facts hfc hkC (u_lays hts hC.2.1 hk) hi).1 q1 q3.1 (v := v) ?_ rfl rfl hdg kk
    rw [hsl, q4 k hk]
    simp [vp_V, hv]
theorem zh_getN (hexec : p.tables.exec = Jvm.exec) (hb : c.code = cc) (hts : ∀ w ∈ lw_all, w.before args s = true) (hC : zc_ok cl ci C T N ty0) (hown : s.vm.findClass own = some m.cls) (hK : va_K D cl tys s) (hw : zy_at D cl (a, .inr (ci, fs)) H) (k : Nat) (hk : k < N) (hlink : (Cond.fieldLinkNest own index ref (T k).2.1 (T k).2.2.1 host).before args s = true) (hsame : ∀ x, s.fieldFound? (T k).1 (T k).2.1 (T k).2.2.1 = some x → s.fieldFound? ref (T k).2.1 (T k).2.2.1 = some x) (hv : fs[k]? = some v) (hdg : decode cc pc = .ok (.getfield index, 3))
    (kk : W p l e R s m args below meth c H locs cells slots Q (F0 m (pc + 3) ls (v :: rest))) : W p l e R s m args below meth c H locs cells slots Q (F0 m pc ls (.ref a :: rest)) := by
  rcases hw with hw | ⟨-, r, cell, h1, q1, q2, q3, q4⟩
  · exact va_getN hexec hb hts hC.2.1 hown hK (zh_one hw) 0 rfl hC.1 k hk hlink hsame hv hdg kk
  · have hr : r = (C, T, N) := Option.some.inj (h1.symm.trans hC.1)
    subst hr
    obtain ⟨hS, hfc, kC, hkC, hkind⟩ := hK.1 ci _ hC.1
    obtain ⟨cf, kf, fi, f, hi, hsl⟩ := hS k hk
    refine va_Wgetf hexec hb hown hlink (hsame _ hi) (u_facts hfc hkC (u_lays hts hC.2.1 hk) hi).1 q1 q3.1 (v := v) ?_ rfl rfl hdg kk
    rw [hsl, q4 k hk]
    simp [vp_V, hv]
/-- what a store of a field leaves -/
def zh_K (D : va_G) (cl : List vw_C) (a ci : Nat) (fs : List Value) (k : Nat) (v : Value) (H H1 : Heap) : Prop := va_at D cl (a, .inr (ci, fs.set k v)) H1 ∧ H1.size = H.size ∧ ∀ q : Nat, q ≠ a → H1[q]? = H[q]?
theorem zh_put (hexec : p.tables.exec = Jvm.exec) (hb : c.code = cc) (hts : ∀ w ∈ lw_all, w.before args s = true) (hC : zc_ok cl ci C T N ty0) (hown : s.vm.findClass own = some m.cls) (hK : va_K D cl tys s) (hw : va_at D cl (a, .inr (ci, fs)) H) (k : Nat) (hk : k < N) (hlink : (Cond.fieldLink own index ref (T k).2.1 (T k).2.2.1).before args s = true) (hsame : ∀ x, s.fieldFound? (T k).1 (T k).2.1 (T k).2.2.1 = some x → s.fieldFound? ref (T k).2.1 (T k).2.2.1 = some x) (hfin : (T k).2.2.2 = false) (hn : narrow (ty0 k) v = v) (hfit : fits (ty0 k) v = true) (hl : k < fs.length) (hdg : decode cc pc = .ok (.putfield index, 3))
    (kk : ∀ (H1 : Heap), zh_K D cl a ci fs k v H H1 → W p l e R s m args below meth c H1 (locs ++ [⟨a, D.2 ci k⟩]) cells slots Q (F0 m (pc + 3) ls rest)) : W p l e R s m args below meth c H locs cells slots Q (F0 m pc ls (v :: .ref a :: rest)) := by
  obtain ⟨hc, hin, hty, hnm⟩ := hC
  have hap := va_apart (own := own) hts hin ty0 hty hnm hK hc
  obtain ⟨r, h1, cell, q1, q2, q3, q4⟩ := hw
  have hr : r = (C, T, N) := Option.some.inj (h1.symm.trans hc)
  subst hr
  obtain ⟨hS, hfc, kC, hkC, hkind⟩ := hK.1 ci _ hc
  obtain ⟨cf, kf, fi, f, hi, hsl⟩ := hS k hk
  have hlay := hts _ (hin _ (u_in_lay hk))
  unfold u_lay at hlay
  rw [if_neg (by rw [hfin]; decide)] at hlay
  have h6 := u_store hfc hkC hkind hlay hi (hty k hk) hn hfit
  refine W.putK hexec hb (f := f) ⟨hown, hlink, ⟨_, _, _, hsame _ hi⟩, (u_facts hfc hkC (u_lays hts hin hk) hi).1⟩ (by rw [q2]; exact h6) q1 q3 (by rw [hsl]; exact k2_hasslot (q4 k hk)) rfl rfl hdg fun H' e1 e2 e3 => ?_
  rw [hsl] at e1 ⊢
  exact kk H' ⟨⟨_, hc, t_OB.to (V := updV (vp_V fs) k v) ⟨_, e1, q2, q3, t_set q4 hap hk v⟩ (fun j _ => vp_updV_set hl v j)⟩, e2, e3⟩
theorem zh_putN (hexec : p.tables.exec = Jvm.exec) (hb : c.code = cc) (hts : ∀ w ∈ lw_all, w.before args s = true) (hC : zc_ok cl ci C T N ty0) (hown : s.vm.findClass own = some m.cls) (hK : va_K D cl tys s) (hw : va_at D cl (a, .inr (ci, fs)) H) (k : Nat) (hk : k < N) (hlink : (Cond.fieldLinkNest own index ref (T k).2.1 (T k).2.2.1 host).before args s = true) (hsame : ∀ x, s.fieldFound? (T k).1 (T k).2.1 (T k).2.2.1 = some x → s.fieldFound? ref (T k).2.1 (T k).2.2.1 = some x) (hfin : (T k).2.2.2 = false) (hn : narrow (ty0 k) v = v) (hfit : fits (ty0 k) v = true) (hl : k < fs.length) (hdg : decode cc pc = .ok (.putfield index, 3))
    (kk : ∀ (H1 : Heap), zh_K D cl a ci fs k v H H1 → W p l e R s m args below meth c H1 (locs ++ [⟨a, D.2 ci k⟩]) cells slots Q (F0 m (pc + 3) ls rest)) : W p l e R s m args below meth c H locs cells slots Q (F0 m pc ls (v :: .ref a :: rest)) := by
  obtain ⟨hc, hin, hty, hnm⟩ := hC
  have hap := va_apart (own := own) hts hin ty0 hty hnm hK hc
  obtain ⟨r, h1, cell, q1, q2, q3, q4⟩ := hw
  have hr : r = (C, T, N) := Option.some.inj (h1.symm.trans hc)
  subst hr
  obtain ⟨hS, hfc, kC, hkC, hkind⟩ := hK.1 ci _ hc
  obtain ⟨cf, kf, fi, f, hi, hsl⟩ := hS k hk
  have hlay := hts _ (hin _ (u_in_lay hk))
  unfold u_lay at hlay
  rw [if_neg (by rw [hfin]; decide)] at hlay
  have h6 := u_store hfc hkC hkind hlay hi (hty k hk) hn hfit
  refine va_WputK hexec hb (f := f) hown hlink (hsame _ hi) (u_facts hfc hkC (u_lays hts hin hk) hi).1 (by rw [q2]; exact h6) q1 q3 (by rw [hsl]; exact k2_hasslot (q4 k hk)) rfl rfl hdg fun H' e1 e2 e3 => ?_
  rw [hsl] at e1 ⊢
  exact kk H' ⟨⟨_, hc, t_OB.to (V := updV (vp_V fs) k v) ⟨_, e1, q2, q3, t_set q4 hap hk v⟩ (fun j _ => vp_updV_set hl v j)⟩, e2, e3⟩
/-- a final field, in its class's constructor -/
theorem zh_putF (hexec : p.tables.exec = Jvm.exec) (hb : c.code = cc) (hts : ∀ w ∈ lw_all, w.before args s = true) (hC : zc_ok cl ci C T N ty0) (hown : s.vm.findClass own = some m.cls) (hK : va_K D cl tys s) (hw : va_at D cl (a, .inr (ci, fs)) H) (k : Nat) (hk : k < N) (hlink : (Cond.fieldLink own index ref (T k).2.1 (T k).2.2.1).before args s = true) (hsame : ∀ x, s.fieldFound? (T k).1 (T k).2.1 (T k).2.2.1 = some x → s.fieldFound? ref (T k).2.1 (T k).2.2.1 = some x) (hfin : (T k).2.2.2 = true) (hin2 : meth.name = "<init>") (hdecl : (T k).1 = own) (hn : narrow (ty0 k) v = v) (hfit : fits (ty0 k) v = true) (hl : k < fs.length) (hdg : decode cc pc = .ok (.putfield index, 3))
    (kk : ∀ (H1 : Heap), zh_K D cl a ci fs k v H H1 → W p l e R s m args below meth c H1 (locs ++ [⟨a, D.2 ci k⟩]) cells slots Q (F0 m (pc + 3) ls rest)) : W p l e R s m args below meth c H locs cells slots Q (F0 m pc ls (v :: .ref a :: rest)) := by
  obtain ⟨hc, hin, hty, hnm⟩ := hC
  have hap := va_apart (own := own) hts hin ty0 hty hnm hK hc
  obtain ⟨r, h1, cell, q1, q2, q3, q4⟩ := hw
  have hr : r = (C, T, N) := Option.some.inj (h1.symm.trans hc)
  subst hr
  obtain ⟨hS, hfc, kC, hkC, hkind⟩ := hK.1 ci _ hc
  obtain ⟨cf, kf, fi, f, hi, hsl⟩ := hS k hk
  have hlay := hts _ (hin _ (u_in_lay hk))
  unfold u_lay at hlay
  rw [if_pos hfin] at hlay
  have hcf : m.cls = cf := by
    obtain ⟨_, _, c', _, _, _, -, -, hf', -, -, -, hown2, -⟩ := Cond.laysFinal_spec hlay
    have e1 : c' = cf := by have := hi.symm.trans hf'; simp at this; exact this.1.symm
    rw [hdecl] at hown2
    rw [← e1]; exact Option.some.inj (hown.symm.trans hown2)
  have h6 := u_fits hfc hkC hkind (Or.inr hlay) hi (hty k hk) hn hfit
  refine W.putFinK hexec hb hown hlink (hsame _ hi) (u_facts hfc hkC (u_lays hts hin hk) hi).1 hcf hin2 (by rw [q2]; exact h6) q1 q3 (by rw [hsl]; exact k2_hasslot (q4 k hk)) rfl rfl hdg fun H' e1 e2 e3 => ?_
  rw [hsl] at e1 ⊢
  exact kk H' ⟨⟨_, hc, t_OB.to (V := updV (vp_V fs) k v) ⟨_, e1, q2, q3, t_set q4 hap hk v⟩ (fun j _ => vp_updV_set hl v j)⟩, e2, e3⟩
/-- a new object lies at the heap's end -/
theorem zh_new (hexec : p.tables.exec = Jvm.exec) (hb : c.code = cc) (hts : ∀ w ∈ lw_all, w.before args s = true) (hC : zc_ok cl ci C T N ty0) (hown : s.vm.findClass own = some m.cls) (hK : va_K D cl tys s) (hcl : (Cond.classLink own index C).before args s = true) {n : Nat} (hinst : (Cond.instantiable C n).before args s = true) (hini : (Cond.initialized C).before args s = true) (hfs : ∀ j, j < N → defaultValue (ty0 j) = vp_V fs j) (hcells : cells + 1 ≤ R.cells) (hslots : slots + n ≤ R.slots) (hdg : decode cc pc = .ok (.new index, 3))
    (kk : ∀ (H1 : Heap), va_at D cl (H.size, .inr (ci, fs)) H1 → H1.size = H.size + 1 → (∀ q : Nat, q < H.size → H1[q]? = H[q]?) → W p l e R s m args below meth c H1 locs (cells + 1) (slots + n) Q (F0 m (pc + 3) ls (.ref H.size :: rest))) : W p l e R s m args below meth c H locs cells slots Q (F0 m pc ls rest) := by
  obtain ⟨hc, hin, hty, hnm⟩ := hC
  have hKn := hK.1 ci _ hc
  refine W.newcK hexec hb hown hcl hinst hini rfl hdg hcells hslots hKn.2.1 rfl fun H1 kC hkC e1 z1 o1 => ?_
  exact kk H1 ⟨_, hc, (u_born ty0 hts hin hKn hkC e1 hty).to hfs⟩ z1 o1
end ZH
