/-! THE INTERPRETER: rows of arrays by address (the cells known up to monitor and hash) -/
section ZQ
variable {p : Program} {l : Launch} {e : Env} {R : Room} {s : State} {m : MethodId} {args : Array Value} {below : List Frame} {meth : Method} {c : Code} {H : Heap} {locs : List Loc} {cells slots : Nat} {Q : State → Prop}
variable {cc : ByteArray} {pc : Nat} {ls : Array Slot} {rest : List Value} {D : va_G} {cl : List vw_C} {a : Nat} {tys : List (ClassId × FieldType)} {cA : ClassId} {n : Nat} {i : Int32}
def zq_K (D : va_G) (cl : List vw_C) (a : Nat) (cA : ClassId) (x : vp_A) (H H1 : Heap) : Prop := zy_at D cl (a, .inl (cA, x)) H1 ∧ H1.size = H.size ∧ ∀ q : Nat, q ≠ a → H1[q]? = H[q]?
theorem zq_iald (hexec : p.tables.exec = Jvm.exec) (hb : c.code = cc) {f : Nat → Int32} (hw : zy_at D cl (a, .inl (cA, n, .inl f)) H) (hAr : ArrOfT s cA .int) (hin : vp_in i n) (hdg : decode cc pc = .ok (.iaload, 1))
    (kk : W p l e R s m args below meth c H locs cells slots Q (F0 m (pc + 1) ls (.int (f i.toNatClampNeg) :: rest))) : W p l e R s m args below meth c H locs cells slots Q (F0 m pc ls (.int i :: .ref a :: rest)) := by
  have hlt : i.toNatClampNeg < n := Nat.not_le.mp fun q => hin (Or.inr q)
  obtain ⟨ce, hce, hlk⟩ := hw
  exact W.iald (v := .int (f i.toNatClampNeg)) hexec hb hce (zy_arr hlk (hAr n (fun j => .int (f j)))) (zy_unk hlk) (zy_in hlk (by show ¬ (i < 0 ∨ (arrV _ _ _).slots.size ≤ _); rw [arrV_size]; exact hin)) (zy_rd hlk (by show (arrV _ _ _).slots[_]? = _; rw [arrV_read _ _ hlt])) rfl rfl hdg kk
theorem zq_zald (hexec : p.tables.exec = Jvm.exec) (hb : c.code = cc) (hK : va_K D cl tys s) (t0 : Nat) {f : Nat → Int32} (hw : zy_at D cl (a, .inl (cA, n, .inl f)) H) (ht : tys[t0]? = some (cA, .boolean)) (hin : vp_in i n) (hdg : decode cc pc = .ok (.baload, 1))
    (kk : W p l e R s m args below meth c H locs cells slots Q (F0 m (pc + 1) ls (.int (f i.toNatClampNeg) :: rest))) : W p l e R s m args below meth c H locs cells slots Q (F0 m pc ls (.int i :: .ref a :: rest)) := by
  have hlt : i.toNatClampNeg < n := Nat.not_le.mp fun q => hin (Or.inr q)
  obtain ⟨ce, hce, hlk⟩ := hw
  exact W.zald (v := .int (f i.toNatClampNeg)) hexec hb hce (zy_arr hlk ((hK.2 t0 _ ht).1 n (fun j => .int (f j)))) (zy_unk hlk) (zy_in hlk (by show ¬ (i < 0 ∨ (arrV _ _ _).slots.size ≤ _); rw [arrV_size]; exact hin)) (zy_rd hlk (by show (arrV _ _ _).slots[_]? = _; rw [arrV_read _ _ hlt])) rfl rfl hdg kk
theorem zq_cald (hexec : p.tables.exec = Jvm.exec) (hb : c.code = cc) (hK : va_K D cl tys s) (t0 : Nat) {f : Nat → Int32} (hw : zy_at D cl (a, .inl (cA, n, .inl f)) H) (ht : tys[t0]? = some (cA, .char)) (hin : vp_in i n) (hdg : decode cc pc = .ok (.caload, 1))
    (kk : W p l e R s m args below meth c H locs cells slots Q (F0 m (pc + 1) ls (.int (f i.toNatClampNeg) :: rest))) : W p l e R s m args below meth c H locs cells slots Q (F0 m pc ls (.int i :: .ref a :: rest)) := by
  have hlt : i.toNatClampNeg < n := Nat.not_le.mp fun q => hin (Or.inr q)
  obtain ⟨ce, hce, hlk⟩ := hw
  exact W.cald (v := .int (f i.toNatClampNeg)) hexec hb hce (zy_arr hlk ((hK.2 t0 _ ht).1 n (fun j => .int (f j)))) (zy_unk hlk) (zy_in hlk (by show ¬ (i < 0 ∨ (arrV _ _ _).slots.size ≤ _); rw [arrV_size]; exact hin)) (zy_rd hlk (by show (arrV _ _ _).slots[_]? = _; rw [arrV_read _ _ hlt])) rfl rfl hdg kk
theorem zq_lald (hexec : p.tables.exec = Jvm.exec) (hb : c.code = cc) (hK : va_K D cl tys s) (t0 : Nat) {f : Nat → Int64} (hw : zy_at D cl (a, .inl (cA, n, .inr (.inl f))) H) (ht : tys[t0]? = some (cA, .long)) (hin : vp_in i n) (hdg : decode cc pc = .ok (.laload, 1))
    (kk : W p l e R s m args below meth c H locs cells slots Q (F0 m (pc + 1) ls (.long (f i.toNatClampNeg) :: rest))) : W p l e R s m args below meth c H locs cells slots Q (F0 m pc ls (.int i :: .ref a :: rest)) := by
  have hlt : i.toNatClampNeg < n := Nat.not_le.mp fun q => hin (Or.inr q)
  obtain ⟨ce, hce, hlk⟩ := hw
  exact W.lald (v := .long (f i.toNatClampNeg)) hexec hb hce (zy_arr hlk ((hK.2 t0 _ ht).1 n (fun j => .long (f j)))) (zy_unk hlk) (zy_in hlk (by show ¬ (i < 0 ∨ (arrV _ _ _).slots.size ≤ _); rw [arrV_size]; exact hin)) (zy_rd hlk (by show (arrV _ _ _).slots[_]? = _; rw [arrV_read _ _ hlt])) rfl rfl hdg kk
theorem zq_dald (hexec : p.tables.exec = Jvm.exec) (hb : c.code = cc) (hK : va_K D cl tys s) (t0 : Nat) {f : Nat → UInt64} (hw : zy_at D cl (a, .inl (cA, n, .inr (.inr (.inr (.inl f))))) H) (ht : tys[t0]? = some (cA, .double)) (hin : vp_in i n) (hdg : decode cc pc = .ok (.daload, 1))
    (kk : W p l e R s m args below meth c H locs cells slots Q (F0 m (pc + 1) ls (.double (f i.toNatClampNeg) :: rest))) : W p l e R s m args below meth c H locs cells slots Q (F0 m pc ls (.int i :: .ref a :: rest)) := by
  have hlt : i.toNatClampNeg < n := Nat.not_le.mp fun q => hin (Or.inr q)
  obtain ⟨ce, hce, hlk⟩ := hw
  exact W.dald (v := .double (f i.toNatClampNeg)) hexec hb hce (zy_arr hlk ((hK.2 t0 _ ht).1 n (fun j => .double (f j)))) (zy_unk hlk) (zy_in hlk (by show ¬ (i < 0 ∨ (arrV _ _ _).slots.size ≤ _); rw [arrV_size]; exact hin)) (zy_rd hlk (by show (arrV _ _ _).slots[_]? = _; rw [arrV_read _ _ hlt])) rfl rfl hdg kk
theorem zq_aald (hexec : p.tables.exec = Jvm.exec) (hb : c.code = cc) {C : String} {f : Nat → Option Nat} (hw : zy_at D cl (a, .inl (cA, n, .inr (.inr (.inr (.inr f))))) H) (hAr : ArrOfT s cA (.object C)) (hin : vp_in i n) (hdg : decode cc pc = .ok (.aaload, 1))
    (kk : W p l e R s m args below meth c H locs cells slots Q (F0 m (pc + 1) ls (va_rf (f i.toNatClampNeg) :: rest))) : W p l e R s m args below meth c H locs cells slots Q (F0 m pc ls (.int i :: .ref a :: rest)) := by
  have hlt : i.toNatClampNeg < n := Nat.not_le.mp fun q => hin (Or.inr q)
  obtain ⟨ce, hce, hlk⟩ := hw
  exact W.aald (v := va_rf (f i.toNatClampNeg)) (ty := .object C) hexec hb hce (zy_arr hlk (hAr n (fun j => va_rf (f j)))) rfl (zy_unk hlk) (zy_in hlk (by show ¬ (i < 0 ∨ (arrV _ _ _).slots.size ≤ _); rw [arrV_size]; exact hin)) (zy_rd hlk (by show (arrV _ _ _).slots[_]? = _; rw [arrV_read _ _ hlt])) rfl rfl hdg kk
theorem zq_alen (hexec : p.tables.exec = Jvm.exec) (hb : c.code = cc) {x : vp_A} (hw : zy_at D cl (a, .inl (cA, x)) H) {ty : FieldType} (hAr : ArrOfT s cA ty) (hdg : decode cc pc = .ok (.arraylength, 1))
    (kk : W p l e R s m args below meth c H locs cells slots Q (F0 m (pc + 1) ls (.int (Int32.ofNat x.1) :: rest))) : W p l e R s m args below meth c H locs cells slots Q (F0 m pc ls (.ref a :: rest)) := by
  obtain ⟨ce, hce, hlk⟩ := hw
  obtain ⟨n, f | f | f | f | f⟩ := x
  · exact W.alen (n := Int32.ofNat n) hexec hb hce (zy_arr hlk (hAr n (fun j => .int (f j)))) (hlk.2.2.2.1.trans (by rw [vp_cell_i, arrV_size] <;> rfl)) rfl rfl hdg kk
  · exact W.alen (n := Int32.ofNat n) hexec hb hce (zy_arr hlk (hAr n (fun j => .long (f j)))) (hlk.2.2.2.1.trans (by rw [vp_cell_l, arrV_size] <;> rfl)) rfl rfl hdg kk
  · exact W.alen (n := Int32.ofNat n) hexec hb hce (zy_arr hlk (hAr n (fun j => .float (f j)))) (hlk.2.2.2.1.trans (by rw [vp_cell_f, arrV_size] <;> rfl)) rfl rfl hdg kk
  · exact W.alen (n := Int32.ofNat n) hexec hb hce (zy_arr hlk (hAr n (fun j => .double (f j)))) (hlk.2.2.2.1.trans (by rw [vp_cell_d, arrV_size] <;> rfl)) rfl rfl hdg kk
  · exact W.alen (n := Int32.ofNat n) hexec hb hce (zy_arr hlk (hAr n (fun j => va_rf (f j)))) (hlk.2.2.2.1.trans (by rw [vp_cell_q, arrV_size] <;> rfl)) rfl rfl hdg kk
theorem zq_iast (hexec : p.tables.exec = Jvm.exec) (hb : c.code = cc) (hK : va_K D cl tys s) (t0 : Nat) {f : Nat → Int32} (hw : zy_at D cl (a, .inl (cA, n, .inl f)) H) (ht : tys[t0]? = some (cA, .int)) {x : Int32} (hin : vp_in i n) (hdg : decode cc pc = .ok (.iastore, 1))
    (kk : ∀ (H1 : Heap), zq_K D cl a cA (n, .inl (va_up f i.toNatClampNeg x)) H H1 → W p l e R s m args below meth c H1 (locs ++ [⟨a, i.toNatClampNeg⟩]) cells slots Q (F0 m (pc + 1) ls rest)) : W p l e R s m args below meth c H locs cells slots Q (F0 m pc ls (.int x :: .int i :: .ref a :: rest)) := by
  obtain ⟨ce, hce, hlk⟩ := hw
  refine W.iast hexec hb hce (zy_arr hlk ((hK.2 t0 _ ht).1 n (fun j => .int (f j)))) (zy_unk hlk) (zy_in hlk (by show ¬ (i < 0 ∨ (arrV _ _ _).slots.size ≤ _); rw [arrV_size]; exact hin)) rfl rfl hdg fun H1 e1 z oq => ?_
  refine kk H1 ⟨⟨_, e1, ?_⟩, z, oq⟩
  refine Eq.mp (congrArg (zy_like _) ?_) (zy_set hlk)
  show (vp_cell cA (n, _)).setSlot _ _ = vp_cell cA (n, _)
  rw [vp_cell_i, vp_cell_i, arrV_store]
  congr 1
  funext q
  by_cases hq : q = i.toNatClampNeg
  · subst hq
    simp [updV, va_up, vp_nar]
    try rfl
  · simp [updV, va_up, hq]
theorem zq_zast (hexec : p.tables.exec = Jvm.exec) (hb : c.code = cc) (hK : va_K D cl tys s) (t0 : Nat) {f : Nat → Int32} (hw : zy_at D cl (a, .inl (cA, n, .inl f)) H) (ht : tys[t0]? = some (cA, .boolean)) {x : Int32} (hin : vp_in i n) (hdg : decode cc pc = .ok (.bastore, 1))
    (kk : ∀ (H1 : Heap), zq_K D cl a cA (n, .inl (va_up f i.toNatClampNeg (vp_nar .boolean x))) H H1 → W p l e R s m args below meth c H1 (locs ++ [⟨a, i.toNatClampNeg⟩]) cells slots Q (F0 m (pc + 1) ls rest)) : W p l e R s m args below meth c H locs cells slots Q (F0 m pc ls (.int x :: .int i :: .ref a :: rest)) := by
  obtain ⟨ce, hce, hlk⟩ := hw
  refine W.zast hexec hb hce (zy_arr hlk ((hK.2 t0 _ ht).1 n (fun j => .int (f j)))) (zy_unk hlk) (zy_in hlk (by show ¬ (i < 0 ∨ (arrV _ _ _).slots.size ≤ _); rw [arrV_size]; exact hin)) rfl rfl hdg fun H1 e1 z oq => ?_
  refine kk H1 ⟨⟨_, e1, ?_⟩, z, oq⟩
  refine Eq.mp (congrArg (zy_like _) ?_) (zy_set hlk)
  show (vp_cell cA (n, _)).setSlot _ _ = vp_cell cA (n, _)
  rw [vp_cell_i, vp_cell_i, arrV_store]
  congr 1
  funext q
  by_cases hq : q = i.toNatClampNeg
  · subst hq
    simp [updV, va_up, vp_nar]
    try rfl
  · simp [updV, va_up, hq]
theorem zq_cast (hexec : p.tables.exec = Jvm.exec) (hb : c.code = cc) (hK : va_K D cl tys s) (t0 : Nat) {f : Nat → Int32} (hw : zy_at D cl (a, .inl (cA, n, .inl f)) H) (ht : tys[t0]? = some (cA, .char)) {x : Int32} (hin : vp_in i n) (hdg : decode cc pc = .ok (.castore, 1))
    (kk : ∀ (H1 : Heap), zq_K D cl a cA (n, .inl (va_up f i.toNatClampNeg (vp_nar .char x))) H H1 → W p l e R s m args below meth c H1 (locs ++ [⟨a, i.toNatClampNeg⟩]) cells slots Q (F0 m (pc + 1) ls rest)) : W p l e R s m args below meth c H locs cells slots Q (F0 m pc ls (.int x :: .int i :: .ref a :: rest)) := by
  obtain ⟨ce, hce, hlk⟩ := hw
  refine W.cast hexec hb hce (zy_arr hlk ((hK.2 t0 _ ht).1 n (fun j => .int (f j)))) (zy_unk hlk) (zy_in hlk (by show ¬ (i < 0 ∨ (arrV _ _ _).slots.size ≤ _); rw [arrV_size]; exact hin)) rfl rfl hdg fun H1 e1 z oq => ?_
  refine kk H1 ⟨⟨_, e1, ?_⟩, z, oq⟩
  refine Eq.mp (congrArg (zy_like _) ?_) (zy_set hlk)
  show (vp_cell cA (n, _)).setSlot _ _ = vp_cell cA (n, _)
  rw [vp_cell_i, vp_cell_i, arrV_store]
  congr 1
  funext q
  by_cases hq : q = i.toNatClampNeg
  · subst hq
    simp [updV, va_up, vp_nar]
    try rfl
  · simp [updV, va_up, hq]
theorem zq_last (hexec : p.tables.exec = Jvm.exec) (hb : c.code = cc) (hK : va_K D cl tys s) (t0 : Nat) {f : Nat → Int64} (hw : zy_at D cl (a, .inl (cA, n, .inr (.inl f))) H) (ht : tys[t0]? = some (cA, .long)) {x : Int64} (hin : vp_in i n) (hdg : decode cc pc = .ok (.lastore, 1))
    (kk : ∀ (H1 : Heap), zq_K D cl a cA (n, .inr (.inl (va_up f i.toNatClampNeg x))) H H1 → W p l e R s m args below meth c H1 (locs ++ [⟨a, i.toNatClampNeg⟩]) cells slots Q (F0 m (pc + 1) ls rest)) : W p l e R s m args below meth c H locs cells slots Q (F0 m pc ls (.long x :: .int i :: .ref a :: rest)) := by
  obtain ⟨ce, hce, hlk⟩ := hw
  refine W.last hexec hb hce (zy_arr hlk ((hK.2 t0 _ ht).1 n (fun j => .long (f j)))) (zy_unk hlk) (zy_in hlk (by show ¬ (i < 0 ∨ (arrV _ _ _).slots.size ≤ _); rw [arrV_size]; exact hin)) rfl rfl hdg fun H1 e1 z oq => ?_
  refine kk H1 ⟨⟨_, e1, ?_⟩, z, oq⟩
  refine Eq.mp (congrArg (zy_like _) ?_) (zy_set hlk)
  show (vp_cell cA (n, _)).setSlot _ _ = vp_cell cA (n, _)
  rw [vp_cell_l, vp_cell_l, arrV_store]
  congr 1
  funext q
  by_cases hq : q = i.toNatClampNeg
  · subst hq
    simp [updV, va_up, vp_nar]
    try rfl
  · simp [updV, va_up, hq]
theorem zq_dast (hexec : p.tables.exec = Jvm.exec) (hb : c.code = cc) (hK : va_K D cl tys s) (t0 : Nat) {f : Nat → UInt64} (hw : zy_at D cl (a, .inl (cA, n, .inr (.inr (.inr (.inl f))))) H) (ht : tys[t0]? = some (cA, .double)) {x : UInt64} (hin : vp_in i n) (hdg : decode cc pc = .ok (.dastore, 1))
    (kk : ∀ (H1 : Heap), zq_K D cl a cA (n, .inr (.inr (.inr (.inl (va_up f i.toNatClampNeg x))))) H H1 → W p l e R s m args below meth c H1 (locs ++ [⟨a, i.toNatClampNeg⟩]) cells slots Q (F0 m (pc + 1) ls rest)) : W p l e R s m args below meth c H locs cells slots Q (F0 m pc ls (.double x :: .int i :: .ref a :: rest)) := by
  obtain ⟨ce, hce, hlk⟩ := hw
  refine W.dast hexec hb hce (zy_arr hlk ((hK.2 t0 _ ht).1 n (fun j => .double (f j)))) (zy_unk hlk) (zy_in hlk (by show ¬ (i < 0 ∨ (arrV _ _ _).slots.size ≤ _); rw [arrV_size]; exact hin)) rfl rfl hdg fun H1 e1 z oq => ?_
  refine kk H1 ⟨⟨_, e1, ?_⟩, z, oq⟩
  refine Eq.mp (congrArg (zy_like _) ?_) (zy_set hlk)
  show (vp_cell cA (n, _)).setSlot _ _ = vp_cell cA (n, _)
  rw [vp_cell_d, vp_cell_d, arrV_store]
  congr 1
  funext q
  by_cases hq : q = i.toNatClampNeg
  · subst hq
    simp [updV, va_up, vp_nar]
    try rfl
  · simp [updV, va_up, hq]
theorem zq_aast (hexec : p.tables.exec = Jvm.exec) (hb : c.code = cc) (hK : va_K D cl tys s) (t0 : Nat) {E : String} {v : Nat} {f : Nat → Option Nat} (hw : zy_at D cl (a, .inl (cA, n, .inr (.inr (.inr (.inr f))))) H) (ht : tys[t0]? = some (cA, .object E)) (hr : va_Any E s H v) (hin : vp_in i n) (hdg : decode cc pc = .ok (.aastore, 1))
    (kk : ∀ (H1 : Heap), zq_K D cl a cA (n, .inr (.inr (.inr (.inr (va_up f i.toNatClampNeg (some v)))))) H H1 → W p l e R s m args below meth c H1 (locs ++ [⟨a, i.toNatClampNeg⟩]) cells slots Q (F0 m (pc + 1) ls rest)) : W p l e R s m args below meth c H locs cells slots Q (F0 m pc ls (.ref v :: .int i :: .ref a :: rest)) := by
  have hlt : i.toNatClampNeg < n := Nat.not_le.mp fun q => hin (Or.inr q)
  have h0 : ¬ i < 0 := fun q => hin (Or.inl q)
  obtain ⟨cellV, g1, g3, ⟨kC, hkC⟩, hasg⟩ := hr
  obtain ⟨kA, comp, k1, k2, k3, -⟩ := (hK.2 t0 _ ht).2
  obtain ⟨kE, hkE, -⟩ := Vm.findClass_spec k3
  obtain ⟨ce, hce, hlk⟩ := hw
  refine W.aast hexec hb hce hlk.2.1.2 (zy_unk hlk) (show s.vm.classes[ce.cls]? = some kA by rw [hlk.1]; exact k1) k2 rfl hkE ⟨h0, Nat.lt_of_lt_of_le (show _ < (arrV _ _ _).slots.size by rw [arrV_size]; exact hlt) hlk.2.2.1⟩ g1 (fun q h => by rw [h] at g3; cases g3) hkC (hasg _ k3) rfl rfl hdg fun H1 e1 z oq => ?_
  refine kk H1 ⟨⟨_, e1, ?_⟩, z, oq⟩
  refine Eq.mp (congrArg (zy_like _) ?_) (zy_set hlk)
  show (vp_cell cA (n, _)).setSlot _ _ = vp_cell cA (n, _)
  rw [vp_cell_q, vp_cell_q, arrV_store]
  congr 1
  funext q
  by_cases hq : q = i.toNatClampNeg
  · subst hq
    simp [updV, va_up, va_rf]
  · simp [updV, va_up, hq]
theorem zq_aastN (hexec : p.tables.exec = Jvm.exec) (hb : c.code = cc) (hK : va_K D cl tys s) (t0 : Nat) {E : String} {f : Nat → Option Nat} (hw : zy_at D cl (a, .inl (cA, n, .inr (.inr (.inr (.inr f))))) H) (ht : tys[t0]? = some (cA, .object E)) (hin : vp_in i n) (hdg : decode cc pc = .ok (.aastore, 1))
    (kk : ∀ (H1 : Heap), zq_K D cl a cA (n, .inr (.inr (.inr (.inr (va_up f i.toNatClampNeg none))))) H H1 → W p l e R s m args below meth c H1 (locs ++ [⟨a, i.toNatClampNeg⟩]) cells slots Q (F0 m (pc + 1) ls rest)) : W p l e R s m args below meth c H locs cells slots Q (F0 m pc ls (.null :: .int i :: .ref a :: rest)) := by
  obtain ⟨ce, hce, hlk⟩ := hw
  refine va_WaastN (C := E) hexec hb hce (zy_arr hlk ((hK.2 t0 _ ht).1 n (fun j => va_rf (f j)))) (zy_unk hlk) (zy_in hlk (by show ¬ (i < 0 ∨ (arrV _ _ _).slots.size ≤ _); rw [arrV_size]; exact hin)) rfl rfl hdg fun H1 e1 z oq => ?_
  refine kk H1 ⟨⟨_, e1, ?_⟩, z, oq⟩
  refine Eq.mp (congrArg (zy_like _) ?_) (zy_set hlk)
  show (vp_cell cA (n, _)).setSlot _ _ = vp_cell cA (n, _)
  rw [vp_cell_q, vp_cell_q, arrV_store]
  congr 1
  funext q
  by_cases hq : q = i.toNatClampNeg
  · subst hq
    simp [updV, va_up, va_rf]
  · simp [updV, va_up, hq]
theorem zq_newa (hexec : p.tables.exec = Jvm.exec) (hb : c.code = cc) {atype : ArrayType} (harr : (Cond.arrayClass (newarray.typeOf atype)).before args s = true) {ty : FieldType} (hty : newarray.typeOf atype = ty) (hK : va_K D cl tys s) (t0 : Nat) (ht : tys[t0]? = some (cA, ty)) (hnr : ∀ C, ty ≠ .object C) {N : Nat} {x0 : vp_A} (hx0 : vp_cell cA x0 = arrV cA N (fun _ => defaultValue ty)) (hn : ¬ i < 0) (hN : i.toNatClampNeg = N) (hbytes : N * componentBytes ty ≤ 536870912) (hcells : cells + 1 ≤ R.cells) (hslots : slots + N ≤ R.slots) (hdg : decode cc pc = .ok (.newarray atype, 2))
    (kk : ∀ (H1 : Heap), zy_at D cl (H.size, .inl (cA, x0)) H1 → H1.size = H.size + 1 → (∀ q : Nat, q < H.size → H1[q]? = H[q]?) → W p l e R s m args below meth c H1 locs (cells + 1) (slots + N) Q (F0 m (pc + 2) ls (.ref H.size :: rest))) : W p l e R s m args below meth c H locs cells slots Q (F0 m pc ls (.int i :: rest)) := by
  subst hty
  refine va_newaK hexec hb harr rfl hdg rfl hn hN hbytes hcells hslots rfl fun H1 cA' e1 z1 o1 hAr hNm => ?_
  have h5 : s.vm.findClass ("[" ++ (newarray.typeOf atype).toString) = some cA := by
    have := (hK.2 t0 _ ht).2
    unfold va_RA at this
    split at this
    · rename_i C hC; exact absurd hC (hnr C)
    · exact this
  have h6 : cA' = cA := Option.some.inj (hNm.symm.trans h5)
  subst h6
  exact kk H1 (zy_of (show va_at D cl (H.size, .inl (_, x0)) H1 from (by show H1[H.size]? = some (vp_cell _ _); rw [hx0]; exact e1))) z1 o1
/-- a new array of references -/
theorem zq_anew (hexec : p.tables.exec = Jvm.exec) (hb : c.code = cc) {own C : String} {index : Nat} (hown : s.vm.findClass own = some m.cls) (hclink : (Cond.classLink own index C).before args s = true) (hover : va_AO C s) (hK : va_K D cl tys s) (t0 : Nat) (ht : tys[t0]? = some (cA, .object C)) {N : Nat} (hn : ¬ i < 0) (hN : i.toNatClampNeg = N) (hbytes : N * 4 ≤ 536870912) (hcells : cells + 1 ≤ R.cells) (hslots : slots + N ≤ R.slots) (hdg : decode cc pc = .ok (.anewarray index, 3))
    (kk : ∀ (H1 : Heap), zy_at D cl (H.size, .inl (cA, N, .inr (.inr (.inr (.inr (fun _ => none)))))) H1 → H1.size = H.size + 1 → (∀ q : Nat, q < H.size → H1[q]? = H[q]?) → W p l e R s m args below meth c H1 locs (cells + 1) (slots + N) Q (F0 m (pc + 3) ls (.ref H.size :: rest))) : W p l e R s m args below meth c H locs cells slots Q (F0 m pc ls (.int i :: rest)) := by
  subst hN
  refine W.anew hexec hb hown hclink (va_AO.use hover) rfl hdg rfl hn hbytes hcells hslots fun cA' kA comp f1 f2 f3 f4 => ?_
  obtain ⟨kA2, comp2, k1, k2, k3, k4⟩ := (hK.2 t0 _ ht).2
  have h6 : cA' = cA := Option.some.inj (f1.symm.trans k4)
  subst h6
  refine kk _ ?_ ?_ ?_
  · refine zy_of ?_
    show (H.push _)[H.size]? = some (vp_cell _ _)
    rw [Array.getElem?_push_size, vp_cell_q, arrV_new]
    rfl
  · rw [Array.size_push]
  · intro q hq
    rw [Array.getElem?_push, if_neg (Nat.ne_of_lt hq)]
end ZQ
