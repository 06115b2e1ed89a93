/-! THE INTERPRETER: Object[]'s class object (getClass of an array, the constant in Arrays), System.arraycopy of references by address (the proof of zq_copy follows the kit's va_copyM) -/
set_option maxRecDepth 100000
def zs_getC (mi : Nat) (own idx : Nat) (pc : Nat) (lv : zp_L) (st : List Value) (σ : zS) : Option (zp_F × zS) := match st with
  | .ref a :: st => match σ.1 a with
    | some (.inl (k, _)) => if k = 1 ∧ own = 22 ∧ idx = 86 ∧ (st.map fun v => v.category).sum ≤ 8 then some ((pc + 3, lv, .ref mi :: st), σ) else none
    | _ => none
  | _ => none
def zs_ldc (mi : Nat) (own idx : Nat) (pc : Nat) (lv : zp_L) (st : List Value) (σ : zS) : Option (zp_F × zS) := if own = 22 ∧ idx = 110 then some ((pc + 2, lv, .ref mi :: st), σ) else if own = 21 ∧ idx = 200 then some ((pc + 2, lv, .int 2147483639 :: st), σ) else none
/-- the elements may all lie in an array of E's -/
def zs_fit (K : List (String × Nat)) (E : String) (f : Nat → Option Nat) (sp n : Nat) (σ : zS) : Prop := ∀ i : Nat, i < n → ∀ y : Nat, f (sp + i) = some y → (za_el K E (.ref y) σ).isSome = true
def zs_fitB (K : List (String × Nat)) (E : String) (f : Nat → Option Nat) (sp n : Nat) (σ : zS) : Bool := (List.range n).all (fun i => match f (sp + i) with
  | none => true
  | some y => (za_el K E (.ref y) σ).isSome)
theorem zs_fitB_ok {K : List (String × Nat)} {E : String} {f : Nat → Option Nat} {sp n : Nat} {σ : zS} (h : zs_fitB K E f sp n σ = true) : zs_fit K E f sp n σ := by
  intro i hi y hy
  have h1 := List.all_eq_true.mp h i (List.mem_range.mpr hi)
  rw [hy] at h1
  exact h1
theorem zs_fitB_of {K : List (String × Nat)} {E : String} {f : Nat → Option Nat} {sp n : Nat} {σ : zS} (h : zs_fit K E f sp n σ) : zs_fitB K E f sp n σ = true := by
  refine List.all_eq_true.mpr fun i hi => ?_
  cases hy : f (sp + i) with
  | none => rfl
  | some y => exact h i (List.mem_range.mp hi) y hy
def zs_copy (n0 : Nat) (K : List (String × Nat)) (own idx : Nat) (pc : Nat) (lv : zp_L) (st : List Value) (σ : zS) : Option (zp_F × zS) := match st with
  | .int n :: .int dp :: .ref a :: .int sp :: .ref b :: st => match σ.1 b, σ.1 a with
    | some (.inl (k0, m0, .inr (.inr (.inr (.inr f))))), some (.inl (k1, m1, .inr (.inr (.inr (.inr g))))) => match za_cls k0, za_cls k1 with
      | some _, some E1 => if ((own = 1 ∧ idx = 112) ∨ (own = 22 ∧ idx = 150)) ∧ ¬ sp < 0 ∧ ¬ dp < 0 ∧ ¬ n < 0 ∧ sp.toNatClampNeg + n.toNatClampNeg ≤ m0 ∧ dp.toNatClampNeg + n.toNatClampNeg ≤ m1 ∧ n0 ≤ a ∧ zs_fitB K E1 f sp.toNatClampNeg n.toNatClampNeg σ = true ∧ (st.map fun v => v.category).sum ≤ 8 then
          some ((pc + 3, lv, st), (zw_up σ.1 a (.inl (k1, m1, .inr (.inr (.inr (.inr (va_cpy f g sp.toNatClampNeg dp.toNatClampNeg n.toNatClampNeg)))))), σ.2)) else none
      | _, _ => none
    | _, _ => none
  | _ => none
section ZCY
variable {p : Program} {l : Launch} {e : Env} {R : Room} {s : State} {m : MethodId} {args : Array Value} {below : List Frame} {meth : Method} {c : Code} {H : Heap} {locs : List Loc} {cells slots : Nat} {Q : State → Prop}
variable {cc : ByteArray} {pc : Nat} {ls : Array Slot} {rest : List Value} {D : va_G} {cl : List vw_C} {a : Nat} {tys : List (ClassId × FieldType)}
theorem zq_copy (hexec : p.tables.exec = Jvm.exec) (hb : c.code = cc) (hml : c.maxLocals = ls.size) {own : String} {index : Nat} (hown : s.vm.findClass own = some m.cls) (hlink : (Cond.methodLink own index arraycopyName).before args s = true) (hnat : (Cond.native arraycopyName).before args s = true) (hstat : (Cond.static arraycopyName).before args s = true) (hini : (Cond.initialized "java/lang/System").before args s = true)
    (hK : va_K D cl tys s) (t0 t1 : Nat) {a0 : Nat} {c0 c1 : ClassId} {n0 n1 : Nat} {f g : Nat → Option Nat} {E0 E1 : String} (hw0 : zy_at D cl (a0, .inl (c0, n0, .inr (.inr (.inr (.inr f))))) H) (hw1 : zy_at D cl (a, .inl (c1, n1, .inr (.inr (.inr (.inr g))))) H) (ht0 : tys[t0]? = some (c0, .object E0)) (ht1 : tys[t1]? = some (c1, .object E1))
    {sp dp n : Int32} (h1 : ¬ sp < 0) (h2 : ¬ dp < 0) (h3 : ¬ n < 0) (h4 : sp.toNatClampNeg + n.toNatClampNeg ≤ n0) (h5 : dp.toNatClampNeg + n.toNatClampNeg ≤ n1) (hel : ∀ i : Nat, i < n.toNatClampNeg → ∀ y : Nat, f (sp.toNatClampNeg + i) = some y → va_Any E1 s H y)
    (hframes : 1 ≤ R.frames) (hlocals : (rest.map fun v => v.category).sum + (nativeFrameWords "java/lang/System" "arraycopy" 5 + 11) ≤ R.locals) (hdg : decode cc pc = .ok (.invokestatic index, 3))
    (kk : ∀ (H1 : Heap) (L : List Loc), (∀ q ∈ L, q.base = a) → zq_K D cl a c1 (n1, .inr (.inr (.inr (.inr (va_cpy f g sp.toNatClampNeg dp.toNatClampNeg n.toNatClampNeg))))) H H1 → W p l e R s m args below meth c H1 (locs ++ L) cells slots Q (F0 m (pc + 3) ls rest)) : W p l e R s m args below meth c H locs cells slots Q (F0 m pc ls (.int n :: .int dp :: .ref a :: .int sp :: .ref a0 :: rest)) := by
  have nn : ∀ z : Int32, ¬ z < 0 → z.toInt = (z.toNatClampNeg : Int) := by
    intro z hz
    have hz0 : (0 : Int) ≤ z.toInt := by
      have := Int32.not_lt.mp hz
      simpa using Int32.le_iff_toInt_le.mp this
    show z.toInt = ((z.toInt.toNat : Nat) : Int)
    omega
  intro T hT X
  obtain ⟨e0, hc0, l0⟩ := hw0
  obtain ⟨e9, hc1, l9⟩ := hw1
  obtain ⟨-, k0, hk0, cm0, hkk0⟩ := (hK.2 t0 _ ht0).1 n0 (fun j => va_rf (f j))
  obtain ⟨-, k1, hk1, cm1, hkk1⟩ := (hK.2 t1 _ ht1).1 n1 (fun j => va_rf (g j))
  obtain ⟨vm', X', step⟩ := X.arraycopy hexec hown hlink hnat hstat hini (src := a0) (dst := a) (cs := e0) (cd := e9) (srcPos := sp) (destPos := dp) (n := n) (by rw [hT]; exact hc0) (by rw [hT]; exact hc1)
    l0.2.1.2 l9.2.1.2 (zy_unk l0) (zy_unk l9) (show s.vm.classes[e0.cls]? = some k0 by rw [l0.1]; exact hk0) (show s.vm.classes[e9.cls]? = some k1 by rw [l9.1]; exact hk1) hkk0 hkk1 rfl h1 h2 h3
    (by rw [nn sp h1, nn n h3]; have hs : (arrV c0 n0 (fun j => va_rf (f j))).slots.size ≤ e0.slots.size := l0.2.2.1; rw [arrV_size] at hs; omega)
    (by rw [nn dp h2, nn n h3]; have hs : (arrV c1 n1 (fun j => va_rf (g j))).slots.size ≤ e9.slots.size := l9.2.2.1; rw [arrV_size] at hs; omega)
    (fun vm₁ hal i hi => by
      have e : e0.slots.getD (sp.toNatClampNeg + i) .null = va_rf (f (sp.toNatClampNeg + i)) := by
        have hr : (arrV c0 n0 (fun j => va_rf (f j))).slots[sp.toNatClampNeg + i]? = some (va_rf (f (sp.toNatClampNeg + i))) := arrV_read _ _ (by omega)
        rw [Array.getD_eq_getD_getElem?, zy_rd l0 hr]
        rfl
      rw [e]
      cases hy : f (sp.toNatClampNeg + i) with
      | none => exact ⟨rfl, trivial⟩
      | some y =>
        obtain ⟨cellV, g1, g2, ⟨kC, hkC⟩, hasg⟩ := hel i hi y hy
        obtain ⟨kA, comp, r1, r2, r3, -⟩ := (hK.2 t1 _ ht1).2
        cases hk1.symm.trans r1
        cases hkk1.symm.trans r2
        obtain ⟨kE, hkE, -⟩ := Vm.findClass_spec r3
        obtain ⟨kC', hkC', -⟩ := hal.2.2 _ _ hkC
        obtain ⟨kE', hkE', -⟩ := hal.2.2 _ _ hkE
        refine ⟨rfl, cellV, (show T.heap[y]? = some cellV by rw [hT]; exact g1), (fun q h => by rw [h] at g2; cases g2), ⟨kC', hkC'⟩, ?_, ?_⟩
        · exact ⟨kE', hkE'⟩
        · show vm₁.assignable _ _ = true
          rw [hal.assignable]
          exact hasg _ r3)
    (g := F0 m pc ls (.int n :: .int dp :: .ref a :: .int sp :: .ref a0 :: rest)) rfl (by rw [hml]) (rest := rest) rfl (by rw [hb]; exact hdg) hframes (by show 2 * 0 + _ + _ ≤ _; omega)
  have e1 : copied (vp_cell c0 (n0, .inr (.inr (.inr (.inr f))))) (vp_cell c1 (n1, .inr (.inr (.inr (.inr g))))) sp dp n = vp_cell c1 (n1, .inr (.inr (.inr (.inr (va_cpy f g sp.toNatClampNeg dp.toNatClampNeg n.toNatClampNeg))))) := by
    rw [vp_cell_q, vp_cell_q, vp_cell_q]
    exact va_copied (fun z => va_rf z) c0 c1 f g h4
  have lk : zy_like (copied e0 e9 sp dp n) (vp_cell c1 (n1, .inr (.inr (.inr (.inr (va_cpy f g sp.toNatClampNeg dp.toNatClampNeg n.toNatClampNeg)))))) := by
    rw [← e1]
    unfold copied
    have e2 : e0.stretch sp.toNatClampNeg n.toNatClampNeg = (vp_cell c0 (n0, .inr (.inr (.inr (.inr f))))).stretch sp.toNatClampNeg n.toNatClampNeg := by
      unfold Cell.stretch
      refine List.map_congr_left (fun i hi => ?_)
      have hi := List.mem_range.mp hi
      have hr : (arrV c0 n0 (fun j => va_rf (f j))).slots[sp.toNatClampNeg + i]? = some (va_rf (f (sp.toNatClampNeg + i))) := arrV_read _ _ (by omega)
      show e0.slots.getD _ _ = (arrV c0 n0 (fun j => va_rf (f j))).slots.getD _ _
      rw [Array.getD_eq_getD_getElem?, Array.getD_eq_getD_getElem?, zy_rd l0 hr, hr]
    rw [e2]
    exact zy_pairs _ l9
  have hl : a < H.size := (Array.getElem?_eq_some_iff.mp hc1).1
  have hheap : ((T.setVm vm').setCell a (copied e0 e9 sp dp n)).heap = H.setIfInBounds a (copied e0 e9 sp dp n) := by rw [← hT]; rfl
  have oq : ∀ q : Nat, q ≠ a → (H.setIfInBounds a (copied e0 e9 sp dp n))[q]? = H[q]? := fun q hq => by simp [Array.getElem?_setIfInBounds, Ne.symm hq]
  obtain ⟨t, a1, b1⟩ := kk _ _ (fun q hq => by
      obtain ⟨z, -, hz⟩ := List.mem_map.mp hq
      rw [← hz]) ⟨⟨_, show (H.setIfInBounds a _)[a]? = some (copied e0 e9 sp dp n) by simp [Array.getElem?_setIfInBounds, hl], lk⟩, by simp, oq⟩ _ hheap X'
  exact ⟨t, step t a1, b1⟩
end ZCY
section ZCZ
variable {p : Program} {l : Launch} {e : Env} {R : Room} {s : State} {m : MethodId} {args : Array Value} {below : List Frame} {meth : Method} {c : Code} {H : Heap} {locs : List Loc} {cells slots : Nat} {Q : State → Prop}
variable {ls : Array Slot} {g : zG} {μ : zMt} {own idx pc : Nat} {lv : zp_L} {st : List Value} {σ : zS} {f : zp_F × zS}
theorem zs_getC_ok (C : zCtx g p s m args meth c μ own) (hg : zWf g) (h : zs_getC (zg_m g) own idx pc lv st σ = some f) (hP : zw_P (zg_D g) (zg_A g) (zg_cl g) σ.1 H) (hsz : ls.size = μ.2.2.1) (hfr : 1 ≤ R.frames) (hlo : 64 ≤ R.locals) (hd : decode μ.2.1 pc = .ok (.invokevirtual idx, 3))
    (k : f.2 = σ → f.1.2.1 = lv → W p l e R s m args below meth c H locs cells slots Q (F0 m f.1.1 ls f.1.2.2)) : W p l e R s m args below meth c H locs cells slots Q (F0 m pc ls st) := by
  obtain ⟨hx, hb, hml, hr, hlk, hnm, ⟨nm, hn, hown⟩, hts, hT, hcl⟩ := C
  unfold zs_getC at h
  split at h
  · rename_i a st'
    split at h
    · rename_i k0 x hw
      split at h
      · rename_i hc
        obtain ⟨rfl, rfl, rfl, hcat⟩ := hc
        obtain rfl := Option.some.inj h
        cases Option.some.inj ((show zcn[22]? = some "java/util/Arrays" from rfl).symm.trans hn)
        have hty := hg.2.1 1 (.object "java/lang/Object") rfl
        have hat := hP a _ hw
        have hnC : s.vm.findClass "[Ljava/lang/Object;" = some (zg_A g 1) := va_nmO (hT.1.2 1 _ hty).2 rfl
        exact va_getC hx hb (by rw [hml]; exact hsz.symm) hown (hts _ q554) (va_Nw.use rfl (hT.2.1.2.2.2.1 _ q2018)) (hts _ q2017) (hts _ q555) (hts _ q589) hT.2.2.2.2.2.2.1.1 (zk_recvA hat hnC) hfr (by omega) hd (k rfl rfl)
      · cases h
    · cases h
  · cases h
theorem zs_ldc_ok (C : zCtx g p s m args meth c μ own) (h : zs_ldc (zg_m g) own idx pc lv st σ = some f) (hd : decode μ.2.1 pc = .ok (.ldc idx, 2))
    (k : f.2 = σ → f.1.2.1 = lv → W p l e R s m args below meth c H locs cells slots Q (F0 m f.1.1 ls f.1.2.2)) : W p l e R s m args below meth c H locs cells slots Q (F0 m pc ls st) := by
  obtain ⟨hx, hb, hml, hr, hlk, hnm, ⟨nm, hn, hown⟩, hts, hT, hcl⟩ := C
  unfold zs_ldc at h
  split at h
  · rename_i hc
    obtain ⟨rfl, rfl⟩ := hc
    obtain rfl := Option.some.inj h
    cases Option.some.inj ((show zcn[22]? = some "java/util/Arrays" from rfl).symm.trans hn)
    exact va_ldcM hx hb hown (hts _ q593) hT.2.2.2.2.2.2.1.1 hd (k rfl rfl)
  · split at h
    · rename_i hc
      obtain ⟨rfl, rfl⟩ := hc
      obtain rfl := Option.some.inj h
      cases Option.some.inj ((show zcn[21]? = some "jdk/internal/util/ArraysSupport" from rfl).symm.trans hn)
      exact lv_ldc hx hb hown (hts _ q547) hd (k rfl rfl)
    · cases h
theorem zs_copy_ok (C : zCtx g p s m args meth c μ own) (hg : zWf g) (h : zs_copy (zg_n g) (zg_k g) own idx pc lv st σ = some f) (hP : zw_P (zg_D g) (zg_A g) (zg_cl g) σ.1 H) (hz : H.size = σ.2.1) (hS : va_S (zA g) s.heap H locs) (hsz : ls.size = μ.2.2.1) (hfr : 1 ≤ R.frames) (hlo : 64 ≤ R.locals) (hd : decode μ.2.1 pc = .ok (.invokestatic idx, 3))
    (k : ∀ (H1 : Heap) (locs1 : List Loc), zw_P (zg_D g) (zg_A g) (zg_cl g) f.2.1 H1 → H1.size = f.2.2.1 → f.2.2 = σ.2 → f.1.2.1 = lv → va_S (zA g) s.heap H1 locs1 → W p l e R s m args below meth c H1 locs1 cells slots Q (F0 m f.1.1 ls f.1.2.2)) : W p l e R s m args below meth c H locs cells slots Q (F0 m pc ls st) := by
  obtain ⟨hx, hb, hml, hr, hlk, hnm, ⟨nm, hn, hown⟩, hts, hT, hcl⟩ := C
  unfold zs_copy at h
  split at h
  · rename_i n dp a sp b st'
    split at h
    · rename_i k0 m0 f0 k1 m1 g0 hw0 hw1
      split at h
      · rename_i E0 E1 hE0 hE1
        split at h
        · rename_i hc
          obtain ⟨co, c1, c2, c3, c4, c5, c6, c7, c8⟩ := hc
          obtain rfl := Option.some.inj h
          have fin : ∀ own' : String, s.vm.findClass own' = some m.cls → Cond.methodLink own' idx arraycopyName ∈ lw_all → W p l e R s m args below meth c H locs cells slots Q (F0 m pc ls (.int n :: .int dp :: .ref a :: .int sp :: .ref b :: st')) := by
            intro own' ho hl
            refine zq_copy hx hb (by rw [hml]; exact hsz.symm) ho (hts _ hl) (hts _ q600) (hts _ q599) (hts _ q51) hT.1 k0 k1 (hP b _ hw0) (hP a _ hw1) (hg.2.1 k0 _ (za_cls_ok hE0)) (hg.2.1 k1 _ (za_cls_ok hE1)) c1 c2 c3 c4 c5 (fun i hi y hy => ?_) hfr ?_ hd (fun H1 L hL hq => ?_)
            · have h7 := zs_fitB_ok c7 i hi y hy
              obtain ⟨r, hr⟩ := Option.isSome_iff_exists.mp h7
              rcases za_el_ok hT hg hr hS hP with ⟨e1, -⟩ | ⟨b', e1, -, hany⟩
              · cases e1
              · cases e1
                exact hany
            · have hw : nativeFrameWords "java/lang/System" "arraycopy" 5 = 7 := by decide
              rw [hw]
              omega
            · refine k H1 _ (hP.up hq.1 (fun q hq2 _ => hq.2.2 q hq2)) (by rw [hq.2.1]; exact hz) rfl rfl ⟨by rw [hq.2.1]; exact hS.1, fun q h1 h2 => ?_, fun q hq3 => ?_⟩
              · have hne : q ≠ a := fun e9 => h2 (by rw [e9]; exact c6)
                exact (hq.2.2 q hne).trans (hS.2.1 q h1 h2)
              · rcases List.mem_append.mp hq3 with h9 | h9
                · exact hS.2.2 q h9
                · rw [hL q h9]
                  exact c6
          rcases co with ⟨rfl, rfl⟩ | ⟨rfl, rfl⟩
          · cases Option.some.inj ((show zcn[1]? = some "java/util/ArrayList" from rfl).symm.trans hn)
            exact fin _ hown q1343
          · cases Option.some.inj ((show zcn[22]? = some "java/util/Arrays" from rfl).symm.trans hn)
            exact fin _ hown q598
        · cases h
      · cases h
    · cases h
  · cases h
end ZCZ
/-- a cast of a constant object to its own class -/
def zs_castK (K : List (String × Nat)) (own idx : Nat) (pc : Nat) (lv : zp_L) (st : List Value) (v : Value) (σ : zS) : Option (zp_F × zS) := match v with
  | .ref a => match zl_at own idx, K.find? (fun r => r.2 == a) with
    | some nm, some r => if r.1 = nm then some ((pc + 3, lv, .ref a :: st), σ) else none
    | _, _ => none
  | _ => none
theorem zassign (vm : Vm) (c : ClassId) : vm.assignable c c = true := by
  have h : ∀ n : Nat, vm.assignableAux (n + 1) c c = true := by
    intro n
    rw [Vm.assignableAux]
    rw [beq_self_eq_true, Bool.true_or]
  exact h 255
section ZCK
variable {p : Program} {l : Launch} {e : Env} {R : Room} {s : State} {m : MethodId} {args : Array Value} {below : List Frame} {meth : Method} {c : Code} {H : Heap} {locs : List Loc} {cells slots : Nat} {Q : State → Prop}
variable {ls : Array Slot} {g : zG} {μ : zMt} {own idx pc : Nat} {lv : zp_L} {st : List Value} {v : Value} {σ : zS} {f : zp_F × zS}
theorem zs_castK_ok (C : zCtx g p s m args meth c μ own) (h : zs_castK (zg_k g) own idx pc lv st v σ = some f) (hS : va_S (zA g) s.heap H locs) (hd : decode μ.2.1 pc = .ok (.checkcast idx, 3))
    (k : f.2 = σ → f.1.2.1 = lv → W p l e R s m args below meth c H locs cells slots Q (F0 m f.1.1 ls f.1.2.2)) : W p l e R s m args below meth c H locs cells slots Q (F0 m pc ls (v :: st)) := by
  obtain ⟨hx, hb, hml, hr, hlk, hnm, ⟨nm, hn, hown⟩, hts, hT, hcl⟩ := C
  unfold zs_castK at h
  split at h
  · rename_i a
    split at h
    · rename_i nm2 r hl hf
      split at h
      · rename_i hc
        obtain rfl := Option.some.inj h
        obtain ⟨own', g1, g2⟩ := zl_at_ok hl
        cases Option.some.inj (g1.symm.trans hn)
        have h1 := List.find?_some hf
        have h2 := hT.2.2.2.2.2.2.2 r (List.mem_of_find?_eq_some hf)
        simp only [beq_iff_eq] at h1
        rw [h1, hc] at h2
        obtain ⟨cell, c1, c2, c3, -⟩ := h2.kept hS.2.1
        intro T hT2 X
        obtain ⟨vm', X', st2⟩ := X.checkcastYes hx hown (hts _ g2) (by rw [hT2]; exact c1) c2 c3 (zassign _ _) (g := F0 m pc ls (.ref a :: st)) rfl rfl (by rw [hb]; exact hd)
        obtain ⟨t, a1, b1⟩ := k rfl rfl (T.setVm vm') hT2 X'
        exact ⟨t, st2 t a1, b1⟩
      · cases h
    · cases h
  · cases h
end ZCK
