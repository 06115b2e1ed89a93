/-! THE INTERPRETER itself: one step (zstep), a run (zx) -/
set_option maxRecDepth 100000
/-- what a step does: on to a state; an end: it returns, or E is thrown at a place; a call: the method, its arguments, what stays on the stack, the instruction's length -/
abbrev zR1 : Type := (zp_F × zS) ⊕ ((Option Value ⊕ (Nat × String)) × zS) ⊕ (Nat × List Value × List Value × Nat)
/-- 'throw new E()' at pc: the class, athrow's place -/
def zthrow (L : List zIt) (own pc ik : Nat) : Option (Nat × String) := match zat L (pc + 3), zat L (pc + 4), zat L (pc + 7) with
  | some (.dup, 3), _, _ => none
  | some (.dup, 1), some (.invokespecial ic, 3), some (.athrow, 1) => (ze_at own ik ic).map (fun E => (pc + 7, E))
  | some (.dup, 1), some (.aconst_null, 1), _ => if (own = 0 ∧ ik = 249 ∧ zat L (pc + 5) = some (.invokespecial 251, 3) ∧ zat L (pc + 8) = some (.athrow, 1)) ∨ (own = 13 ∧ ik = 67 ∧ zat L (pc + 5) = some (.invokespecial 69, 3) ∧ zat L (pc + 8) = some (.athrow, 1)) then some (pc + 8, "Foundrymark$Lack") else none
  | _, _, _ => none
abbrev zc6 (st : List Value) : Bool := decide ((st.map fun v => v.category).sum ≤ 8)
def zheap (g : zG) (own : Nat) (nm : String) (L : List zIt) (i : Instr) (len pc : Nat) (lv : zp_L) (st : List Value) (σ : zS) : Option zR1 := match i, len, st with
  | .getfield idx, 3, .ref a :: st => match zs_get own idx pc lv st a σ with
    | some f => some (.inl f)
    | none => (zs_const (zg_o g) own idx pc lv st a σ).map .inl
  | .putfield idx, 3, v :: .ref a :: st => (zs_put (zg_n g) (nm == "<init>") own idx pc lv st v a σ).map .inl
  | .new idx, 3, st => match zthrow L own pc idx with
    | some x => if zc6 st = true then some (.inr (.inl (.inr x, (σ.1, σ.2.1 + 1, σ.2.2 + 6)))) else none
    | none => (zs_new own idx pc lv st σ).map .inl
  | .checkcast idx, 3, v :: st => match zs_cast own idx pc lv st v σ with
    | some f => some (.inl f)
    | none => (zs_castK (zg_k g) own idx pc lv st v σ).map .inl
  | .instanceof idx, 3, v :: st => (zs_inst own idx pc lv st v σ).map .inl
  | .arraylength, 1, .ref a :: st => (za_len pc lv st a σ).map .inl
  | .newarray t, 2, .int j :: st => (zb_step t pc lv st j σ).map .inl
  | .anewarray idx, 3, .int j :: st => (zb_astep own idx pc lv st j σ).map .inl
  | .getstatic idx, 3, st => (zs_stat (zg_s g) own idx pc lv st σ).map .inl
  | .ldc idx, 2, st => (zs_ldc (zg_m g) own idx pc lv st σ).map .inl
  | .invokespecial idx, 3, .ref _ :: st => (zxs_init own idx pc lv st σ).map .inl
  | .invokestatic idx, 3, st => match zxs_math own idx pc lv st σ with
    | some f => some (.inl f)
    | none => (zs_copy (zg_n g) (zg_k g) own idx pc lv st σ).map .inl
  | .invokevirtual idx, 3, st => (zs_getC (zg_m g) own idx pc lv st σ).map .inl
  | i, 1, .int j :: .ref a :: st => (za_load i pc lv st a j σ).map .inl
  | i, 1, v :: .int j :: .ref a :: st => (za_store (zg_n g) (zg_k g) i pc lv st v j a σ).map .inl
  | _, _, _ => none
/-- the callee of the list, without handlers where b says so -/
def zck (k : Nat) (b : Bool) : Option zMt := match zML[k]? with
  | some μ => if b = true ∧ μ.2.2.2.2 ≠ [] then none else some μ
  | none => none
def zun (own idx : Nat) : Option Nat := (zuL.find? (fun r => r.1.1 == own && r.1.2.1 == idx)).map (·.2.2)
def zjn (own idx : Nat) : Option Nat := (zjL.find? (fun r => r.1.1 == own && r.1.2.1 == idx)).map (·.2.2)
def zcall (g : zG) (own : Nat) (i : Instr) (st : List Value) (σ : zS) : Option (Nat × List Value × List Value × Nat) := match i with
  | .invokestatic idx => match zcS_at own idx with
    | some x => if x.2 ≤ st.length then some (x.1, (st.take x.2).reverse, st.drop x.2, 3) else none
    | none => match zcN_at own idx with
      | some x => if x.2 ≤ st.length ∧ (zck x.1 true).isSome = true then some (x.1, (st.take x.2).reverse, st.drop x.2, 3) else none
      | none => none
  | .invokespecial idx => match zcI_at own idx with
    | some x => match zck x.1 true, st.drop x.2 with
      | some μ, .ref b :: rest => if μ.2.2.2.1 = none then some (x.1, .ref b :: (st.take x.2).reverse, rest, 3) else none
      | _, _ => none
    | none => match st with
      | .ref b :: rest => if own = 0 ∧ idx = 46 then some (4, [.ref b], rest, 3) else none
      | _ => none
  | .invokevirtual idx => match zcV_at own idx with
    | some x => match zML[x.1]?, st.drop x.2 with
      | some μ, .ref b :: rest => if zrc g σ b = some μ.1.cls then some (x.1, .ref b :: (st.take x.2).reverse, rest, 3) else match zrc g σ b with
        | some C => match zu_at own idx C with
          | some y => if y.2 = x.2 then some (y.1, .ref b :: (st.take x.2).reverse, rest, 3) else none
          | none => none
        | none => none
      | _, _ => none
    | none => match zun own idx with
      | some n => match st.drop n with
        | .ref b :: rest => match zrc g σ b with
          | some C => match zu_at own idx C with
            | some y => if y.2 = n then some (y.1, .ref b :: (st.take n).reverse, rest, 3) else none
            | none => none
          | none => none
        | _ => none
      | none => none
  | .invokeinterface idx _ => match zjn own idx with
    | some n => match st.drop n with
      | .ref b :: rest => match σ.1 b with
        | some (.inr (ci, _)) => match zj_at own idx ci with
          | some y => if y.2 = n ∧ (zck y.1 true).isSome = true then some (y.1, .ref b :: (st.take n).reverse, rest, 5) else none
          | none => none
        | _ => none
      | _ => none
    | none => none
  | _ => none
def zstep (g : zG) (own : Nat) (nm : String) (nL : Nat) (ret : Option FieldType) (L : List zIt) (i : Instr) (len pc : Nat) (lv : zp_L) (st : List Value) (σ : zS) : Option zR1 := match zp_step i len pc nL lv st with
  | some f => some (.inl (f, σ))
  | none => match zheap g own nm L i len pc lv st σ with
    | some r => some r
    | none => match zr_ret i len st ret with
      | some v => some (.inr (.inl (.inl v, σ)))
      | none => (zcall g own i st σ).map (fun x => .inr (.inr x))
/-- the handler at h begins with astore: the exception is laid down and forgotten -/
def zland (L : List zIt) (nL h : Nat) (lv : zp_L) : Option (Nat × zp_L) := match zat L h with
  | some (.astore j, 2) => if j < nL then some (h + 2, (lv.filter (fun q => !(q.1 == j) && !(q.1 + 1 == j && q.2.category == 2)))) else none
  | some (.astore_n j, 1) => if (j : Nat) < nL then some (h + 1, (lv.filter (fun q => !(q.1 == (j : Nat)) && !(q.1 + 1 == (j : Nat) && q.2.category == 2)))) else none
  | _ => none
abbrev zO : Type := (Option Value ⊕ String) × zS
/-- one step of a body, and what follows: F runs a callee, G goes on in the body -/
def zxs (g : zG) (F : Nat → Nat → Nat → zp_L → List Value → zS → Option zO) (b : Nat × List zIt) (μ : zMt) (G : Nat → zp_L → List Value → zS → Option zO) (d pc : Nat) (lv : zp_L) (st : List Value) (σ : zS) : Option zO := match zat b.2 pc with
  | none => none
  | some x => match zstep g b.1 μ.1.name μ.2.2.1 μ.2.2.2.1 b.2 x.1 x.2 pc lv st σ with
    | none => none
    | some (.inl f) => G f.1.1 f.1.2.1 f.1.2.2 f.2
    | some (.inr (.inl (.inl v, σ'))) => some (.inl v, σ')
    | some (.inr (.inl (.inr y, σ'))) => match zhd b.1 y.1 y.2 μ.2.2.2.2 with
      | some none => some (.inr y.2, σ')
      | _ => none
    | some (.inr (.inr y)) => match d with
      | 0 => none
      | d' + 1 => match zck y.1 false with
        | none => none
        | some μ' => if x.2 = y.2.2.2 ∧ zc6 y.2.2.1 = true ∧ (lg_sl y.2.1).length ≤ μ'.2.2.1 then match F d' y.1 0 (lv_args 0 y.2.1) [] σ with
          | none => none
          | some (.inl v, σ') => G (pc + y.2.2.2) lv (v.toList ++ y.2.2.1) σ'
          | some (.inr E, σ') => if y.2.2.2 = 3 then match zhd b.1 pc E μ.2.2.2.2 with
            | none => none
            | some none => some (.inr E, σ')
            | some (some h) => match zland b.2 μ.2.2.1 h lv with
              | some z => G z.1 z.2 [] σ'
              | none => none
            else none
        else none
/-- a run: fuel, depth (frames less six), the method, the place, the locals, the stack, the world -/
def zx (g : zG) : Nat → Nat → Nat → Nat → zp_L → List Value → zS → Option zO
  | 0, _, _, _, _, _, _ => none
  | n + 1, d, k, pc, lv, st, σ => match zBL[k]?, zML[k]? with
    | some b, some μ => zxs g (fun d k pc lv st σ => zx g n d k pc lv st σ) b μ (fun pc lv st σ => zx g n d k pc lv st σ) d pc lv st σ
    | _, _ => none
/-- a run of a body that isn't called: the law's -/
def zxT (g : zG) (b : Nat × List zIt) (μ : zMt) : Nat → Nat → Nat → zp_L → List Value → zS → Option zO
  | 0, _, _, _, _, _ => none
  | n + 1, d, pc, lv, st, σ => zxs g (fun d k pc lv st σ => zx g n d k pc lv st σ) b μ (fun pc lv st σ => zxT g b μ n d pc lv st σ) d pc lv st σ
section ZFA
variable {own idx pc : Nat} {lv : zp_L} {st : List Value} {a : Nat} {v : Value} {σ : zS} {f : zp_F × zS}
/-- what a step into a state keeps: the locals; neither size falls -/
abbrev zkeep (lv : zp_L) (σ : zS) (f : zp_F × zS) : Prop := f.1.2.1 = lv ∧ σ.2.1 ≤ f.2.2.1 ∧ σ.2.2 ≤ f.2.2.2
theorem zk_get (h : zs_get own idx pc lv st a σ = some f) : zkeep lv σ f := by
  unfold zs_get at h
  repeat' split at h
  all_goals first
    | (obtain rfl := Option.some.inj h; exact ⟨rfl, Nat.le_refl _, Nat.le_refl _⟩)
    | cases h
theorem zk_const {zo : List (String × String × String × Value × Nat)} (h : zs_const zo own idx pc lv st a σ = some f) : zkeep lv σ f := by
  unfold zs_const at h
  repeat' split at h
  all_goals first
    | (obtain rfl := Option.some.inj h; exact ⟨rfl, Nat.le_refl _, Nat.le_refl _⟩)
    | cases h
theorem zk_put {n0 : Nat} {b : Bool} (h : zs_put n0 b own idx pc lv st v a σ = some f) : zkeep lv σ f := by
  unfold zs_put at h
  repeat' split at h
  all_goals first
    | (obtain rfl := Option.some.inj h; exact ⟨rfl, Nat.le_refl _, Nat.le_refl _⟩)
    | cases h
theorem zk_new (h : zs_new own idx pc lv st σ = some f) : zkeep lv σ f := by
  unfold zs_new at h
  repeat' split at h
  all_goals first
    | (obtain rfl := Option.some.inj h; exact ⟨rfl, Nat.le_succ _, Nat.le_add_right _ _⟩)
    | cases h
theorem zk_cast (h : zs_cast own idx pc lv st v σ = some f) : zkeep lv σ f := by
  unfold zs_cast at h
  repeat' split at h
  all_goals first
    | (obtain rfl := Option.some.inj h; exact ⟨rfl, Nat.le_refl _, Nat.le_refl _⟩)
    | cases h
theorem zk_castK {K : List (String × Nat)} (h : zs_castK K own idx pc lv st v σ = some f) : zkeep lv σ f := by
  unfold zs_castK at h
  repeat' split at h
  all_goals first
    | (obtain rfl := Option.some.inj h; exact ⟨rfl, Nat.le_refl _, Nat.le_refl _⟩)
    | cases h
theorem zk_inst (h : zs_inst own idx pc lv st v σ = some f) : zkeep lv σ f := by
  unfold zs_inst at h
  repeat' split at h
  all_goals first
    | (obtain rfl := Option.some.inj h; exact ⟨rfl, Nat.le_refl _, Nat.le_refl _⟩)
    | cases h
theorem zk_len (h : za_len pc lv st a σ = some f) : zkeep lv σ f := by
  unfold za_len at h
  repeat' split at h
  all_goals first
    | (obtain rfl := Option.some.inj h; exact ⟨rfl, Nat.le_refl _, Nat.le_refl _⟩)
    | cases h
theorem zk_load {i : Instr} {j : Int32} (h : za_load i pc lv st a j σ = some f) : zkeep lv σ f := by
  unfold za_load at h
  repeat' split at h
  all_goals first
    | (obtain rfl := Option.some.inj h; exact ⟨rfl, Nat.le_refl _, Nat.le_refl _⟩)
    | cases h
theorem zk_store {n0 : Nat} {K : List (String × Nat)} {i : Instr} {j : Int32} (h : za_store n0 K i pc lv st v j a σ = some f) : zkeep lv σ f := by
  unfold za_store at h
  repeat' split at h
  all_goals first
    | (obtain rfl := Option.some.inj h; exact ⟨rfl, Nat.le_refl _, Nat.le_refl _⟩)
    | cases h
theorem zk_newa {t : ArrayType} {j : Int32} (h : zb_step t pc lv st j σ = some f) : zkeep lv σ f := by
  unfold zb_step at h
  repeat' split at h
  all_goals first
    | (obtain rfl := Option.some.inj h; exact ⟨rfl, Nat.le_succ _, Nat.le_add_right _ _⟩)
    | cases h
theorem zk_anewa {j : Int32} (h : zb_astep own idx pc lv st j σ = some f) : zkeep lv σ f := by
  unfold zb_astep at h
  repeat' split at h
  all_goals first
    | (obtain rfl := Option.some.inj h; exact ⟨rfl, Nat.le_succ _, Nat.le_add_right _ _⟩)
    | cases h
theorem zk_stat {zs : List (String × String × String × Value)} (h : zs_stat zs own idx pc lv st σ = some f) : zkeep lv σ f := by
  unfold zs_stat at h
  repeat' split at h
  all_goals first
    | (obtain rfl := Option.some.inj h; exact ⟨rfl, Nat.le_refl _, Nat.le_refl _⟩)
    | cases h
theorem zk_ldc {mi : Nat} (h : zs_ldc mi own idx pc lv st σ = some f) : zkeep lv σ f := by
  unfold zs_ldc at h
  repeat' split at h
  all_goals first
    | (obtain rfl := Option.some.inj h; exact ⟨rfl, Nat.le_refl _, Nat.le_refl _⟩)
    | cases h
theorem zk_init (h : zxs_init own idx pc lv st σ = some f) : zkeep lv σ f := by
  unfold zxs_init at h
  repeat' split at h
  all_goals first
    | (obtain rfl := Option.some.inj h; exact ⟨rfl, Nat.le_refl _, Nat.le_refl _⟩)
    | cases h
theorem zk_math (h : zxs_math own idx pc lv st σ = some f) : zkeep lv σ f := by
  unfold zxs_math at h
  repeat' split at h
  all_goals first
    | (obtain rfl := Option.some.inj h; exact ⟨rfl, Nat.le_refl _, Nat.le_refl _⟩)
    | cases h
theorem zk_copy {n0 : Nat} {K : List (String × Nat)} (h : zs_copy n0 K own idx pc lv st σ = some f) : zkeep lv σ f := by
  unfold zs_copy at h
  repeat' split at h
  all_goals first
    | (obtain rfl := Option.some.inj h; exact ⟨rfl, Nat.le_refl _, Nat.le_refl _⟩)
    | cases h
theorem zk_getC {mi : Nat} (h : zs_getC mi own idx pc lv st σ = some f) : zkeep lv σ f := by
  unfold zs_getC at h
  repeat' split at h
  all_goals first
    | (obtain rfl := Option.some.inj h; exact ⟨rfl, Nat.le_refl _, Nat.le_refl _⟩)
    | cases h
end ZFA
