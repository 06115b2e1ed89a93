/-! RUNS: the heap's steps hand the locals on; a run with more locals is the same -/
set_option maxRecDepth 100000
section ZLW
variable {i : Instr} {len pc nL own idx a d : Nat} {lv lv' : zp_L} {st : List Value} {f : zp_F × zS} {g : zG} {nm : String} {L : List zIt} {σ : zS} {v : Value} {j : Int32}
abbrev zsl (lv' : zp_L) (f : zp_F × zS) : zp_F × zS := ((f.1.1, lv', f.1.2.2), f.2)
theorem zl_get (h : zs_get own idx pc lv st a σ = some f) : zs_get own idx pc lv' st a σ = some (zsl lv' f) := by
  unfold zs_get at h ⊢
  repeat' split at h
  all_goals first
    | (obtain rfl := Option.some.inj h; simp_all)
    | cases h
theorem zl_const {zo : List (String × String × String × Value × Nat)} (h : zs_const zo own idx pc lv st a σ = some f) : zs_const zo own idx pc lv' st a σ = some (zsl lv' f) := by
  unfold zs_const at h ⊢
  repeat' split at h
  all_goals first
    | (obtain rfl := Option.some.inj h; simp_all)
    | cases h
theorem zl_put {n0 : Nat} {b : Bool} (h : zs_put n0 b own idx pc lv st v a σ = some f) : zs_put n0 b own idx pc lv' st v a σ = some (zsl lv' f) := by
  unfold zs_put at h ⊢
  repeat' split at h
  all_goals first
    | (obtain rfl := Option.some.inj h; simp_all)
    | cases h
theorem zl_new (h : zs_new own idx pc lv st σ = some f) : zs_new own idx pc lv' st σ = some (zsl lv' f) := by
  unfold zs_new at h ⊢
  repeat' split at h
  all_goals first
    | (obtain rfl := Option.some.inj h; simp_all)
    | cases h
theorem zl_cast (h : zs_cast own idx pc lv st v σ = some f) : zs_cast own idx pc lv' st v σ = some (zsl lv' f) := by
  unfold zs_cast at h ⊢
  repeat' split at h
  all_goals first
    | (obtain rfl := Option.some.inj h; simp_all)
    | cases h
theorem zl_castK {K : List (String × Nat)} (h : zs_castK K own idx pc lv st v σ = some f) : zs_castK K own idx pc lv' st v σ = some (zsl lv' f) := by
  unfold zs_castK at h ⊢
  repeat' split at h
  all_goals first
    | (obtain rfl := Option.some.inj h; simp_all)
    | cases h
theorem zl_inst (h : zs_inst own idx pc lv st v σ = some f) : zs_inst own idx pc lv' st v σ = some (zsl lv' f) := by
  unfold zs_inst at h ⊢
  repeat' split at h
  all_goals first
    | (obtain rfl := Option.some.inj h; simp_all)
    | cases h
theorem zl_len (h : za_len pc lv st a σ = some f) : za_len pc lv' st a σ = some (zsl lv' f) := by
  unfold za_len at h ⊢
  repeat' split at h
  all_goals first
    | (obtain rfl := Option.some.inj h; simp_all)
    | cases h
theorem zl_load (h : za_load i pc lv st a j σ = some f) : za_load i pc lv' st a j σ = some (zsl lv' f) := by
  unfold za_load at h ⊢
  repeat' split at h
  all_goals first
    | (obtain rfl := Option.some.inj h; simp_all)
    | cases h
theorem zl_store {n0 : Nat} {K : List (String × Nat)} (h : za_store n0 K i pc lv st v j a σ = some f) : za_store n0 K i pc lv' st v j a σ = some (zsl lv' f) := by
  unfold za_store at h ⊢
  repeat' split at h
  all_goals first
    | (obtain rfl := Option.some.inj h; simp_all)
    | cases h
theorem zl_newa {t : ArrayType} (h : zb_step t pc lv st j σ = some f) : zb_step t pc lv' st j σ = some (zsl lv' f) := by
  unfold zb_step at h ⊢
  repeat' split at h
  all_goals first
    | (obtain rfl := Option.some.inj h; simp_all)
    | cases h
theorem zl_anewa (h : zb_astep own idx pc lv st j σ = some f) : zb_astep own idx pc lv' st j σ = some (zsl lv' f) := by
  unfold zb_astep at h ⊢
  repeat' split at h
  all_goals first
    | (obtain rfl := Option.some.inj h; simp_all)
    | cases h
theorem zl_stat {zs : List (String × String × String × Value)} (h : zs_stat zs own idx pc lv st σ = some f) : zs_stat zs own idx pc lv' st σ = some (zsl lv' f) := by
  unfold zs_stat at h ⊢
  repeat' split at h
  all_goals first
    | (obtain rfl := Option.some.inj h; simp_all)
    | cases h
theorem zl_ldc {mi : Nat} (h : zs_ldc mi own idx pc lv st σ = some f) : zs_ldc mi own idx pc lv' st σ = some (zsl lv' f) := by
  unfold zs_ldc at h ⊢
  repeat' split at h
  all_goals first
    | (obtain rfl := Option.some.inj h; simp_all)
    | cases h
theorem zl_init (h : zxs_init own idx pc lv st σ = some f) : zxs_init own idx pc lv' st σ = some (zsl lv' f) := by
  unfold zxs_init at h ⊢
  repeat' split at h
  all_goals first
    | (obtain rfl := Option.some.inj h; simp_all)
    | cases h
theorem zl_math (h : zxs_math own idx pc lv st σ = some f) : zxs_math own idx pc lv' st σ = some (zsl lv' f) := by
  unfold zxs_math at h ⊢
  split at h
  all_goals first
    | (split at h
       · obtain rfl := Option.some.inj h
         first
          | rfl
          | (rw [if_pos (by assumption)])
       · cases h)
    | cases h
theorem zl_copy {n0 : Nat} {K : List (String × Nat)} (h : zs_copy n0 K own idx pc lv st σ = some f) : zs_copy n0 K own idx pc lv' st σ = some (zsl lv' f) := by
  unfold zs_copy at h ⊢
  repeat' split at h
  all_goals first
    | (obtain rfl := Option.some.inj h; simp_all)
    | cases h
theorem zl_getC {mi : Nat} (h : zs_getC mi own idx pc lv st σ = some f) : zs_getC mi own idx pc lv' st σ = some (zsl lv' f) := by
  unfold zs_getC at h ⊢
  repeat' split at h
  all_goals first
    | (obtain rfl := Option.some.inj h; simp_all)
    | cases h
theorem zl_map {o o' : Option (zp_F × zS)} {r : zR1} (ho : ∀ f, o = some f → o' = some (zsl lv' f)) (h : o.map (Sum.inl : zp_F × zS → zR1) = some r) : ∃ f, r = .inl f ∧ o = some f ∧ o'.map (Sum.inl : zp_F × zS → zR1) = some (.inl (zsl lv' f)) := by
  cases o with
  | none => cases h
  | some f => obtain rfl := Option.some.inj h; rw [ho f rfl]; exact ⟨f, rfl, rfl, rfl⟩
/-- a heap's step: the locals are handed on; or it throws -/
theorem zheap_lv {r : zR1} (h : zheap g own nm L i len pc lv st σ = some r) : zisl i = false ∧ ((∃ f : zp_F × zS, r = .inl f ∧ f.1.2.1 = lv ∧ zheap g own nm L i len pc lv' st σ = some (.inl (zsl lv' f))) ∨ ((∀ f, r ≠ .inl f) ∧ zheap g own nm L i len pc lv' st σ = some r)) := by
  unfold zheap at h ⊢
  split at h
  · split at h
    · rename_i f hf
      obtain rfl := Option.some.inj h
      exact ⟨rfl, Or.inl ⟨f, rfl, (zk_get hf).1, by (try simp only); rw [zl_get (lv' := lv') hf]⟩⟩
    · rename_i hn
      obtain ⟨f, h1, h2, h3⟩ := zl_map (lv' := lv') (fun f hf => zl_const hf) h
      refine ⟨rfl, Or.inl ⟨f, h1, (zk_const h2).1, ?_⟩⟩
      (try simp only)
      split
      · rename_i f2 hf2
        have := zl_get (lv' := lv) hf2
        rw [hn] at this
        cases this
      · exact h3
  · obtain ⟨f, h1, h2, h3⟩ := zl_map (lv' := lv') (fun f hf => zl_put hf) h
    exact ⟨rfl, Or.inl ⟨f, h1, (zk_put h2).1, h3⟩⟩
  · split at h
    · rename_i x hx
      split at h
      · rename_i hc
        obtain rfl := Option.some.inj h
        exact ⟨rfl, Or.inr ⟨fun f e => (by cases e), (by rw [if_pos hc])⟩⟩
      · cases h
    · rename_i hx
      obtain ⟨f, h1, h2, h3⟩ := zl_map (lv' := lv') (fun f hf => zl_new hf) h
      exact ⟨rfl, Or.inl ⟨f, h1, (zk_new h2).1, h3⟩⟩
  · split at h
    · rename_i f hf
      obtain rfl := Option.some.inj h
      exact ⟨rfl, Or.inl ⟨f, rfl, (zk_cast hf).1, by (try simp only); rw [zl_cast (lv' := lv') hf]⟩⟩
    · rename_i hn
      obtain ⟨f, h1, h2, h3⟩ := zl_map (lv' := lv') (fun f hf => zl_castK hf) h
      refine ⟨rfl, Or.inl ⟨f, h1, (zk_castK h2).1, ?_⟩⟩
      (try simp only)
      split
      · rename_i f2 hf2
        have := zl_cast (lv' := lv) hf2
        rw [hn] at this
        cases this
      · exact h3
  · obtain ⟨f, h1, h2, h3⟩ := zl_map (lv' := lv') (fun f hf => zl_inst hf) h
    exact ⟨rfl, Or.inl ⟨f, h1, (zk_inst h2).1, h3⟩⟩
  · obtain ⟨f, h1, h2, h3⟩ := zl_map (lv' := lv') (fun f hf => zl_len hf) h
    exact ⟨rfl, Or.inl ⟨f, h1, (zk_len h2).1, h3⟩⟩
  · obtain ⟨f, h1, h2, h3⟩ := zl_map (lv' := lv') (fun f hf => zl_newa hf) h
    exact ⟨rfl, Or.inl ⟨f, h1, (zk_newa h2).1, h3⟩⟩
  · obtain ⟨f, h1, h2, h3⟩ := zl_map (lv' := lv') (fun f hf => zl_anewa hf) h
    exact ⟨rfl, Or.inl ⟨f, h1, (zk_anewa h2).1, h3⟩⟩
  · obtain ⟨f, h1, h2, h3⟩ := zl_map (lv' := lv') (fun f hf => zl_stat hf) h
    exact ⟨rfl, Or.inl ⟨f, h1, (zk_stat h2).1, h3⟩⟩
  · obtain ⟨f, h1, h2, h3⟩ := zl_map (lv' := lv') (fun f hf => zl_ldc hf) h
    exact ⟨rfl, Or.inl ⟨f, h1, (zk_ldc h2).1, h3⟩⟩
  · obtain ⟨f, h1, h2, h3⟩ := zl_map (lv' := lv') (fun f hf => zl_init hf) h
    exact ⟨rfl, Or.inl ⟨f, h1, (zk_init h2).1, h3⟩⟩
  · split at h
    · rename_i f hf
      obtain rfl := Option.some.inj h
      exact ⟨rfl, Or.inl ⟨f, rfl, (zk_math hf).1, by (try simp only); rw [zl_math (lv' := lv') hf]⟩⟩
    · rename_i hn
      obtain ⟨f, h1, h2, h3⟩ := zl_map (lv' := lv') (fun f hf => zl_copy hf) h
      refine ⟨rfl, Or.inl ⟨f, h1, (zk_copy h2).1, ?_⟩⟩
      (try simp only)
      split
      · rename_i f2 hf2
        have := zl_math (lv' := lv) hf2
        rw [hn] at this
        cases this
      · exact h3
  · obtain ⟨f, h1, h2, h3⟩ := zl_map (lv' := lv') (fun f hf => zl_getC hf) h
    exact ⟨rfl, Or.inl ⟨f, h1, (zk_getC h2).1, h3⟩⟩
  · obtain ⟨f, h1, h2, h3⟩ := zl_map (lv' := lv') (fun f hf => zl_load hf) h
    have hi : zisl i = false := by
      unfold za_load at h2
      split at h2 <;> first | rfl | cases h2
    refine ⟨hi, Or.inl ⟨f, h1, (zk_load h2).1, ?_⟩⟩
    simp_all
  · obtain ⟨f, h1, h2, h3⟩ := zl_map (lv' := lv') (fun f hf => zl_store hf) h
    have hi : zisl i = false := by
      unfold za_store at h2
      split at h2 <;> first | rfl | cases h2
    refine ⟨hi, Or.inl ⟨f, h1, (zk_store h2).1, ?_⟩⟩
    simp_all
  · cases h
theorem zr_ret_isl {ret : Option FieldType} {r : Option Value} (h : zr_ret i len st ret = some r) : zisl i = false := by
  unfold zr_ret at h
  split at h <;> first | rfl | cases h
theorem zcall_isl {y : Nat × List Value × List Value × Nat} (h : zcall g own i st σ = some y) : zisl i = false := by
  unfold zcall at h
  split at h <;> first | rfl | cases h
theorem zp_step_none (hi : zisl i = false) (h : zp_step i len pc nL lv st = none) : zp_step i len pc nL lv' st = none := by
  unfold zp_step at h ⊢
  rw [zisl_no hi] at h ⊢
  simp only at h ⊢
  cases ha : zp_ar i len pc lv st with
  | some f => rw [ha] at h; cases h
  | none =>
    rw [ha] at h
    simp only at h
    have ha' : zp_ar i len pc lv' st = none := by
      cases hq : zp_ar i len pc lv' st with
      | none => rfl
      | some f2 => have := (zp_ar_lv (lv' := lv) hq).2.2; rw [ha] at this; cases this
    rw [ha']
    simp only
    cases hq : zp_jump i len pc lv' st with
    | none => rfl
    | some f2 => have := (zp_jump_lv (lv' := lv) hq).2.2; rw [h] at this; cases this
theorem zheap_none (h : zheap g own nm L i len pc lv st σ = none) : zheap g own nm L i len pc lv' st σ = none := by
  cases hq : zheap g own nm L i len pc lv' st σ with
  | none => rfl
  | some r =>
    rcases (zheap_lv (lv' := lv) hq).2 with ⟨f, _, _, h3⟩ | ⟨_, h3⟩
    · rw [h] at h3; cases h3
    · rw [h] at h3; cases h3
theorem zstep_lv {ret : Option FieldType} {r : zR1} (hl : lvs lv lv') (h : zstep g own nm nL ret L i len pc lv st σ = some r) :
    (∃ (f : zp_F × zS) (lv2 : zp_L), r = .inl f ∧ lvs f.1.2.1 lv2 ∧ zstep g own nm nL ret L i len pc lv' st σ = some (.inl (zsl lv2 f))) ∨ ((∀ f, r ≠ .inl f) ∧ zstep g own nm nL ret L i len pc lv' st σ = some r) := by
  unfold zstep at h ⊢
  cases hs : zp_step i len pc nL lv st with
  | some f =>
    rw [hs] at h
    obtain rfl := Option.some.inj h
    obtain ⟨lv2, h1, h2⟩ := zp_step_lv hl hs
    rw [h1]
    exact Or.inl ⟨(f, σ), lv2, rfl, h2, rfl⟩
  | none =>
    rw [hs] at h
    simp only at h
    cases hh : zheap g own nm L i len pc lv st σ with
    | some r1 =>
      rw [hh] at h
      obtain rfl := Option.some.inj h
      obtain ⟨h1, h2⟩ := zheap_lv (lv' := lv') hh
      rw [zp_step_none h1 hs]
      simp only
      rcases h2 with ⟨f, q1, q2, q3⟩ | ⟨q1, q2⟩
      · rw [q3]
        exact Or.inl ⟨f, lv', q1, q2 ▸ hl, rfl⟩
      · rw [q2]
        exact Or.inr ⟨q1, rfl⟩
    | none =>
      rw [hh] at h
      simp only at h
      cases hr : zr_ret i len st ret with
      | some v =>
        rw [hr] at h
        rw [zp_step_none (zr_ret_isl hr) hs]
        simp only
        rw [zheap_none hh]
        obtain rfl := Option.some.inj h
        exact Or.inr ⟨fun f e => (by cases e), rfl⟩
      | none =>
        rw [hr] at h
        simp only at h
        cases hc : zcall g own i st σ with
        | none => rw [hc] at h; cases h
        | some y =>
          rw [hc] at h
          rw [zp_step_none (zcall_isl hc) hs]
          simp only
          rw [zheap_none hh]
          simp only
          obtain rfl := Option.some.inj h
          exact Or.inr ⟨fun f e => (by cases e), rfl⟩
theorem zland_lv {nLx h : Nat} {z : Nat × zp_L} (hl : lvs lv lv') (hz : zland L nLx h lv = some z) : ∃ lv2, zland L nLx h lv' = some (z.1, lv2) ∧ lvs z.2 lv2 := by
  unfold zland at hz ⊢
  split at hz
  · split at hz
    · rename_i hc
      obtain rfl := Option.some.inj hz
      exact ⟨_, (by simp [*]), lvs_filter hl _⟩
    · cases hz
  · split at hz
    · rename_i hc
      obtain rfl := Option.some.inj hz
      exact ⟨_, (by simp [*]), lvs_filter hl _⟩
    · cases hz
  · cases hz
theorem zxs_lv {F : Nat → Nat → Nat → zp_L → List Value → zS → Option zO} {b : Nat × List zIt} {μ : zMt} {G G' : Nat → zp_L → List Value → zS → Option zO} {r : zO} (hl : lvs lv lv')
    (hG : ∀ (pc : Nat) (l1 l2 : zp_L) (st : List Value) (σ : zS) (r : zO), lvs l1 l2 → G pc l1 st σ = some r → G' pc l2 st σ = some r) (h : zxs g F b μ G d pc lv st σ = some r) : zxs g F b μ G' d pc lv' st σ = some r := by
  unfold zxs at h ⊢
  cases hx : zat b.2 pc with
  | none => rw [hx] at h; cases h
  | some x =>
    rw [hx] at h
    simp only at h ⊢
    cases hs : zstep g b.1 μ.1.name μ.2.2.1 μ.2.2.2.1 b.2 x.1 x.2 pc lv st σ with
    | none => rw [hs] at h; cases h
    | some r1 =>
      rw [hs] at h
      rcases zstep_lv hl hs with ⟨f, lv2, rfl, h2, h3⟩ | ⟨h2, h3⟩
      · rw [h3]
        exact hG _ _ _ _ _ _ h2 h
      · rw [h3]
        rcases r1 with f | (⟨v | y, s1⟩ | y)
        · exact absurd rfl (h2 f)
        · exact h
        · exact h
        · cases d with
          | zero => cases h
          | succ d' =>
            simp only at h ⊢
            cases hk : zck y.1 false with
            | none => rw [hk] at h; cases h
            | some μ' =>
              rw [hk] at h
              simp only at h ⊢
              split at h
              · rename_i hc
                rw [if_pos hc]
                cases hF : F d' y.1 0 (lv_args 0 y.2.1) [] σ with
                | none => rw [hF] at h; cases h
                | some w =>
                  rw [hF] at h
                  obtain ⟨o, s2⟩ := w
                  cases o with
                  | inl v => exact hG _ _ _ _ _ _ hl h
                  | inr E =>
                    simp only at h ⊢
                    split at h
                    · rename_i h3
                      rw [if_pos h3]
                      split at h
                      · cases h
                      · exact h
                      · split at h
                        · rename_i z hz
                          obtain ⟨lv2, q1, q2⟩ := zland_lv hl hz
                          rw [q1]
                          exact hG _ _ _ _ _ _ q2 h
                        · cases h
                    · cases h
              · cases h
end ZLW
theorem zx_lv (g : zG) : ∀ (n d k pc : Nat) (lv lv' : zp_L) (st : List Value) (σ : zS) (r : zO), lvs lv lv' → zx g n d k pc lv st σ = some r → zx g n d k pc lv' st σ = some r := by
  intro n
  induction n with
  | zero => intro d k pc lv lv' st σ r _ h; cases h
  | succ n ih =>
    intro d k pc lv lv' st σ r hl h
    unfold zx at h ⊢
    split at h
    · exact zxs_lv hl (fun pc l1 l2 st σ r hl h => ih d k pc l1 l2 st σ r hl h) h
    · cases h
theorem zxT_lv (g : zG) (b : Nat × List zIt) (μ : zMt) : ∀ (n d pc : Nat) (lv lv' : zp_L) (st : List Value) (σ : zS) (r : zO), lvs lv lv' → zxT g b μ n d pc lv st σ = some r → zxT g b μ n d pc lv' st σ = some r := by
  intro n
  induction n with
  | zero => intro d pc lv lv' st σ r _ h; cases h
  | succ n ih =>
    intro d pc lv lv' st σ r hl h
    unfold zxT at h ⊢
    exact zxs_lv hl (fun pc l1 l2 st σ r hl h => ih d pc l1 l2 st σ r hl h) h
/-- the locals, fewer or in another order: 'lv' is in lv'', shown by rfl -/
def lvok : zp_L → zp_L → Prop
  | [], _ => True
  | q :: t, lv' => zp_ld lv' q.1 = some q.2 ∧ lvok t lv'
def lvnd : zp_L → Bool
  | [] => true
  | q :: t => t.all (fun r => r.1 != q.1) && lvnd t
theorem lvok_mem : ∀ {lv lv' : zp_L}, lvok lv lv' → ∀ q ∈ lv, zp_ld lv' q.1 = some q.2
  | [], _, _, q, hq => absurd hq List.not_mem_nil
  | a :: t, lv', h, q, hq => by
    rcases List.mem_cons.mp hq with rfl | h2
    · exact h.1
    · exact lvok_mem h.2 q h2
theorem lvnd_ok : ∀ {lv : zp_L}, lvnd lv = true → (lv.map (·.1)).Nodup
  | [], _ => List.nodup_nil
  | a :: t, h => by
    unfold lvnd at h
    rw [Bool.and_eq_true] at h
    rw [List.map_cons, List.nodup_cons]
    refine ⟨fun hm => ?_, lvnd_ok h.2⟩
    obtain ⟨q, q1, q2⟩ := List.mem_map.mp hm
    have := List.all_eq_true.mp h.1 q q1
    simp at this
    exact this q2
theorem zW_lv {g : zG} {d k pc : Nat} {lv' : zp_L} {st : List Value} {σ : zS} {Q : Option Value ⊕ String → zS → Prop} (lv : zp_L) (h1 : lvnd lv = true) (h2 : lvok lv lv') (h : zW g d k pc lv st σ Q) : zW g d k pc lv' st σ Q := by
  obtain ⟨o, σ', ⟨n, hn⟩, hq⟩ := h
  exact ⟨o, σ', ⟨n, zx_lv g n d k pc lv lv' st σ _ ⟨lvnd_ok h1, lvok_mem h2⟩ hn⟩, hq⟩
