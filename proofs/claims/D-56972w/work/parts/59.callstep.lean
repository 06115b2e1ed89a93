/-! THE INTERPRETER: a call of the interpreter's is the machine's; neither size of the world falls in a run -/
set_option maxRecDepth 100000
theorem zck_some {k : Nat} {b : Bool} {μ : zMt} (h : zck k b = some μ) : zML[k]? = some μ ∧ (b = true → μ.2.2.2.2 = []) := by
  unfold zck at h
  split at h
  · rename_i μ0 h0
    split at h
    · cases h
    · rename_i hn
      obtain rfl := Option.some.inj h
      refine ⟨h0, fun hb => ?_⟩
      by_cases h9 : μ0.2.2.2.2 = []
      · exact h9
      · exact absurd ⟨hb, h9⟩ hn
  · cases h
theorem zcut {st : List Value} {n : Nat} : (st.take n).reverse.reverse ++ st.drop n = st := by rw [List.reverse_reverse, List.take_append_drop]
theorem zcut_len {st : List Value} {n : Nat} (h : n ≤ st.length) : (st.take n).reverse.length = n := by rw [List.length_reverse, List.length_take]; omega
theorem zcut_lt {st rest : List Value} {n : Nat} {v : Value} (h : st.drop n = v :: rest) : n ≤ st.length := by
  have h1 := congrArg List.length h
  rw [List.length_drop, List.length_cons] at h1
  omega
section ZCO
variable {p : Program} {l : Launch} {e : Env} {R : Room} {s : State} {m : MethodId} {args : Array Value} {below : List Frame} {meth : Method} {c : Code} {H : Heap} {locs : List Loc} {cells slots : Nat} {Q : State → Prop}
variable {ls : Array Slot} {g : zG} {μ μ' : zMt} {own pc d mc ms len : Nat} {st : List Value} {σ : zS} {i : Instr} {y : Nat × List Value × List Value × Nat} {Qc : Array Value → State → Outcome → State → Prop} {XC : String → State → State → Prop}
theorem zcall_ok (hg : zWf g) (hj : ∀ q ∈ zji, q ∈ zg_f g) (h : zcall g own i st σ = some y) (K : zCal g p R s m args meth c μ own H locs cells slots ls σ d mc ms y.2.2.1) (hμ : zck y.1 false = some μ') (hL : μ'.2.2.1 ≤ 45) (hM : zMet g l μ' d y.2.1 σ Qc XC mc ms) (hd : decode μ.2.1 pc = .ok (i, len)) (hlen : len = y.2.2.2) :
    (y.2.2.2 = 3 ∧ vx_Run p l e R s m args below meth c H locs cells slots mc ms (F0 m pc ls st) y.2.2.1 (Qc y.2.1.toArray) XC (zA g)) ∨ (y.2.2.2 = 5 ∧ vx_Run5 p l e R s m args below meth c H locs cells slots mc ms (F0 m pc ls st) y.2.2.1 (Qc y.2.1.toArray) XC (zA g)) := by
  subst hlen
  obtain ⟨hμ, -⟩ := zck_some hμ
  unfold zcall at h
  split at h
  · rename_i idx
    split at h
    · rename_i x hx
      split at h
      · rename_i hn
        obtain rfl := Option.some.inj h
        refine Or.inl ⟨rfl, ?_⟩
        have h1 := zr_S K hx hμ hL hM (zcut_len hn) hd (l := l) (e := e) (below := below)
        rw [zcut] at h1
        exact h1
      · cases h
    · split at h
      · rename_i x hx
        split at h
        · rename_i hn
          obtain rfl := Option.some.inj h
          refine Or.inl ⟨rfl, ?_⟩
          obtain ⟨μ2, hμ2⟩ := Option.isSome_iff_exists.mp hn.2
          obtain ⟨hμ3, hh⟩ := zck_some hμ2
          cases Option.some.inj (hμ.symm.trans hμ3)
          have h1 := zr_N K hx hμ (hh rfl) hL hM (zcut_len hn.1) hd (l := l) (e := e) (below := below)
          rw [zcut] at h1
          exact h1
        · cases h
      · cases h
  · rename_i idx
    split at h
    · rename_i x hx
      split at h
      · rename_i μ2 b rest hμ2 hdr
        split at h
        · rename_i hret
          obtain rfl := Option.some.inj h
          refine Or.inl ⟨rfl, ?_⟩
          obtain ⟨hμ3, hh⟩ := zck_some hμ2
          cases Option.some.inj (hμ.symm.trans hμ3)
          have h1 := zr_I K hx hμ (hh rfl) hret hL hM (zcut_len (zcut_lt hdr)) hd (l := l) (e := e) (below := below)
          rw [← hdr, zcut] at h1
          exact h1
        · cases h
      · cases h
    · split at h
      · rename_i b rest
        split at h
        · rename_i hc
          obtain ⟨rfl, rfl⟩ := hc
          obtain rfl := Option.some.inj h
          refine Or.inl ⟨rfl, ?_⟩
          cases Option.some.inj (hμ.symm.trans (show zML[4]? = some zm4 from rfl))
          exact zr_IN K hM hd
        · cases h
      · cases h
  · rename_i idx
    split at h
    · rename_i x hx
      split at h
      · rename_i μ2 b rest hμ2 hdr
        split at h
        · rename_i hrc
          obtain rfl := Option.some.inj h
          refine Or.inl ⟨rfl, ?_⟩
          cases Option.some.inj (hμ.symm.trans hμ2)
          have h1 := zr_V hg K hx hμ hL hM hrc (zcut_len (zcut_lt hdr)) hd (l := l) (e := e) (below := below)
          rw [← hdr, zcut] at h1
          exact h1
        · split at h
          · rename_i C hrc
            split at h
            · rename_i w hw
              split at h
              · rename_i hn
                obtain rfl := Option.some.inj h
                refine Or.inl ⟨rfl, ?_⟩
                have h1 := zr_U hg K hw hμ hL hM hrc ((zcut_len (zcut_lt hdr)).trans hn.symm) hd (l := l) (e := e) (below := below)
                rw [← hdr, zcut] at h1
                exact h1
              · cases h
            · cases h
          · cases h
      · cases h
    · split at h
      · rename_i n hn0
        split at h
        · rename_i b rest hdr
          split at h
          · rename_i C hrc
            split at h
            · rename_i w hw
              split at h
              · rename_i hn
                obtain rfl := Option.some.inj h
                refine Or.inl ⟨rfl, ?_⟩
                have h1 := zr_U hg K hw hμ hL hM hrc ((zcut_len (zcut_lt hdr)).trans hn.symm) hd (l := l) (e := e) (below := below)
                rw [← hdr, zcut] at h1
                exact h1
              · cases h
            · cases h
          · cases h
        · cases h
      · cases h
  · rename_i idx cnt
    split at h
    · rename_i n hn0
      split at h
      · rename_i b rest hdr
        split at h
        · rename_i ci fs hw
          split at h
          · rename_i w hw2
            split at h
            · rename_i hn
              obtain rfl := Option.some.inj h
              refine Or.inr ⟨rfl, ?_⟩
              obtain ⟨μ2, hμ2⟩ := Option.isSome_iff_exists.mp hn.2
              obtain ⟨hμ3, hh⟩ := zck_some hμ2
              cases Option.some.inj (hμ.symm.trans hμ3)
              have h1 := zr_F hj K hw2 hμ (hh rfl) hL hM hw ((zcut_len (zcut_lt hdr)).trans hn.1.symm) hd (l := l) (e := e) (below := below)
              rw [← hdr, zcut] at h1
              exact h1
            · cases h
          · cases h
        · cases h
      · cases h
    · cases h
  · cases h
end ZCO
theorem zstep_keep {g : zG} {own : Nat} {nm : String} {nL : Nat} {ret : Option FieldType} {L : List zIt} {i : Instr} {len pc : Nat} {lv : zp_L} {st : List Value} {σ : zS} {r : zR1} (h : zstep g own nm nL ret L i len pc lv st σ = some r) :
    (∃ f, r = .inl (f, σ) ∧ zp_step i len pc nL lv st = some f) ∨ (zheap g own nm L i len pc lv st σ = some r) ∨ (∃ v, r = .inr (.inl (.inl v, σ)) ∧ zr_ret i len st ret = some v) ∨ ∃ y, r = .inr (.inr y) ∧ zcall g own i st σ = some y := by
  unfold zstep at h
  split at h
  · exact Or.inl ⟨_, (Option.some.inj h).symm, by assumption⟩
  · split at h
    · rename_i h1
      exact Or.inr (Or.inl (h1.trans h))
    · split at h
      · exact Or.inr (Or.inr (Or.inl ⟨_, (Option.some.inj h).symm, by assumption⟩))
      · cases hc : zcall g own i st σ with
        | none => rw [hc] at h; cases h
        | some y =>
          rw [hc] at h
          exact Or.inr (Or.inr (Or.inr ⟨y, (Option.some.inj h).symm, rfl⟩))
abbrev zle (σ σ' : zS) : Prop := σ.2.1 ≤ σ'.2.1 ∧ σ.2.2 ≤ σ'.2.2
theorem zxs_mono {g : zG} {F : Nat → Nat → Nat → zp_L → List Value → zS → Option zO} {b : Nat × List zIt} {μ : zMt} {G : Nat → zp_L → List Value → zS → Option zO} (hF : ∀ (d k pc : Nat) (lv : zp_L) (st : List Value) (σ : zS) (o : Option Value ⊕ String) (σ' : zS), F d k pc lv st σ = some (o, σ') → zle σ σ')
    (hG : ∀ (pc : Nat) (lv : zp_L) (st : List Value) (σ : zS) (o : Option Value ⊕ String) (σ' : zS), G pc lv st σ = some (o, σ') → zle σ σ') {d pc : Nat} {lv : zp_L} {st : List Value} {σ : zS} {o : Option Value ⊕ String} {σ' : zS} (h : zxs g F b μ G d pc lv st σ = some (o, σ')) : zle σ σ' := by
  unfold zxs at h
  split at h
  · cases h
  · rename_i x hx
    split at h
    · cases h
    · rename_i f hs
      have h1 := hG _ _ _ _ _ _ h
      rcases zstep_keep hs with ⟨f0, e1, -⟩ | h2 | ⟨v, e1, -⟩ | ⟨y, e1, -⟩
      · cases e1
        exact h1
      · rcases zheap_keep h2 with ⟨f0, e1, -, h3, h4⟩ | ⟨y, e1⟩
        · cases e1
          exact ⟨Nat.le_trans h3 h1.1, Nat.le_trans h4 h1.2⟩
        · cases e1
      · cases e1
      · cases e1
    · rename_i v σ1 hs
      obtain ⟨rfl, rfl⟩ := Prod.mk.inj (Option.some.inj h)
      rcases zstep_keep hs with ⟨f0, e1, -⟩ | h2 | ⟨v0, e1, -⟩ | ⟨y, e1, -⟩
      · cases e1
      · rcases zheap_keep h2 with ⟨f0, e1, -⟩ | ⟨y, e1⟩
        · cases e1
        · cases e1
      · cases e1
        exact ⟨Nat.le_refl _, Nat.le_refl _⟩
      · cases e1
    · rename_i y σ1 hs
      have hσ : zle σ σ1 := by
        rcases zstep_keep hs with ⟨f0, e1, -⟩ | h2 | ⟨v0, e1, -⟩ | ⟨y0, e1, -⟩
        · cases e1
        · rcases zheap_keep h2 with ⟨f0, e1, -⟩ | ⟨y0, e1⟩
          · cases e1
          · cases e1
            exact ⟨Nat.le_succ _, Nat.le_add_right _ _⟩
        · cases e1
        · cases e1
      split at h
      · obtain ⟨rfl, rfl⟩ := Prod.mk.inj (Option.some.inj h)
        exact hσ
      · cases h
    · rename_i y hs
      split at h
      · cases h
      · split at h
        · cases h
        · split at h
          · split at h
            · cases h
            · rename_i v σ1 hcall
              have h1 := hF _ _ _ _ _ _ _ _ hcall
              have h2 := hG _ _ _ _ _ _ h
              exact ⟨Nat.le_trans h1.1 h2.1, Nat.le_trans h1.2 h2.2⟩
            · rename_i E σ1 hcall
              have h1 := hF _ _ _ _ _ _ _ _ hcall
              split at h
              · split at h
                · cases h
                · obtain ⟨rfl, rfl⟩ := Prod.mk.inj (Option.some.inj h)
                  exact h1
                · split at h
                  · have h2 := hG _ _ _ _ _ _ h
                    exact ⟨Nat.le_trans h1.1 h2.1, Nat.le_trans h1.2 h2.2⟩
                  · cases h
              · cases h
          · cases h
theorem zx_mono (g : zG) : ∀ (n d k pc : Nat) (lv : zp_L) (st : List Value) (σ : zS) (o : Option Value ⊕ String) (σ' : zS), zx g n d k pc lv st σ = some (o, σ') → zle σ σ' := by
  intro n
  induction n with
  | zero => intro d k pc lv st σ o σ' h; cases h
  | succ n ih =>
    intro d k pc lv st σ o σ' h
    unfold zx at h
    split at h
    · exact zxs_mono (fun d k pc lv st σ o σ' h => ih d k pc lv st σ o σ' h) (fun pc lv st σ o σ' h => ih d k pc lv st σ o σ' h) h
    · cases h
theorem zxT_mono (g : zG) (b : Nat × List zIt) (μ : zMt) : ∀ (n d pc : Nat) (lv : zp_L) (st : List Value) (σ : zS) (o : Option Value ⊕ String) (σ' : zS), zxT g b μ n d pc lv st σ = some (o, σ') → zle σ σ' := by
  intro n
  induction n with
  | zero => intro d pc lv st σ o σ' h; cases h
  | succ n ih =>
    intro d pc lv st σ o σ' h
    unfold zxT at h
    exact zxs_mono (fun d k pc lv st σ o σ' h => zx_mono g n d k pc lv st σ o σ' h) (fun pc lv st σ o σ' h => ih d pc lv st σ o σ' h) h
