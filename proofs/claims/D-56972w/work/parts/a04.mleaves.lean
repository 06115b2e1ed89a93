/-! THE MODEL: lot, among, rule -/
set_option maxRecDepth 100000
theorem mt_mt {S : hS} {v w : Int} : mt (mt S v) w = mt S w := by
  unfold mt sset
  simp only [Prod.mk.injEq, true_and, and_true]
  funext c k i
  by_cases h : c = 11 ∧ k = 0 ∧ i = 0
  · rw [if_pos h, if_pos h]
  · rw [if_neg h, if_neg h, if_neg h]
def mAmong (n : Nat) (w : Bool) (l : List Bool) : Nat := (l.drop (l.length - n)).count w
theorem count_dropW {l : List Bool} {p : Nat} {b w : Bool} (h : l[p]? = some b) : (l.drop p).count w = (if b = w then 1 else 0) + (l.drop (p + 1)).count w := by
  have hlt := (List.getElem?_eq_some_iff.mp h).1
  rw [List.drop_eq_getElem_cons hlt]
  have : l[p] = b := Option.some.inj ((List.getElem?_eq_getElem hlt).symm.trans h)
  rw [this, List.count_cons]
  cases b <;> cases w <;> simp <;> omega
def mLotS (S : hS) (p q c : Int) : hS := ssE (kMLot (snw S 14 []) (sn S 14) (sn S 14) p q c) 32 0 (sE S 32 0 ++ [(sn S 14 : Int)])
/-- rules and rows are well -/
def mSup (z : Nat → Nat) (S : hS) : Prop := sn S 35 = 4 ∧ sE S 34 0 = idl 4 ∧ (sE S 47 0).length = 4 ∧ (∀ x : Nat, x < 4 → ((sE S 47 0)[x]? = some 110 ∨ (sE S 47 0)[x]? = some 116 ∨ (sE S 47 0)[x]? = some 114) ∧ (∀ y ∈ sE S 35 x, isB z y) ∧ (sE S 35 x).length ≤ 60)
section ZML1
variable {g : zG} {w0 : hG} {z : Nat → Nat} {σ : zS} {gh : Nat → Nat → Nat} {S : hS} {J : zw_W} {a : Nat} {p q c v : Int}
theorem M_lot (H : hRep g w0 σ gh S J) (hF : mFix S) (h99 : sn S 14 < 100) (ha : hat gh S 11 0 a) : ∃ (σ' : zS) (b : Nat), zEnd g 6 207 [.ref a, iv p, iv q, .long (Int64.ofInt c)] σ (.inl (some (.ref b))) σ' ∧ ∃ ghx, gext S gh ghx ∧ hRep g w0 σ' ghx (mLotS S p q c) J ∧ hat ghx (mLotS S p q c) 14 (sn S 14) b ∧ kc σ σ' 3 300 := by
  obtain ⟨f0, f1, f2, f3, f4, f5, f6, f7, f8, f9, fa, fb, fc, fd, fe⟩ := hF
  have main : zW g 6 207 0 (lv_args 0 [.ref a, iv p, iv q, .long (Int64.ofInt c)]) [] σ (fun o σ' => ∃ b : Nat, o = .inl (some (.ref b)) ∧ ∃ ghx, gext S gh ghx ∧ hRep g w0 σ' ghx (mLotS S p q c) J ∧ hat ghx (mLotS S p q c) 14 (sn S 14) b ∧ kc σ σ' 3 300) := by
    refine hW_new H rfl rfl rfl rfl rfl rfl (fun σ1 b1 H1 hb1 k1 => ?_)
    refine zW_p 2 rfl ?_
    refine hW_getr H1 rfl ha.old rfl rfl rfl f3 (fun b2 hb2 => ?_)
    refine hW_size H1 rfl rfl rfl hb2 rfl rfl rfl (by omega) ?_
    refine zW_p 3 rfl ?_
    have eL : sE (snw S 14 []) 32 0 = sE S 32 0 := rfl
    rw [eL, f9, idl_len]
    obtain ⟨σ2, g2, ghx, x2, H2, k2⟩ := M_newLot (p := (sn S 14 : Nat)) (q := p) (r := q) (c := c) H1 hb1
    refine wI rfl rfl rfl rfl rfl rfl rfl rfl rfl g2 (by omega) ?_
    have le2 : ∀ c', sn (snw S 14 []) c' ≤ sn (kMLot (snw S 14 []) (sn S 14) (sn S 14 : Nat) p q c) c' := fun c' => by
      show _ ≤ sn (snw (snw S 14 []) 41 []) c'
      exact sn_w_le
    have hbx := x2.hat (S1 := kMLot (snw S 14 []) (sn S 14) (sn S 14 : Nat) p q c) le2 hb1
    have hax := x2.hat (S1 := kMLot (snw S 14 []) (sn S 14) (sn S 14 : Nat) p q c) le2 ha.old
    refine zW_p 2 rfl ?_
    refine hW_getr H2 rfl hax rfl rfl rfl f3 (fun b5 hb5 => ?_)
    refine zW_p 1 rfl ?_
    have eL2 : sE (kMLot (snw S 14 []) (sn S 14) (sn S 14 : Nat) p q c) 32 0 = sE S 32 0 := rfl
    refine hW_add (x := (sn S 14 : Int)) H2 rfl rfl rfl hb5 rfl rfl rfl (elrepR hbx) (alvR hbx.1) (by rw [eL2, f9, idl_len]; omega) rfl (by omega) (fun σ6 H6 k6 => ?_)
    refine zW_p 2 rfl ?_
    rw [eL2] at H6 k6
    rw [f9, idl_len] at k6
    exact wW_ret rfl rfl rfl rfl ⟨b1, rfl, ghx, gext.trans (gext_w gext_rfl (fun _ => Nat.le_refl _)) x2 (fun c => sn_w_le), H6, hbx, ((k1.trans k2).trans k6).mono (by omega) (by omega)⟩
  obtain ⟨o, σ', h1, b, rfl, h2⟩ := main
  exact ⟨σ', b, h1, h2⟩
theorem M_among {m b n : Nat} {w : Bool} (H : hRep g w0 σ gh S J) (C : hCon g w0 z) (ha : hat gh S 35 m b) (hB : ∀ x ∈ sE S 35 m, isB z x) (hl : (sE S 35 m).length ≤ 1000) (hn : n ≤ 10) : zEnd g 4 209 [.ref b, iv n, iv (bi w)] σ (.inl (some (iv (mAmong n w (bls z (sE S 35 m)))))) σ := by
  have hLL := bls_len (z := z) (l := sE S 35 m)
  have loop : ∀ (q p c : Nat), p + q = (sE S 35 m).length → c ≤ p → c + ((bls z (sE S 35 m)).drop p).count w = mAmong n w (bls z (sE S 35 m)) → zW g 4 209 14 [(0, .ref b), (1, iv n), (2, iv (bi w)), (3, iv c), (4, iv p)] [] σ (fun o σ' => o = .inl (some (iv (mAmong n w (bls z (sE S 35 m))))) ∧ σ' = σ) := by
    intro q
    induction q with
    | zero =>
      intro p c hp hc hcc
      rw [List.drop_eq_nil_of_le (by omega), List.count_nil, Nat.add_zero] at hcc
      refine zW_p 2 rfl ?_
      refine hW_size H rfl rfl rfl ha rfl rfl rfl (by omega) ?_
      refine zW_t rfl rfl ((I_le ⟨by omega, by omega⟩ ⟨by omega, by omega⟩).mpr (by omega)) ?_
      refine zW_p 1 rfl ?_
      rw [← hcc]
      exact zW_reti rfl rfl rfl ⟨rfl, rfl⟩
    | succ q ih =>
      intro p c hp hc hcc
      obtain ⟨x, hb1, hb2⟩ := bls_at C hB (show p < (sE S 35 m).length by omega)
      rw [count_dropW hb2] at hcc
      refine zW_p 2 rfl ?_
      refine hW_size H rfl rfl rfl ha rfl rfl rfl (by omega) ?_
      refine zW_f rfl rfl (fun e => by have := (I_le ⟨by omega, by omega⟩ ⟨by omega, by omega⟩).mp e; omega) ?_
      refine zW_p 3 rfl ?_
      refine hW_lgetc H rfl rfl rfl ha rfl rfl rfl hb1 rfl (by omega) (fun _ => ?_)
      refine aW_castK (C.none H (by cases x <;> decide)) rfl rfl (C.2.2.2.2.1 x).2 ?_
      refine wV rfl rfl rfl rfl rfl rfl rfl (C.rcB H x) (c_boolVal (z := x) (C.none H (by cases x <;> decide)) (C.2.2.2.2.1 x).1) (by omega) ?_
      have back : ∀ y : Nat, y = (if x = w then 1 else 0) → zW g 4 209 45 [(0, .ref b), (1, iv n), (2, iv (bi w)), (3, iv c), (4, iv p)] [iv y, iv c] σ (fun o σ' => o = .inl (some (iv (mAmong n w (bls z (sE S 35 m))))) ∧ σ' = σ) := by
        intro y hy
        refine zW_p 1 rfl ?_
        rw [I_add]
        refine zW_p 2 rfl ?_
        rw [I_add]
        refine zW_p 1 rfl ?_
        refine zW_lv [(0, .ref b), (1, iv n), (2, iv (bi w)), (3, iv ((c + y : Nat) : Int)), (4, iv ((p + 1 : Nat) : Int))] rfl ⟨rfl, rfl, rfl, rfl, rfl, trivial⟩ ?_
        have hy1 : y ≤ 1 := by rw [hy]; split <;> omega
        exact ih (p + 1) (c + y) (by omega) (by omega) (by rw [← hcc, hy]; omega)
      refine zW_p 1 rfl ?_
      cases x <;> cases w
      · refine zW_p 3 rfl ?_
        exact back 1 rfl
      · refine zW_p 2 rfl ?_
        exact back 0 rfl
      · refine zW_p 2 rfl ?_
        exact back 0 rfl
      · refine zW_p 3 rfl ?_
        exact back 1 rfl
  refine zEnd_of ?_
  refine zW_p 4 rfl ?_
  refine hW_size H rfl rfl rfl ha rfl rfl rfl (by omega) ?_
  refine zW_p 1 rfl ?_
  refine zW_p 1 rfl ?_
  rw [I_sub]
  refine aW_maxI rfl rfl (Nat.le_of_ble_eq_true rfl) ⟨by omega, by omega⟩ ⟨by decide, by decide⟩ ?_
  refine zW_p 1 rfl ?_
  have e : (if (0 : Int) < ((sE S 35 m).length : Int) - (n : Int) then ((sE S 35 m).length : Int) - (n : Int) else 0) = (((sE S 35 m).length - n : Nat) : Int) := by
    by_cases h : (0 : Int) < ((sE S 35 m).length : Int) - (n : Int)
    · rw [if_pos h]; omega
    · rw [if_neg h]; omega
  rw [e]
  refine zW_lv [(0, .ref b), (1, iv n), (2, iv (bi w)), (3, iv (0 : Nat)), (4, iv ((sE S 35 m).length - n : Nat))] rfl ⟨rfl, rfl, rfl, rfl, rfl, trivial⟩ ?_
  exact loop ((sE S 35 m).length - ((sE S 35 m).length - n)) ((sE S 35 m).length - n) 0 (by omega) (by omega) (by unfold mAmong; rw [hLL, Nat.zero_add])
def mRl (S : hS) (x : Nat) : Int := (sE S 47 0).getD x 0
theorem M_rule (H : hRep g w0 σ gh S J) (hF : mFix S) (hU : mSup z S) (ha : hat gh S 11 0 a) (hv : rg v) : ∃ σ' : zS, zEnd g 1 210 [.ref a, iv v] σ (.inl (some (iv (if 0 ≤ v ∧ v ≤ 3 then mRl S v.toNat else 0)))) σ' ∧ hRep g w0 σ' gh (mt S (if 0 ≤ v ∧ v ≤ 3 then 0 else 1)) J ∧ σ'.2 = σ.2 := by
  obtain ⟨f0, f1, f2, f3, f4, f5, f6, f7, f8, f9, fa, fb, fc, fd, fe⟩ := hF
  obtain ⟨u1, u2, u3, u4⟩ := hU
  have main : zW g 1 210 0 (lv_args 0 [.ref a, iv v]) [] σ (fun o σ' => o = .inl (some (iv (if 0 ≤ v ∧ v ≤ 3 then mRl S v.toNat else 0))) ∧ hRep g w0 σ' gh (mt S (if 0 ≤ v ∧ v ≤ 3 then 0 else 1)) J ∧ σ'.2 = σ.2) := by
    refine zW_p 4 rfl ?_
    refine wS rfl rfl rfl rfl rfl rfl rfl rfl rfl (M_in hv ⟨by decide, by decide⟩ ⟨by decide, by decide⟩) (by omega) ?_
    by_cases h : 0 ≤ v ∧ v ≤ 3
    · rw [if_pos h, if_pos h, decide_eq_true h]
      obtain ⟨t, rfl⟩ : ∃ t : Nat, v = t := ⟨v.toNat, (Int.toNat_of_nonneg h.1).symm⟩
      rw [Int.toNat_natCast]
      have ht : t < 4 := by omega
      obtain ⟨σ1, g1, g2, g3⟩ := M_fails (v := 0) H ha ⟨by decide, by decide⟩
      refine zW_p 3 rfl ?_
      refine wV rfl rfl rfl rfl rfl rfl rfl (H.rc ha rfl rfl) g1 (by omega) ?_
      refine zW_p 2 rfl ?_
      refine hW_getr (j := 0) g2 rfl ha rfl rfl rfl f5 (fun b5 hb5 => ?_)
      refine zW_p 1 rfl ?_
      have e : (sE S 47 0)[t]? = some (mRl S t) := by
        unfold mRl
        rw [List.getD_eq_getElem?_getD, List.getElem?_eq_getElem (by omega)]
        rfl
      refine hW_cald g2 rfl hb5 (show (sE (mt S 0) 47 0)[t]? = some (mRl S t) from e) (by omega) ?_
      have hr := (u4 t ht).1
      rw [e] at hr
      refine zW_reti rfl rfl (by rcases hr with q | q | q <;> rw [Option.some.inj q] <;> rfl) ⟨rfl, g2, g3⟩
    · rw [if_neg h, if_neg h, decide_eq_false h]
      obtain ⟨σ1, g1, g2, g3⟩ := M_fails (v := 1) H ha ⟨by decide, by decide⟩
      refine zW_p 2 rfl ?_
      refine wV rfl rfl rfl rfl rfl rfl rfl (H.rc ha rfl rfl) g1 (by omega) ?_
      refine zW_p 3 rfl ?_
      exact zW_reti rfl rfl rfl ⟨rfl, g2, g3⟩
  obtain ⟨o, σ', h1, rfl, h2, h3⟩ := main
  exact ⟨σ', h1, h2, h3⟩
end ZML1
