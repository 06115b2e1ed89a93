/-! LEAVES OF BOTH CLASSES: ranges, what must hold, the lists' items -/
set_option maxRecDepth 100000
theorem alv0 {S : hS} {v : Int} : alv S 0 v := fun _ => ⟨fun e => absurd e (by decide), fun n e => (by omega)⟩
theorem alv1 {S : hS} {v : Int} : alv S 1 v := fun _ => ⟨fun e => absurd e (by decide), fun n e => (by omega)⟩
theorem alv4 {S : hS} {v : Int} : alv S 4 v := fun _ => ⟨fun e => absurd e (by decide), fun n e => (by omega)⟩
theorem alvR {S : hS} {n j : Nat} (h : j < sn S n) : alv S (n + 40) (j : Int) := fun _ => ⟨fun e => (by omega), fun m e => (by
  obtain rfl : m = n := by omega
  simpa using h)⟩
theorem alvN {S : hS} {kd : Nat} {v : Int} (h : v < 0) : alv S kd v := fun h0 => (by omega)
/-- 0, 1 .. n - 1 -/
def idl (n : Nat) : List Int := (List.range n).map (fun i : Nat => (i : Int))
theorem idl_len {n : Nat} : (idl n).length = n := by unfold idl; rw [List.length_map, List.length_range]
theorem idl_at {n i : Nat} (h : i < n) : (idl n)[i]? = some (i : Int) := by
  unfold idl
  rw [List.getElem?_map, List.getElem?_range h]
  rfl
theorem idl_succ {n : Nat} : idl (n + 1) = idl n ++ [(n : Int)] := by
  unfold idl
  rw [List.range_succ, List.map_append]
  rfl
/-- what is always so of Foundrymark: one object, its lists -/
def fFix (S : hS) : Prop := sn S 0 = 1 ∧ sT S 0 0 0 = (0 : Nat) ∧ sT S 0 1 0 = (0 : Nat) ∧ sT S 0 2 0 = (0 : Nat) ∧ sT S 0 3 0 = (0 : Nat) ∧ sT S 0 4 0 = (0 : Nat) ∧ sE S 20 0 = idl (sn S 1) ∧ sE S 22 0 = idl (sn S 6) ∧ sE S 23 0 = idl (sn S 8) ∧ sn S 1 ≤ 5 ∧ sn S 6 ≤ 100 ∧ sn S 8 ≤ 30 ∧ (sE S 21 0).length ≤ 12 ∧ ∀ x ∈ sE S 21 0, 0 ≤ x
def mFix (S : hS) : Prop := sn S 11 = 1 ∧ sT S 11 1 0 = (0 : Nat) ∧ sT S 11 2 0 = (0 : Nat) ∧ sT S 11 3 0 = (0 : Nat) ∧ sT S 11 4 0 = (0 : Nat) ∧ sT S 11 6 0 = (0 : Nat) ∧ sT S 11 7 0 = (0 : Nat) ∧ sE S 30 0 = idl (sn S 12) ∧ sE S 31 0 = idl (sn S 13) ∧ sE S 32 0 = idl (sn S 14) ∧ sE S 33 0 = idl (sn S 15) ∧ sn S 12 ≤ 5 ∧ sn S 13 ≤ 12 ∧ sn S 14 ≤ 100 ∧ sn S 15 ≤ 30
section ZLF
variable {g : zG} {w0 : hG} {σ : zS} {gh : Nat → Nat → Nat} {S : hS} {J : zw_W} {a : Nat} {v : Int}
theorem F_between {x lo hi : Int} (hx : rg x) (h1 : rg lo) (h2 : rg hi) : zEnd g 0 21 [iv x, iv lo, iv hi] σ (.inl (some (iv (bi (decide (lo ≤ x ∧ x ≤ hi)))))) σ := zEnd_of (by
  refine zW_p 2 rfl ?_
  refine zW_br rfl rfl (fun hP => ?_) (fun hP => ?_)
  · rw [I_lt hx h1] at hP
    rw [decide_eq_false (by omega)]
    refine zW_p 1 rfl ?_
    exact zW_reti rfl rfl rfl ⟨rfl, rfl⟩
  · rw [I_lt hx h1] at hP
    refine zW_p 2 rfl ?_
    refine zW_br rfl rfl (fun hQ => ?_) (fun hQ => ?_)
    · rw [I_lt h2 hx] at hQ
      rw [decide_eq_false (by omega)]
      refine zW_p 1 rfl ?_
      exact zW_reti rfl rfl rfl ⟨rfl, rfl⟩
    · rw [I_lt h2 hx] at hQ
      rw [decide_eq_true (by omega)]
      refine zW_p 2 rfl ?_
      exact zW_reti rfl rfl rfl ⟨rfl, rfl⟩)
theorem M_in {x lo hi : Int} (hx : rg x) (h1 : rg lo) (h2 : rg hi) : zEnd g 0 197 [iv x, iv lo, iv hi] σ (.inl (some (iv (bi (decide (lo ≤ x ∧ x ≤ hi)))))) σ := zEnd_of (by
  refine zW_p 2 rfl ?_
  refine zW_br rfl rfl (fun hP => ?_) (fun hP => ?_)
  · rw [I_lt hx h1] at hP
    rw [decide_eq_false (by omega)]
    refine zW_p 1 rfl ?_
    exact zW_reti rfl rfl rfl ⟨rfl, rfl⟩
  · rw [I_lt hx h1] at hP
    refine zW_p 2 rfl ?_
    refine zW_br rfl rfl (fun hQ => ?_) (fun hQ => ?_)
    · rw [I_lt h2 hx] at hQ
      rw [decide_eq_false (by omega)]
      refine zW_p 1 rfl ?_
      exact zW_reti rfl rfl rfl ⟨rfl, rfl⟩
    · rw [I_lt h2 hx] at hQ
      rw [decide_eq_true (by omega)]
      refine zW_p 2 rfl ?_
      exact zW_reti rfl rfl rfl ⟨rfl, rfl⟩)
theorem F_reqT22 : zEnd g 0 22 [iv 1] σ (.inl none) σ := zEnd_of (by
  refine zW_p 2 rfl ?_
  exact wW_ret rfl rfl rfl rfl ⟨rfl, rfl⟩)
theorem F_reqF22 (H : hRep g w0 σ gh S J) : ∃ σ' : zS, zEnd g 0 22 [iv 0] σ (.inr "java/lang/IndexOutOfBoundsException") σ' ∧ hRep g w0 σ' gh S J ∧ kc σ σ' 1 6 := by
  have main : zW g 0 22 0 (lv_args 0 [iv 0]) [] σ (fun o σ' => o = .inr "java/lang/IndexOutOfBoundsException" ∧ hRep g w0 σ' gh S J ∧ kc σ σ' 1 6) := by
    refine zW_p 2 rfl ?_
    exact hW_throw H rfl rfl rfl rfl (fun σ' H' k' => ⟨rfl, H', k'⟩)
  obtain ⟨o, σ', h1, rfl, h2, h3⟩ := main
  exact ⟨σ', h1, h2, h3⟩
theorem F_reqT37 : zEnd g 0 37 [iv 1] σ (.inl none) σ := zEnd_of (by
  refine zW_p 2 rfl ?_
  exact wW_ret rfl rfl rfl rfl ⟨rfl, rfl⟩)
theorem F_reqF37 (H : hRep g w0 σ gh S J) : ∃ σ' : zS, zEnd g 0 37 [iv 0] σ (.inr "java/lang/IllegalArgumentException") σ' ∧ hRep g w0 σ' gh S J ∧ kc σ σ' 1 6 := by
  have main : zW g 0 37 0 (lv_args 0 [iv 0]) [] σ (fun o σ' => o = .inr "java/lang/IllegalArgumentException" ∧ hRep g w0 σ' gh S J ∧ kc σ σ' 1 6) := by
    refine zW_p 2 rfl ?_
    exact hW_throw H rfl rfl rfl rfl (fun σ' H' k' => ⟨rfl, H', k'⟩)
  obtain ⟨o, σ', h1, rfl, h2, h3⟩ := main
  exact ⟨σ', h1, h2, h3⟩
theorem F_reqT39 : zEnd g 0 39 [iv 1] σ (.inl none) σ := zEnd_of (by
  refine zW_p 2 rfl ?_
  exact wW_ret rfl rfl rfl rfl ⟨rfl, rfl⟩)
theorem F_reqF39 (H : hRep g w0 σ gh S J) : ∃ σ' : zS, zEnd g 0 39 [iv 0] σ (.inr "java/lang/IllegalStateException") σ' ∧ hRep g w0 σ' gh S J ∧ kc σ σ' 1 6 := by
  have main : zW g 0 39 0 (lv_args 0 [iv 0]) [] σ (fun o σ' => o = .inr "java/lang/IllegalStateException" ∧ hRep g w0 σ' gh S J ∧ kc σ σ' 1 6) := by
    refine zW_p 2 rfl ?_
    exact hW_throw H rfl rfl rfl rfl (fun σ' H' k' => ⟨rfl, H', k'⟩)
  obtain ⟨o, σ', h1, rfl, h2, h3⟩ := main
  exact ⟨σ', h1, h2, h3⟩
theorem F_reqT66 : zEnd g 0 66 [iv 1] σ (.inl none) σ := zEnd_of (by
  refine zW_p 2 rfl ?_
  exact wW_ret rfl rfl rfl rfl ⟨rfl, rfl⟩)
theorem F_reqF66 (H : hRep g w0 σ gh S J) : ∃ σ' : zS, zEnd g 0 66 [iv 0] σ (.inr "java/lang/UnsupportedOperationException") σ' ∧ hRep g w0 σ' gh S J ∧ kc σ σ' 1 6 := by
  have main : zW g 0 66 0 (lv_args 0 [iv 0]) [] σ (fun o σ' => o = .inr "java/lang/UnsupportedOperationException" ∧ hRep g w0 σ' gh S J ∧ kc σ σ' 1 6) := by
    refine zW_p 2 rfl ?_
    exact hW_throw H rfl rfl rfl rfl (fun σ' H' k' => ⟨rfl, H', k'⟩)
  obtain ⟨o, σ', h1, rfl, h2, h3⟩ := main
  exact ⟨σ', h1, h2, h3⟩
theorem F_reqT171 : zEnd g 0 171 [iv 1] σ (.inl none) σ := zEnd_of (by
  refine zW_p 2 rfl ?_
  exact wW_ret rfl rfl rfl rfl ⟨rfl, rfl⟩)
theorem F_reqF171 (H : hRep g w0 σ gh S J) : ∃ σ' : zS, zEnd g 0 171 [iv 0] σ (.inr "java/util/NoSuchElementException") σ' ∧ hRep g w0 σ' gh S J ∧ kc σ σ' 1 6 := by
  have main : zW g 0 171 0 (lv_args 0 [iv 0]) [] σ (fun o σ' => o = .inr "java/util/NoSuchElementException" ∧ hRep g w0 σ' gh S J ∧ kc σ σ' 1 6) := by
    refine zW_p 2 rfl ?_
    exact hW_throw H rfl rfl rfl rfl (fun σ' H' k' => ⟨rfl, H', k'⟩)
  obtain ⟨o, σ', h1, rfl, h2, h3⟩ := main
  exact ⟨σ', h1, h2, h3⟩
theorem M_fails (H : hRep g w0 σ gh S J) (ha : hat gh S 11 0 a) (hv : rg v) : ∃ σ' : zS, zEnd g 0 198 [.ref a, iv v] σ (.inl (some (iv (bi (decide (0 < v)))))) σ' ∧ hRep g w0 σ' gh (sset S 11 0 0 v) J ∧ σ'.2 = σ.2 := by
  have main : zW g 0 198 0 (lv_args 0 [.ref a, iv v]) [] σ (fun o σ' => o = .inl (some (iv (bi (decide (0 < v))))) ∧ hRep g w0 σ' gh (sset S 11 0 0 v) J ∧ σ'.2 = σ.2) := by
    refine zW_p 2 rfl ?_
    refine hW_put H rfl ha rfl rfl rfl (Or.inl rfl) rfl rfl rfl alv0 (fun e => absurd e (by decide)) (fun σ1 H1 e1 => ?_)
    refine zW_p 1 rfl ?_
    refine zW_br rfl rfl (fun hP => ?_) (fun hP => ?_)
    · rw [I_le0 hv] at hP
      rw [decide_eq_false (by omega)]
      refine zW_p 1 rfl ?_
      exact zW_reti rfl rfl rfl ⟨rfl, H1, e1⟩
    · rw [I_le0 hv] at hP
      rw [decide_eq_true (by omega)]
      refine zW_p 2 rfl ?_
      exact zW_reti rfl rfl rfl ⟨rfl, H1, e1⟩
  obtain ⟨o, σ', h1, rfl, h2, h3⟩ := main
  exact ⟨σ', h1, h2, h3⟩
theorem bi_rg (b : Bool) : rg (bi b) := by cases b <;> exact ⟨by decide, by decide⟩
theorem F_lot {i : Nat} (H : hRep g w0 σ gh S J) (hF : fFix S) (ha : hat gh S 0 0 a) (hi : i < sn S 6) : ∃ b : Nat, hat gh S 6 i b ∧ zEnd g 3 20 [.ref a, iv i] σ (.inl (some (.ref b))) σ := by
  obtain ⟨f0, f1, f2, f3, f4, f5, f6, f7, f8, f9, fa, fb, fc, fd⟩ := hF
  refine ⟨gh 6 i, ⟨hi, rfl⟩, zEnd_of ?_⟩
  refine zW_p 3 rfl ?_
  refine hW_getr H rfl ha rfl rfl rfl f3 (fun b1 hb1 => ?_)
  refine hW_size H rfl rfl rfl hb1 rfl rfl rfl (by omega) ?_
  rw [f7, idl_len]
  refine zW_p 2 rfl ?_
  rw [I_sub]
  refine wS rfl rfl rfl rfl rfl rfl rfl rfl rfl (F_between ⟨by omega, by omega⟩ ⟨by omega, by omega⟩ ⟨by omega, by omega⟩) (by omega) ?_
  rw [decide_eq_true (by omega)]
  refine wS rfl rfl rfl rfl rfl rfl rfl rfl rfl F_reqT22 (by omega) ?_
  refine zW_p 1 rfl ?_
  refine hW_getr H rfl ha rfl rfl rfl f3 (fun b5 hb5 => ?_)
  refine zW_p 1 rfl ?_
  refine hW_lget H rfl rfl rfl hb5 rfl rfl rfl (by rw [f7]; exact idl_at hi) rfl (by omega) (fun b6 hb6 => ?_)
  refine hW_cast H rfl hb6 rfl rfl rfl ?_
  exact wW_ret rfl rfl rfl rfl ⟨by rw [hb6.2], rfl⟩
theorem F_lotX (H : hRep g w0 σ gh S J) (hF : fFix S) (ha : hat gh S 0 0 a) (hv : rg v) (hi : ¬ (0 ≤ v ∧ v < sn S 6)) : ∃ σ' : zS, zEnd g 3 20 [.ref a, iv v] σ (.inr "java/lang/IndexOutOfBoundsException") σ' ∧ hRep g w0 σ' gh S J ∧ kc σ σ' 1 6 := by
  obtain ⟨f0, f1, f2, f3, f4, f5, f6, f7, f8, f9, fa, fb, fc, fd⟩ := hF
  have main : zW g 3 20 0 (lv_args 0 [.ref a, iv v]) [] σ (fun o σ' => o = .inr "java/lang/IndexOutOfBoundsException" ∧ hRep g w0 σ' gh S J ∧ kc σ σ' 1 6) := by
    refine zW_p 3 rfl ?_
    refine hW_getr H rfl ha rfl rfl rfl f3 (fun b1 hb1 => ?_)
    refine hW_size H rfl rfl rfl hb1 rfl rfl rfl (by omega) ?_
    rw [f7, idl_len]
    refine zW_p 2 rfl ?_
    rw [I_sub]
    refine wS rfl rfl rfl rfl rfl rfl rfl rfl rfl (F_between hv ⟨by omega, by omega⟩ ⟨by omega, by omega⟩) (by omega) ?_
    rw [decide_eq_false (by omega)]
    obtain ⟨σ1, g1, g2, g3⟩ := F_reqF22 H
    exact wST rfl rfl rfl rfl rfl rfl rfl rfl rfl g1 (by omega) rfl ⟨rfl, g2, g3⟩
  obtain ⟨o, σ', h1, rfl, h2, h3⟩ := main
  exact ⟨σ', h1, h2, h3⟩
theorem F_machine {i : Nat} (H : hRep g w0 σ gh S J) (hF : fFix S) (ha : hat gh S 0 0 a) (hi : i < sn S 1) : ∃ b : Nat, hat gh S 1 i b ∧ zEnd g 3 71 [.ref a, iv i] σ (.inl (some (.ref b))) σ := by
  obtain ⟨f0, f1, f2, f3, f4, f5, f6, f7, f8, f9, fa, fb, fc, fd⟩ := hF
  refine ⟨gh 1 i, ⟨hi, rfl⟩, zEnd_of ?_⟩
  refine zW_p 3 rfl ?_
  refine hW_getr H rfl ha rfl rfl rfl f1 (fun b1 hb1 => ?_)
  refine hW_size H rfl rfl rfl hb1 rfl rfl rfl (by omega) ?_
  rw [f6, idl_len]
  refine zW_p 2 rfl ?_
  rw [I_sub]
  refine wS rfl rfl rfl rfl rfl rfl rfl rfl rfl (F_between ⟨by omega, by omega⟩ ⟨by omega, by omega⟩ ⟨by omega, by omega⟩) (by omega) ?_
  rw [decide_eq_true (by omega)]
  refine wS rfl rfl rfl rfl rfl rfl rfl rfl rfl F_reqT22 (by omega) ?_
  refine zW_p 1 rfl ?_
  refine hW_getr H rfl ha rfl rfl rfl f1 (fun b5 hb5 => ?_)
  refine zW_p 1 rfl ?_
  refine hW_lget H rfl rfl rfl hb5 rfl rfl rfl (by rw [f6]; exact idl_at hi) rfl (by omega) (fun b6 hb6 => ?_)
  refine hW_cast H rfl hb6 rfl rfl rfl ?_
  exact wW_ret rfl rfl rfl rfl ⟨by rw [hb6.2], rfl⟩
theorem F_machineX (H : hRep g w0 σ gh S J) (hF : fFix S) (ha : hat gh S 0 0 a) (hv : rg v) (hi : ¬ (0 ≤ v ∧ v < sn S 1)) : ∃ σ' : zS, zEnd g 3 71 [.ref a, iv v] σ (.inr "java/lang/IndexOutOfBoundsException") σ' ∧ hRep g w0 σ' gh S J ∧ kc σ σ' 1 6 := by
  obtain ⟨f0, f1, f2, f3, f4, f5, f6, f7, f8, f9, fa, fb, fc, fd⟩ := hF
  have main : zW g 3 71 0 (lv_args 0 [.ref a, iv v]) [] σ (fun o σ' => o = .inr "java/lang/IndexOutOfBoundsException" ∧ hRep g w0 σ' gh S J ∧ kc σ σ' 1 6) := by
    refine zW_p 3 rfl ?_
    refine hW_getr H rfl ha rfl rfl rfl f1 (fun b1 hb1 => ?_)
    refine hW_size H rfl rfl rfl hb1 rfl rfl rfl (by omega) ?_
    rw [f6, idl_len]
    refine zW_p 2 rfl ?_
    rw [I_sub]
    refine wS rfl rfl rfl rfl rfl rfl rfl rfl rfl (F_between hv ⟨by omega, by omega⟩ ⟨by omega, by omega⟩) (by omega) ?_
    rw [decide_eq_false (by omega)]
    obtain ⟨σ1, g1, g2, g3⟩ := F_reqF22 H
    exact wST rfl rfl rfl rfl rfl rfl rfl rfl rfl g1 (by omega) rfl ⟨rfl, g2, g3⟩
  obtain ⟨o, σ', h1, rfl, h2, h3⟩ := main
  exact ⟨σ', h1, h2, h3⟩
theorem F_theOrder {i : Nat} (H : hRep g w0 σ gh S J) (hF : fFix S) (ha : hat gh S 0 0 a) (hi : i < sn S 8) : ∃ b : Nat, hat gh S 8 i b ∧ zEnd g 3 111 [.ref a, iv i] σ (.inl (some (.ref b))) σ := by
  obtain ⟨f0, f1, f2, f3, f4, f5, f6, f7, f8, f9, fa, fb, fc, fd⟩ := hF
  refine ⟨gh 8 i, ⟨hi, rfl⟩, zEnd_of ?_⟩
  refine zW_p 3 rfl ?_
  refine hW_getr H rfl ha rfl rfl rfl f4 (fun b1 hb1 => ?_)
  refine hW_size H rfl rfl rfl hb1 rfl rfl rfl (by omega) ?_
  rw [f8, idl_len]
  refine zW_p 2 rfl ?_
  rw [I_sub]
  refine wS rfl rfl rfl rfl rfl rfl rfl rfl rfl (F_between ⟨by omega, by omega⟩ ⟨by omega, by omega⟩ ⟨by omega, by omega⟩) (by omega) ?_
  rw [decide_eq_true (by omega)]
  refine wS rfl rfl rfl rfl rfl rfl rfl rfl rfl F_reqT22 (by omega) ?_
  refine zW_p 1 rfl ?_
  refine hW_getr H rfl ha rfl rfl rfl f4 (fun b5 hb5 => ?_)
  refine zW_p 1 rfl ?_
  refine hW_lget H rfl rfl rfl hb5 rfl rfl rfl (by rw [f8]; exact idl_at hi) rfl (by omega) (fun b6 hb6 => ?_)
  refine hW_cast H rfl hb6 rfl rfl rfl ?_
  exact wW_ret rfl rfl rfl rfl ⟨by rw [hb6.2], rfl⟩
theorem F_theOrderX (H : hRep g w0 σ gh S J) (hF : fFix S) (ha : hat gh S 0 0 a) (hv : rg v) (hi : ¬ (0 ≤ v ∧ v < sn S 8)) : ∃ σ' : zS, zEnd g 3 111 [.ref a, iv v] σ (.inr "java/lang/IndexOutOfBoundsException") σ' ∧ hRep g w0 σ' gh S J ∧ kc σ σ' 1 6 := by
  obtain ⟨f0, f1, f2, f3, f4, f5, f6, f7, f8, f9, fa, fb, fc, fd⟩ := hF
  have main : zW g 3 111 0 (lv_args 0 [.ref a, iv v]) [] σ (fun o σ' => o = .inr "java/lang/IndexOutOfBoundsException" ∧ hRep g w0 σ' gh S J ∧ kc σ σ' 1 6) := by
    refine zW_p 3 rfl ?_
    refine hW_getr H rfl ha rfl rfl rfl f4 (fun b1 hb1 => ?_)
    refine hW_size H rfl rfl rfl hb1 rfl rfl rfl (by omega) ?_
    rw [f8, idl_len]
    refine zW_p 2 rfl ?_
    rw [I_sub]
    refine wS rfl rfl rfl rfl rfl rfl rfl rfl rfl (F_between hv ⟨by omega, by omega⟩ ⟨by omega, by omega⟩) (by omega) ?_
    rw [decide_eq_false (by omega)]
    obtain ⟨σ1, g1, g2, g3⟩ := F_reqF22 H
    exact wST rfl rfl rfl rfl rfl rfl rfl rfl rfl g1 (by omega) rfl ⟨rfl, g2, g3⟩
  obtain ⟨o, σ', h1, rfl, h2, h3⟩ := main
  exact ⟨σ', h1, h2, h3⟩
theorem F_part {i y : Nat} (H : hRep g w0 σ gh S J) (hF : fFix S) (ha : hat gh S 0 0 a) (hi : (sE S 21 0)[i]? = some (y : Int)) : ∃ b : Nat, hat gh S (2 + y % 2) (y / 2) b ∧ zEnd g 3 65 [.ref a, iv i] σ (.inl (some (.ref b))) σ := by
  obtain ⟨f0, f1, f2, f3, f4, f5, f6, f7, f8, f9, fa, fb, fc, fd⟩ := hF
  have hlt := (List.getElem?_eq_some_iff.mp hi).1
  have hl := H.2.2.2.2.2.1 21 0 (by omega) (show 0 < sn S 21 from by
    have := H.2.2.2.2.1 0 0 1 61 (by omega) (by omega) rfl (by rw [f2]; omega)
    have := this.2 21 rfl
    rw [f2] at this
    simpa using this) _ (List.mem_of_getElem? hi)
  have hlive := (hl (by omega)).1 rfl
  rw [Int.toNat_natCast] at hlive
  refine ⟨gh (2 + y % 2) (y / 2), ⟨hlive, rfl⟩, zEnd_of ?_⟩
  refine zW_p 3 rfl ?_
  refine hW_getr H rfl ha rfl rfl rfl f2 (fun b1 hb1 => ?_)
  refine hW_size H rfl rfl rfl hb1 rfl rfl rfl (by omega) ?_
  refine zW_p 2 rfl ?_
  rw [I_sub]
  refine wS rfl rfl rfl rfl rfl rfl rfl rfl rfl (F_between ⟨by omega, by omega⟩ ⟨by omega, by omega⟩ ⟨by omega, by omega⟩) (by omega) ?_
  rw [decide_eq_true (by omega)]
  refine wS rfl rfl rfl rfl rfl rfl rfl rfl rfl F_reqT22 (by omega) ?_
  refine zW_p 1 rfl ?_
  refine hW_getr H rfl ha rfl rfl rfl f2 (fun b5 hb5 => ?_)
  refine zW_p 1 rfl ?_
  refine hW_lgetp H rfl rfl rfl hb5 rfl rfl rfl hi rfl (by omega) (fun b6 hb6 => ?_)
  have hmod : y % 2 = 0 ∨ y % 2 = 1 := by omega
  rcases hmod with e | e
  · rw [e] at hb6 ⊢
    refine hW_cast H rfl hb6 rfl rfl rfl ?_
    exact wW_ret rfl rfl rfl rfl ⟨by rw [hb6.2], rfl⟩
  · rw [e] at hb6 ⊢
    refine hW_cast H rfl hb6 rfl rfl rfl ?_
    exact wW_ret rfl rfl rfl rfl ⟨by rw [hb6.2], rfl⟩
theorem F_partX (H : hRep g w0 σ gh S J) (hF : fFix S) (ha : hat gh S 0 0 a) (hv : rg v) (hi : ¬ (0 ≤ v ∧ v < (sE S 21 0).length)) : ∃ σ' : zS, zEnd g 3 65 [.ref a, iv v] σ (.inr "java/lang/IndexOutOfBoundsException") σ' ∧ hRep g w0 σ' gh S J ∧ kc σ σ' 1 6 := by
  obtain ⟨f0, f1, f2, f3, f4, f5, f6, f7, f8, f9, fa, fb, fc, fd⟩ := hF
  have main : zW g 3 65 0 (lv_args 0 [.ref a, iv v]) [] σ (fun o σ' => o = .inr "java/lang/IndexOutOfBoundsException" ∧ hRep g w0 σ' gh S J ∧ kc σ σ' 1 6) := by
    refine zW_p 3 rfl ?_
    refine hW_getr H rfl ha rfl rfl rfl f2 (fun b1 hb1 => ?_)
    refine hW_size H rfl rfl rfl hb1 rfl rfl rfl (by omega) ?_
    refine zW_p 2 rfl ?_
    rw [I_sub]
    refine wS rfl rfl rfl rfl rfl rfl rfl rfl rfl (F_between hv ⟨by omega, by omega⟩ ⟨by omega, by omega⟩) (by omega) ?_
    rw [decide_eq_false (by omega)]
    obtain ⟨σ1, g1, g2, g3⟩ := F_reqF22 H
    exact wST rfl rfl rfl rfl rfl rfl rfl rfl rfl g1 (by omega) rfl ⟨rfl, g2, g3⟩
  obtain ⟨o, σ', h1, rfl, h2, h3⟩ := main
  exact ⟨σ', h1, h2, h3⟩
end ZLF
