/-! THE LAW's loop: its head, its dispatch, its tail; the induction over the calls -/
set_option maxRecDepth 100000
/-- where the cases begin -/
def tcs : List Nat := [200, 292, 376, 468, 560, 664, 720, 804, 867, 947, 1022, 1035, 1091, 1147, 1203, 1258, 1350, 1413, 1469, 1532, 1600, 1656, 1719, 1775, 1831, 1887, 1943, 1999, 2055, 2130, 2186, 2242, 2297, 2363, 2428]
def tsc (op : Int) : Nat := if op < 0 ∨ 34 < op then 2441 else tcs.getD op.toNat 2441
abbrev tofs : Array Int := #[155, 247, 331, 423, 515, 619, 675, 759, 822, 902, 977, 990, 1046, 1102, 1158, 1213, 1305, 1368, 1424, 1487, 1555, 1611, 1674, 1730, 1786, 1842, 1898, 1954, 2010, 2085, 2141, 2197, 2252, 2318, 2383]
theorem tofs_at : ∀ k : Nat, k ≤ 34 → ∃ o, tofs[k]? = some o ∧ zp_to 45 o = some (tcs.getD k 2441) := by
  intro k hk
  have h : ∀ q : Fin 35, (match tofs[q.val]? with | some o => decide (zp_to 45 o = some (tcs.getD q.val 2441)) | none => false) = true := by decide +kernel
  have h1 := h ⟨k, by omega⟩
  simp only at h1
  revert h1
  cases hx : tofs[k]? with
  | none => intro h1; cases h1
  | some o => intro h1; exact ⟨o, rfl, of_decide_eq_true h1⟩
section ZTL
variable {g : zG} {w0 : hG} {σ σ1 σ2 : zS} {gh : Nat → Nat → Nat} {S : hS} {J : zw_W} {scr a m ol od n i d : Nat} {sf : Nat → Int32} {Q : Option Value ⊕ String → zS → Prop}
theorem tW_sw {x : Int32} {lv : zp_L} (hr : tW g d (tsc x.toInt) lv [] σ Q) : tW g d 45 lv [.int x] σ Q := by
  have hx : zat zL0 45 = some (.tableswitch 2396 0 34 tofs, 155) := rfl
  by_cases hc : x.toInt < 0 ∨ 34 < x.toInt
  · refine tW_step (f := ((2441, lv, []), σ)) zsub0 hx ?_ ?_
    · unfold zstep
      have e : zp_step (.tableswitch 2396 0 34 tofs) 155 45 9 lv [.int x] = some (2441, lv, []) := by
        show (if x.toInt < 0 ∨ 34 < x.toInt then zp_br true (zp_to 45 2396) 0 lv [] else _) = _
        rw [if_pos hc]
        rfl
      rw [e]
    · have e : tsc x.toInt = 2441 := by unfold tsc; rw [if_pos hc]
      rw [e] at hr
      exact hr
  · obtain ⟨o, ho, ht⟩ := tofs_at x.toInt.toNat (by omega)
    have e : tsc x.toInt = tcs.getD x.toInt.toNat 2441 := by unfold tsc; rw [if_neg hc]
    rw [e] at hr
    refine tW_step (f := ((tcs.getD x.toInt.toNat 2441, lv, []), σ)) zsub0 hx ?_ hr
    unfold zstep
    have e2 : zp_step (.tableswitch 2396 0 34 tofs) 155 45 9 lv [.int x] = some (tcs.getD x.toInt.toNat 2441, lv, []) := by
      show (if x.toInt < 0 ∨ 34 < x.toInt then zp_br true (zp_to 45 2396) 0 lv [] else (match tofs[(x.toInt - 0).toNat]? with | some o => zp_br true (zp_to 45 o) 0 lv [] | none => none)) = _
      rw [if_neg hc, Int.sub_zero, ho]
      simp only
      rw [ht]
      rfl
    rw [e2]
theorem tHead (H : hRep g w0 σ gh S J) (hs : w0.1 scr = some (.inl (8, n, .inl sf))) (hlt : scr < zg_n g) (hn : n ≤ 1000) (hi : i ≤ n) (h1 : n < i + 6 → Q (.inl (some (.int (Int32.ofInt 1)))) σ)
    (h2 : i + 6 ≤ n → tW g d (tsc (sf i &&& Int32.ofInt 63).toInt) (tLV scr a m ol od i) [] σ Q) : tW g d 28 (tLV scr a m ol od i) [] σ Q := by
  have hsc := (H.2.2.2.1 scr hlt).trans hs
  refine tW_p zsub0 2 rfl ?_
  refine tW_len zsub0 rfl hsc rfl ?_
  refine tW_p zsub0 1 rfl ?_
  refine tW_p zsub0 1 rfl ?_
  rw [show (Int8.ofInt 6).toInt32 = Int32.ofInt 6 from by decide +kernel, I_sub]
  refine tW_br (P := Int32.ofInt ((n : Int) - 6) < Int32.ofInt ((i : Nat) : Int)) (t := 2447) (on := 38) (st' := []) zsub0 rfl rfl (fun hp => ?_) (fun hp => ?_)
  · have hp := (I_lt ⟨by omega, by omega⟩ ⟨by omega, by omega⟩).mp hp
    refine tW_p zsub36 1 rfl ?_
    exact tW_reti zsub36 rfl (by decide +kernel) (h1 (by omega))
  · have hp : ¬ ((n : Int) - 6 < (i : Nat)) := fun q => hp ((I_lt ⟨by omega, by omega⟩ ⟨by omega, by omega⟩).mpr q)
    refine tW_p zsub0 2 rfl ?_
    refine tW_iald zsub0 rfl hsc (I_in (by omega) (by omega)) ?_
    rw [I_cl (by omega)]
    refine tW_p zsub0 2 rfl ?_
    rw [show (Int8.ofInt 63).toInt32 = Int32.ofInt 63 from by decide +kernel]
    exact tW_sw (h2 (by omega))
theorem tTail (h : tW g d 28 (tLV scr a m ol od (i + 6)) [] σ Q) : tW g d 2441 (tLV scr a m ol od i) [] σ Q := by
  refine tW_p zsub36 2 rfl ?_
  refine tW_lv (tLV scr a m ol od (i + 6)) rfl ⟨rfl, rfl, rfl, rfl, rfl, ?_, trivial⟩ h
  show some (Value.int (Int32.ofInt ((i : Nat) : Int) + Int32.ofInt 6)) = some (Value.int (Int32.ofInt ((i + 6 : Nat) : Int)))
  rw [I_add]
  rfl
/-- the loop: what holds ahead of every call carries the run to its end -/
theorem tLoop {P : Nat → zS → Prop} (hP : ∀ i σ, P i σ → ∃ gh S J, hRep g w0 σ gh S J) (hs : w0.1 scr = some (.inl (8, n, .inl sf))) (hlt : scr < zg_n g) (hn : n ≤ 1000)
    (hstep : ∀ i σ, i + 6 ≤ n → P i σ → (∀ σ', P (i + 6) σ' → tW g d 2441 (tLV scr a m ol od i) [] σ' Q) → tW g d (tsc (sf i &&& Int32.ofInt 63).toInt) (tLV scr a m ol od i) [] σ Q)
    (hfin : ∀ i σ, P i σ → i ≤ n → n < i + 6 → Q (.inl (some (.int (Int32.ofInt 1)))) σ) : ∀ (k i : Nat) (σ : zS), n ≤ i + k → i ≤ n → P i σ → tW g d 28 (tLV scr a m ol od i) [] σ Q := by
  intro k
  induction k with
  | zero =>
    intro i σ hk hi hp
    obtain ⟨gh, S, J, H⟩ := hP i σ hp
    exact tHead H hs hlt hn hi (fun q => hfin i σ hp hi q) (fun q => by omega)
  | succ k ih =>
    intro i σ hk hi hp
    obtain ⟨gh, S, J, H⟩ := hP i σ hp
    refine tHead H hs hlt hn hi (fun q => hfin i σ hp hi q) (fun q => ?_)
    exact hstep i σ q hp (fun σ' hp' => tTail (ih (i + 6) σ' (by omega) (by omega) hp'))
end ZTL
