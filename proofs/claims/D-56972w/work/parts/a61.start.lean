/-! THE START: the heap before the law's first step; the law's head (pc 0 to 28) -/
set_option maxRecDepth 100000
def S0 : hS := (fun c => if c = 19 then 256 else 0, fun c k i => if c = 19 ∧ k = 0 then (i : Int) - 128 else 0, fun _ _ => [], fun _ _ => 0)
theorem sn_S0 {c i : Nat} (h : i < sn S0 c) : c = 19 ∧ i < 256 := by
  unfold sn S0 at h
  simp only at h
  by_cases e : c = 19
  · rw [if_pos e] at h
    exact ⟨e, h⟩
  · rw [if_neg e] at h
    omega
section ZST
variable {g : zG} {w0 : hG} {σ : zS} {gh : Nat → Nat → Nat} {S : hS} {J : zw_W} {d : Nat} {Q : Option Value ⊕ String → zS → Prop}
theorem hStart (hF : hFix g w0) (hb : ∀ a : Nat, zg_n g ≤ a → w0.1 a = none) (ci : Nat → Nat) (hci : ∀ j : Nat, j < 256 → ci j < zg_n g ∧ w0.1 (ci j) = some (.inr (19, [iv ((j : Int) - 128)]))) (k : Nat) : hRep g w0 (w0.1, zg_n g, k) (fun _ i => ci i) S0 (fun _ => none) := by
  have hinj : ∀ i j : Nat, i < 256 → j < 256 → ci i = ci j → i = j := by
    intro i j hi hj e
    have h1 := (hci i hi).2
    rw [e, (hci j hj).2] at h1
    have h2 : Value.int (Int32.ofInt ((j : Int) - 128)) = Value.int (Int32.ofInt ((i : Int) - 128)) := by
      have := Option.some.inj h1
      injection this with this
      injection this with _ this
      injection this with this
    injection h2 with h2
    have := (I_eq ⟨by omega, by omega⟩ ⟨by omega, by omega⟩).mp h2
    omega
  obtain ⟨own, ho⟩ : ∃ own : Nat → Option (Nat × Nat × Nat), ∀ a t c i : Nat, own a = some (t, c, i) ↔ t = 0 ∧ c = 19 ∧ i < 256 ∧ ci i = a := by
    refine ⟨fun a => ((List.range 256).find? (fun j => ci j == a)).map (fun j => (0, 19, j)), ?_⟩
    intro a t c i
    simp only
    constructor
    · intro h
      cases hf : (List.range 256).find? (fun j => ci j == a) with
      | none => rw [hf] at h; cases h
      | some j =>
        rw [hf] at h
        have h2 := Option.some.inj h
        have h3 := List.find?_some hf
        have h4 := List.mem_range.mp (List.mem_of_find?_eq_some hf)
        simp only [beq_iff_eq] at h3
        obtain ⟨rfl, rfl, rfl⟩ : t = 0 ∧ c = 19 ∧ i = j := ⟨(congrArg (·.1) h2).symm, (congrArg (·.2.1) h2).symm, (congrArg (·.2.2) h2).symm⟩
        exact ⟨rfl, rfl, h4, h3⟩
    · rintro ⟨rfl, rfl, hi, rfl⟩
      cases hf : (List.range 256).find? (fun j => ci j == ci i) with
      | none =>
        have := List.find?_eq_none.mp hf i (List.mem_range.mpr hi)
        simp at this
      | some j =>
        have h3 := List.find?_some hf
        have h4 := List.mem_range.mp (List.mem_of_find?_eq_some hf)
        simp only [beq_iff_eq] at h3
        rw [hinj j i h4 hi h3]
        rfl
  refine ⟨hF, hb, Nat.le_refl _, fun _ _ => rfl, ?_, ?_, own, fun _ _ => (w0.2, 0), fun _ _ _ => none, ?_, ?_, ?_, ?_, ?_, ?_⟩
  · intro c i k kd hc hi hk
    obtain ⟨rfl, hi⟩ := sn_S0 hi
    cases k with
    | zero =>
      have e : kd = 0 := (Option.some.inj hk).symm
      subst e
      exact fun _ => ⟨fun e => absurd e (by decide), fun n e => by omega⟩
    | succ k => cases hk
  · intro c i hc hi
    obtain ⟨rfl, hi⟩ := sn_S0 hi
    omega
  · intro a t c i h
    obtain ⟨rfl, rfl, hi, rfl⟩ := (ho a t c i).mp h
    have h1 := hci i hi
    refine ⟨Or.inr ⟨rfl, rfl⟩, h1.1, ?_, (by rw [h1.2]; exact fun e => by cases e), fun _ => ⟨hi, rfl⟩, fun e => by omega, fun e => by omega, by omega⟩
    rw [h1.2]
    rfl
  · intro c i hi
    obtain ⟨rfl, hi⟩ := sn_S0 hi
    exact (ho _ _ _ _).mpr ⟨rfl, rfl, hi, rfl⟩
  · intro a e h
    cases h
  · intro c i h1 h2 hi
    obtain ⟨rfl, hi⟩ := sn_S0 hi
    omega
  · intro c i h1 h2 hi
    obtain ⟨rfl, hi⟩ := sn_S0 hi
    omega
  · intro i hi
    have := (sn_S0 hi).1
    omega
theorem hCache0 {A N : Nat} {f : Nat → Option Nat} (ci : Nat → Nat) (h1 : zt_val (zg_s g) ("java/lang/Integer$IntegerCache", "high", "I") = some (iv 127)) (h2 : zt_val (zg_s g) ("java/lang/Integer$IntegerCache", "cache", "[Ljava/lang/Integer;") = some (.ref A)) (h3 : A < zg_n g) (h4 : w0.1 A = some (.inl (7, N, .inr (.inr (.inr (.inr f))))))
    (h5 : 256 ≤ N) (h6 : N < 2147483648) (h7 : ∀ j : Nat, j < 256 → f j = some (ci j) ∧ ci j < zg_n g) : hCache g w0 (fun _ i => ci i) S0 :=
  ⟨A, N, f, h1, h2, h3, h4, h5, h6, Nat.le_refl _, fun j hj => ⟨(h7 j hj).1, (h7 j hj).2, rfl⟩⟩
theorem sn_kF0 {m z c : Nat} : sn S c ≤ sn (kF0 S m z) c := by
  have h1 : sn S c ≤ sn (kF0b S m) c := Nat.le_trans (Nat.le_trans sn_kL (Nat.le_trans sn_kL (Nat.le_trans sn_kL sn_kL))) (sn_w_le (S := kF0a S m) (c := 48) (xs := List.replicate 4 (-1)))
  exact Nat.le_trans h1 (Nat.le_trans sn_kSup (Nat.le_trans sn_kSup (Nat.le_trans sn_kSup sn_kSup)))
theorem sn_kM0 {m c : Nat} : sn S c ≤ sn (kM0 S m) c := by
  have h1 : sn S c ≤ sn (kM0a S m) c := Nat.le_trans sn_kL (Nat.le_trans sn_kL (Nat.le_trans sn_kL sn_kL))
  have h2 : sn (kM0a S m) c ≤ sn (kM0b S m) c := Nat.le_trans (sn_w_le (S := kM0a S m) (c := 47) (xs := List.replicate 4 0)) (sn_kL (S := sset (kM0c (kM0a S m)) 11 6 m ((sn (kM0a S m) 47 : Nat) : Int)))
  exact Nat.le_trans h1 (Nat.le_trans h2 (Nat.le_trans sn_kRls (Nat.le_trans sn_kRls (Nat.le_trans sn_kRls sn_kRls))))
theorem sn_kF0_11 {m z : Nat} : sn (kF0 (snw S 0 []) m z) 11 = sn S 11 := rfl
/-- the two systems and the out arrays -/
def kStart (S : hS) (z : Nat) : hS := kM0 (snw (kF0 (snw S 0 []) (sn S 0) z) 11 []) (sn S 11)
theorem tStart {z scr : Nat} (H : hRep g w0 σ gh S J) (hZ : zt_val (zg_s g) ("Foundrymark$Rule", "NORMAL", "LFoundrymark$Rule;") = some (.ref z)) (hd : 8 < d)
    (hr : ∀ (σ' : zS) (gh' : Nat → Nat → Nat) (a m ol od : Nat) (f : Nat → Int64) (fd : Nat → UInt64), gext S gh gh' → hat gh' (kStart S z) 0 (sn S 0) a → hat gh' (kStart S z) 11 (sn S 11) m → hRep g w0 σ' gh' (kStart S z) (zw_up (zw_up J ol (wLA f)) od (wDA fd)) → ol ≠ od → kc σ σ' 31 200 → tW g d 28 (tLV scr a m ol od 0) [] σ' Q) : tW g d 0 [(0, .ref scr)] [] σ Q := by
  refine tW_new zsub0 rfl rfl rfl rfl ?_
  have H1 := H.alloc (c := 0) (xs := []) (m := σ.2.2 + 10) (x := .inr (0, (bspec 0).map (fun kd => conv gh kd (adef kd)))) (by omega) rfl (fun _ => rfl) (by omega) (fun y hy => by cases hy)
  have ha1 : hat (ghw gh S 0 σ.2.1) (snw S 0 []) 0 (sn S 0) σ.2.1 := hat.new
  obtain ⟨σ2, r2, gh2, x2, H2, k2⟩ := F_newSys H1 ha1 hZ
  refine tW_p zsub0 1 rfl ?_
  refine tW_I zsub0 rfl rfl rfl rfl rfl rfl rfl rfl rfl r2 (by omega) ?_
  refine tW_p zsub0 1 rfl ?_
  have le2 : ∀ c, sn (snw S 0 []) c ≤ sn (kF0 (snw S 0 []) (sn S 0) z) c := fun c => sn_kF0
  have e11 := sn_kF0_11 (S := S) (m := sn S 0) (z := z)
  have eK : kStart S z = kM0 (snw (kF0 (snw S 0 []) (sn S 0) z) 11 []) (sn S 11) := rfl
  generalize kF0 (snw S 0 []) (sn S 0) z = B at *
  refine tW_new zsub0 rfl rfl rfl rfl ?_
  have H3 := H2.alloc (c := 11) (xs := []) (m := σ2.2.2 + 9) (x := .inr (11, (bspec 11).map (fun kd => conv gh2 kd (adef kd)))) (by omega) rfl (fun _ => rfl) (by omega) (fun y hy => by cases hy)
  have hm3 : hat (ghw gh2 B 11 σ2.2.1) (snw B 11 []) 11 (sn S 11) σ2.2.1 := by
    rw [← e11]
    exact hat.new
  obtain ⟨σ4, r4, gh4, x4, H4, k4⟩ := M_newSys H3 hm3
  refine tW_p zsub0 1 rfl ?_
  refine tW_I zsub0 rfl rfl rfl rfl rfl rfl rfl rfl rfl r4 (by omega) ?_
  refine tW_p zsub0 2 rfl ?_
  have le4 : ∀ c, sn (snw B 11 []) c ≤ sn (kStart S z) c := fun c => by
    rw [eK]
    exact sn_kM0
  rw [← eK] at H4
  clear eK
  generalize kStart S z = C at *
  refine tW_newa zsub0 rfl (by decide +kernel) rfl ?_
  have H5 := H4.keep (e := wLA (fun _ => 0)) (m := σ4.2.2 + 1)
  refine tW_p zsub0 2 rfl ?_
  refine tW_newa zsub0 rfl (by decide +kernel) rfl ?_
  have H6 := H5.keep (e := wDA (fun _ => 0)) (m := σ4.2.2 + 1 + 1)
  refine tW_p zsub0 3 rfl ?_
  have le3 : ∀ c, sn B c ≤ sn (snw B 11 []) c := fun c => sn_w_le
  have x1 : gext S gh (ghw gh S 0 σ.2.1) := gext_w gext_rfl (fun _ => Nat.le_refl _)
  have x3 : gext S gh (ghw gh2 B 11 σ2.2.1) := gext_w (x1.trans x2 (fun _ => sn_w_le)) (fun c => Nat.le_trans sn_w_le (le2 c))
  refine tW_lv (tLV scr σ.2.1 σ2.2.1 σ4.2.1 (σ4.2.1 + 1) 0) rfl ⟨rfl, rfl, rfl, rfl, rfl, rfl, trivial⟩ ?_
  refine hr _ gh4 _ _ _ _ (fun _ => 0) (fun _ => 0) (x3.trans x4 (fun c => Nat.le_trans sn_w_le (Nat.le_trans (le2 c) (le3 c)))) ?_ ?_ H6 (by omega) ?_
  · exact x4.hat le4 (hat.old (x2.hat le2 ha1))
  · exact x4.hat le4 hm3
  · obtain ⟨a1, a2, a3, a4⟩ := k2
    obtain ⟨b1, b2, b3, b4⟩ := k4
    refine ⟨?_, ?_, ?_, ?_⟩
    · show σ.2.1 ≤ σ4.2.1 + 1 + 1
      have a1 : σ.2.1 + 1 ≤ σ2.2.1 := a1
      have b1 : σ2.2.1 + 1 ≤ σ4.2.1 := b1
      omega
    · show σ4.2.1 + 1 + 1 ≤ σ.2.1 + 31
      have a2 : σ2.2.1 ≤ σ.2.1 + 1 + 13 := a2
      have b2 : σ4.2.1 ≤ σ2.2.1 + 1 + 14 := b2
      omega
    · show σ.2.2 ≤ σ4.2.2 + 1 + 1
      have a3 : σ.2.2 + 10 ≤ σ2.2.2 := a3
      have b3 : σ2.2.2 + 9 ≤ σ4.2.2 := b3
      omega
    · show σ4.2.2 + 1 + 1 ≤ σ.2.2 + 200
      have a4 : σ2.2.2 ≤ σ.2.2 + 10 + 36 := a4
      have b4 : σ4.2.2 ≤ σ2.2.2 + 9 + 103 := b4
      omega
end ZST
