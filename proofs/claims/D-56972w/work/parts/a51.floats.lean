/-! FLOATS that occur: shares of up to 30 orders (all computed), means: none is a NaN -/
set_option maxRecDepth 1000000
def zfT (x y : Nat) : Bool := !FP.Core.fIsNaN (FP.Core.fdiv (.ofNat (FP.Core.fromInt FP.Core.b32 x)) (.ofNat (FP.Core.fromInt FP.Core.b32 y)))
def zAll (f : Nat → Bool) : Nat → Bool
  | 0 => true
  | n + 1 => f n && zAll f n
theorem zAll_at {f : Nat → Bool} : ∀ {n : Nat}, zAll f n = true → ∀ x : Nat, x < n → f x = true
  | n + 1, h, x, hx => by
    unfold zAll at h
    rw [Bool.and_eq_true] at h
    by_cases e : x = n
    · rw [e]; exact h.1
    · exact zAll_at h.2 x (by omega)
theorem zf_all : zAll (fun y => zAll (fun x => zfT x (y + 1)) 31) 30 = true := by decide +kernel
theorem z64_t : FP.Core.b64.tails = 4503599627370496 := by decide
theorem z64_e : FP.Core.b64.exps = 2048 := by decide
theorem z64_q : FP.Core.b64.qmin = -1074 := by decide
theorem z64_x : FP.Core.b64.qmax = 971 := by decide
theorem z64_p : 2 ^ FP.Core.b64.p = 9007199254740992 := by decide
theorem z64_dec {n e t : Nat} {s : Bool} (h : n = (s.toNat * 2048 + e) * 4503599627370496 + t) (ht : t < 4503599627370496) (he : e < 2047) : n < 18446744073709551616 ∧ ∃ u d r, FP.Core.decode FP.Core.b64 n = .fin u d r := by
  have hs : s.toNat ≤ 1 := by cases s <;> decide
  have hE : FP.Core.fieldE FP.Core.b64 n = e := by
    unfold FP.Core.fieldE
    rw [z64_t, z64_e, h]
    omega
  refine ⟨by omega, ?_⟩
  unfold FP.Core.decode
  rw [hE, z64_e, if_neg (by omega)]
  split
  · exact ⟨_, _, _, rfl⟩
  · exact ⟨_, _, _, rfl⟩
theorem z64_fin {s : Bool} {c : Nat} {q : Int} (h1 : c < 9007199254740992) (h2 : -1074 ≤ q) (h3 : q ≤ 971) : FP.Core.encode FP.Core.b64 (.fin s c q) < 18446744073709551616 ∧ ∃ u d r, FP.Core.decode FP.Core.b64 (FP.Core.encode FP.Core.b64 (.fin s c q)) = .fin u d r := by
  unfold FP.Core.encode
  simp only
  rw [z64_t, z64_q]
  split
  · refine z64_dec (s := s) (e := 0) (t := c) ?_ (by omega) (by omega)
    unfold FP.Core.assemble
    rw [z64_t, z64_e]
  · refine z64_dec (s := s) (e := (q - -1074).toNat + 1) (t := c - 4503599627370496) ?_ (by omega) (by omega)
    unfold FP.Core.assemble
    rw [z64_t, z64_e]
theorem z64_inf {s : Bool} : FP.Core.encode FP.Core.b64 (.inf s) < 18446744073709551616 ∧ FP.Core.decode FP.Core.b64 (FP.Core.encode FP.Core.b64 (.inf s)) ≠ .nan := by
  cases s <;> decide
/-- what rounding gives is no NaN; if its last digit isn't too great it's finite -/
theorem z64_round {s : Bool} {num den : Nat} {e : Int} : FP.Core.encode FP.Core.b64 (FP.Core.roundRatio FP.Core.b64 s num den e) < 18446744073709551616 ∧ FP.Core.decode FP.Core.b64 (FP.Core.encode FP.Core.b64 (FP.Core.roundRatio FP.Core.b64 s num den e)) ≠ .nan ∧
    (FP.Core.quantum FP.Core.b64 num den e ≤ 900 → ∃ u d r, FP.Core.decode FP.Core.b64 (FP.Core.encode FP.Core.b64 (FP.Core.roundRatio FP.Core.b64 s num den e)) = .fin u d r) := by
  unfold FP.Core.roundRatio
  split
  · rw [z64_q]
    obtain ⟨h1, u, d, r, h2⟩ := z64_fin (s := s) (c := 0) (q := -1074) (by decide) (by decide) (by decide)
    exact ⟨h1, by rw [h2]; exact FP.Core.Datum.noConfusion, fun _ => ⟨u, d, r, h2⟩⟩
  · have hq : -1074 ≤ FP.Core.quantum FP.Core.b64 num den e := by
      unfold FP.Core.quantum
      rw [z64_q]
      exact Int.le_max_left ..
    unfold FP.Core.roundAt
    generalize FP.Core.quantum FP.Core.b64 num den e = q at hq
    generalize FP.Core.nearest (FP.Core.unitsNum num e q) (FP.Core.unitsDen den e q) = c
    unfold FP.Core.settle FP.Core.bound
    rw [z64_p, z64_x, z64_t]
    split
    · rename_i hc
      split
      · rename_i h3
        obtain ⟨h1, u, d, r, h2⟩ := z64_fin (s := s) hc hq h3
        exact ⟨h1, by rw [h2]; exact FP.Core.Datum.noConfusion, fun _ => ⟨u, d, r, h2⟩⟩
      · exact ⟨z64_inf.1, z64_inf.2, fun h => by omega⟩
    · split
      · rename_i h3
        obtain ⟨h1, u, d, r, h2⟩ := z64_fin (s := s) (c := 4503599627370496) (by decide) (show -1074 ≤ q + 1 by omega) h3
        exact ⟨h1, by rw [h2]; exact FP.Core.Datum.noConfusion, fun _ => ⟨u, d, r, h2⟩⟩
      · exact ⟨z64_inf.1, z64_inf.2, fun h => by omega⟩
theorem z64_toNat {n : Nat} (h : n < 18446744073709551616) : (UInt64.ofNat n).toNat = n := by
  rw [UInt64.toNat_ofNat']
  exact Nat.mod_eq_of_lt h
theorem z64_int {i : Int} (h0 : 0 ≤ i) (h : i < 1000000) : ∃ u d r, FP.Core.decode FP.Core.b64 (UInt64.ofNat (FP.Core.fromInt FP.Core.b64 i)).toNat = .fin u d r := by
  have e : FP.Core.fromInt FP.Core.b64 i = FP.Core.encode FP.Core.b64 (FP.Core.roundRatio FP.Core.b64 (decide (i < 0)) i.natAbs 1 0) := rfl
  rw [e]
  obtain ⟨h1, _, h3⟩ := z64_round (s := decide (i < 0)) (num := i.natAbs) (den := 1) (e := 0)
  rw [z64_toNat h1]
  refine h3 ?_
  have hl : FP.Core.leading i.natAbs 1 ≤ 20 := by
    have hlog : i.natAbs.log2 < 20 := by
      by_cases hz : i.natAbs = 0
      · rw [hz]; decide
      · exact (Nat.log2_lt hz).mpr (by omega)
    unfold FP.Core.leading
    have h1 : (1 : Nat).log2 = 0 := by decide
    rw [h1]
    simp only
    split <;> omega
  unfold FP.Core.quantum
  rw [z64_q]
  have hp : (FP.Core.b64.p : Int) = 53 := by decide
  rw [hp]
  omega
theorem z64_div {a b : UInt64} (ha : ∃ u d r, FP.Core.decode FP.Core.b64 a.toNat = .fin u d r) (hb : ∃ u d r, d ≠ 0 ∧ FP.Core.decode FP.Core.b64 b.toNat = .fin u d r) : FP.Core.dIsNaN (FP.Core.ddiv a b) = false := by
  obtain ⟨u, c, q, h1⟩ := ha
  obtain ⟨t, d, r, hd, h2⟩ := hb
  unfold FP.Core.dIsNaN FP.Core.isNaN FP.Core.ddiv FP.Core.div
  rw [h1, h2]
  have e : FP.Core.quotient FP.Core.b64 (.fin u c q) (.fin t d r) = FP.Core.roundRatio FP.Core.b64 (u != t) c d (q - r) := by
    show (if d = 0 then _ else _) = _
    rw [if_neg hd]
  rw [e]
  obtain ⟨h3, h4, _⟩ := z64_round (s := u != t) (num := c) (den := d) (e := q - r)
  rw [z64_toNat h3]
  exact decide_eq_false h4
def zdB (y : Nat) : Bool := match FP.Core.decode FP.Core.b64 (UInt64.ofNat (FP.Core.fromInt FP.Core.b64 ((y + 1 : Nat) : Int))).toNat with
  | .fin _ d _ => d != 0
  | _ => false
theorem zd_small : zAll zdB 10 = true := by decide +kernel
/-- a mean -/
theorem zd_mean {x : Int} {n : Nat} (h0 : 0 ≤ x) (h1 : x < 1000000) (hn : 1 ≤ n) (hn2 : n ≤ 10) : FP.Core.dIsNaN (FP.Core.ddiv (.ofNat (FP.Core.fromInt FP.Core.b64 x)) (.ofNat (FP.Core.fromInt FP.Core.b64 (n : Int)))) = false := by
  refine z64_div (z64_int h0 h1) ?_
  have := zAll_at zd_small (n - 1) (by omega)
  unfold zdB at this
  rw [show n - 1 + 1 = n by omega] at this
  split at this
  · rename_i u d r h
    exact ⟨u, d, r, by simpa using this, h⟩
  · cases this
theorem zf_share {x y : Nat} (hx : x ≤ 30) (hy : 1 ≤ y) (hy2 : y ≤ 30) : FP.Core.fIsNaN (FP.Core.fdiv (.ofNat (FP.Core.fromInt FP.Core.b32 (x : Int))) (.ofNat (FP.Core.fromInt FP.Core.b32 (y : Int)))) = false := by
  have := zAll_at (zAll_at zf_all (y - 1) (by omega)) x (by omega)
  unfold zfT at this
  rw [show y - 1 + 1 = y by omega] at this
  simpa using this
/-- in the machine's words -/
theorem zi2f {x : Int} (h : rg x) : FP.i2f (Int32.ofInt x) = .ofNat (FP.Core.fromInt FP.Core.b32 x) := by
  show UInt32.ofNat (FP.Core.fromInt FP.Core.b32 (Int32.ofInt x).toInt) = _
  rw [I_to h]
theorem zi2d {x : Int} (h : rg x) : FP.i2d (Int32.ofInt x) = .ofNat (FP.Core.fromInt FP.Core.b64 x) := by
  show UInt64.ofNat (FP.Core.fromInt FP.Core.b64 (Int32.ofInt x).toInt) = _
  rw [I_to h]
theorem zl2d {x : Int} (h : rgl x) : FP.l2d (Int64.ofInt x) = .ofNat (FP.Core.fromInt FP.Core.b64 x) := by
  show UInt64.ofNat (FP.Core.fromInt FP.Core.b64 (Int64.ofInt x).toInt) = _
  rw [L_to h]
theorem zf_ok32 {x : UInt32} (h : FP.Core.fIsNaN x = false) : x &&& 0x7fffffff ≤ 0x7f800000 := by
  rw [UInt32.le_iff_toNat_le, UInt32.toNat_and]
  have h1 : (0x7fffffff : UInt32).toNat = 2 ^ 31 - 1 := by decide
  have h2 : (0x7f800000 : UInt32).toNat = 2139095040 := by decide
  rw [h1, h2, Nat.and_two_pow_sub_one_eq_mod]
  have hn : FP.Core.decode FP.Core.b32 x.toNat ≠ .nan := of_decide_eq_false h
  unfold FP.Core.decode FP.Core.fieldE FP.Core.fieldT at hn
  have ht : FP.Core.b32.tails = 8388608 := by decide
  have he : FP.Core.b32.exps = 256 := by decide
  rw [ht, he] at hn
  split at hn
  · split at hn
    · omega
    · exact absurd rfl hn
  · omega
theorem zf_ok64 {x : UInt64} (h : FP.Core.dIsNaN x = false) : x &&& 0x7fffffffffffffff ≤ 0x7ff0000000000000 := by
  rw [UInt64.le_iff_toNat_le, UInt64.toNat_and]
  have h1 : (0x7fffffffffffffff : UInt64).toNat = 2 ^ 63 - 1 := by decide
  have h2 : (0x7ff0000000000000 : UInt64).toNat = 9218868437227405312 := by decide
  rw [h1, h2, Nat.and_two_pow_sub_one_eq_mod]
  have hn : FP.Core.decode FP.Core.b64 x.toNat ≠ .nan := of_decide_eq_false h
  unfold FP.Core.decode FP.Core.fieldE FP.Core.fieldT at hn
  rw [z64_t, z64_e] at hn
  split at hn
  · split at hn
    · omega
    · exact absurd rfl hn
  · omega
theorem zf_ok {x y : Nat} (hx : x ≤ 30) (hy : 1 ≤ y) (hy2 : y ≤ 30) : FP.Core.fIsNaN (FP.fdiv (FP.i2f (Int32.ofInt (x : Int))) (FP.i2f (Int32.ofInt (y : Int)))) = false := by
  rw [zi2f ⟨by omega, by omega⟩, zi2f ⟨by omega, by omega⟩]
  exact zf_share hx hy hy2
theorem zd_okI {x : Int} {n : Nat} (h0 : 0 ≤ x) (h1 : x < 1000000) (hn : 1 ≤ n) (hn2 : n ≤ 10) : FP.Core.dIsNaN (FP.ddiv (FP.i2d (Int32.ofInt x)) (FP.i2d (Int32.ofInt (n : Int)))) = false := by
  rw [zi2d ⟨by omega, by omega⟩, zi2d ⟨by omega, by omega⟩]
  exact zd_mean h0 h1 hn hn2
theorem zd_okL {x : Int} {n : Nat} (h0 : 0 ≤ x) (h1 : x < 1000000) (hn : 1 ≤ n) (hn2 : n ≤ 10) : FP.Core.dIsNaN (FP.ddiv (FP.l2d (Int64.ofInt x)) (FP.i2d (Int32.ofInt (n : Int)))) = false := by
  rw [zl2d ⟨by omega, by omega⟩, zi2d ⟨by omega, by omega⟩]
  exact zd_mean h0 h1 hn hn2
