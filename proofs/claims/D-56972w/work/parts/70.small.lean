/-! THE JDK OVER THE WORLD: addAll into an empty list, toArray; Boolean, Integer; orders compared -/
set_option maxRecDepth 100000
section ZSM
variable {g : zG} {σ : zS} {a r cap n i b it E0 x m : Nat} {mc : Int32} {f : Nat → Option Nat}
theorem c_toArray (h : wL σ.1 a mc r cap n f) (hel : wEl g σ.1 n f) (hfr : wfr σ) (hz : zg_n g ≤ σ.2.1) (hk : wK g) :
    zEnd g 2 165 [.ref a] σ (.inl (some (.ref σ.2.1))) (zw_up σ.1 σ.2.1 (.inl (1, n, .inr (.inr (.inr (.inr f))))), σ.2.1 + 1, σ.2.2 + n) := zEnd_of (by
  have hc := h.2.2
  refine zW_p 1 rfl ?_
  refine wW_get rfl h.1 rfl rfl ?_
  refine zW_p 1 rfl ?_
  refine wW_get rfl h.1 rfl rfl ?_
  refine wS rfl rfl rfl rfl rfl rfl rfl rfl rfl (c_copyOf h.2.1 hel (Nat.le_refl n) hc.1 (by omega) (by omega) hfr hz hk) (by decide) ?_
  exact wW_ret rfl rfl rfl rfl ⟨rfl, rfl⟩)
variable {c rc capc nc : Nat} {mcc : Int32} {fc : Nat → Option Nat}
/-- addAll of a list that isn't empty into a new one -/
theorem c_addAll (h : wL σ.1 a mc r 0 0 f) (hc : wL σ.1 c mcc rc capc nc fc) (hel : wEl g σ.1 nc fc) (hE : zt_val (zg_s g) wDef = some (.ref E0)) (hr0 : r = E0) (hnc : 0 < nc) (hnc2 : nc ≤ 300000) (hne : a ≠ c) (hf : f = fun _ => none) (hfr : wfr σ) (hz : zg_n g ≤ σ.2.1) (hna : zg_n g ≤ a) (hk : wK g) :
    ∃ C : Nat, nc ≤ C ∧ C ≤ nc + 10 ∧ zEnd g 3 164 [.ref a, .ref c] σ (.inl (some (iv 1))) (zw_up (zw_up (zw_up σ.1 σ.2.1 (.inl (1, nc, .inr (.inr (.inr (.inr fc)))))) (σ.2.1 + 1) (.inl (1, C, .inr (.inr (.inr (.inr fc)))))) a (.inr (16, [.int (mc + Int32.ofInt 1), .ref (σ.2.1 + 1), iv nc])), σ.2.1 + 2, σ.2.2 + nc + C) := by
  have hcc := hc.2.2
  have hsz : a < σ.2.1 := by
    rcases Nat.lt_or_ge a σ.2.1 with q | q
    · exact q
    · have := hfr a q; rw [h.1] at this; cases this
  have hsr : r < σ.2.1 := by
    rcases Nat.lt_or_ge r σ.2.1 with q | q
    · exact q
    · have := hfr r q; rw [h.2.1] at this; cases this
  have hra : r ≠ a := fun e => by have := h.2.1; rw [e, h.1] at this; cases this
  have hT := c_toArray hc hel hfr hz hk
  -- the world behind toArray and the new modCount
  have hL1 : wL (zw_up (zw_up σ.1 σ.2.1 (.inl (1, nc, .inr (.inr (.inr (.inr fc)))))) a (.inr (16, [.int (mc + Int32.ofInt 1), .ref r, iv (0 : Nat)]))) a (mc + Int32.ofInt 1) r 0 0 f := ⟨zw_up_same _ _ _, (zw_up_ne _ _ hra).trans ((zw_up_ne _ _ (by omega)).trans h.2.1), by omega, by omega⟩
  obtain ⟨C, h1, h2, h3⟩ := c_grow2 (g := g) (m := nc) (E0 := E0) (σ := (zw_up (zw_up σ.1 σ.2.1 (.inl (1, nc, .inr (.inr (.inr (.inr fc)))))) a (.inr (16, [.int (mc + Int32.ofInt 1), .ref r, iv (0 : Nat)])), σ.2.1 + 1, σ.2.2 + nc)) hL1 ⟨fun i y hy => (by rw [hf] at hy; cases hy), fun i _ => (by rw [hf])⟩ hE (fun _ => hr0) hnc (by omega) (fun q hq => by
    have hq2 : σ.2.1 + 1 ≤ q := hq
    exact (zw_up_ne _ _ (by omega)).trans ((zw_up_ne _ _ (by omega)).trans (hfr q (by omega)))) (by show zg_n g ≤ σ.2.1 + 1; omega) hna hk
  dsimp only at h3
  refine ⟨C, h1, by omega, zEnd_of ?_⟩
  refine zW_p 1 rfl ?_
  refine wF rfl rfl rfl hc.1 rfl rfl rfl rfl rfl hT (by decide) ?_
  refine zW_p 3 rfl ?_
  refine wW_get rfl ((zw_up_ne _ _ (by omega)).trans h.1) rfl rfl ?_
  refine zW_p 2 rfl ?_
  refine wW_put rfl ((zw_up_ne _ _ (by omega)).trans h.1) rfl hna (Or.inl rfl) rfl rfl rfl ?_
  refine zW_p 1 rfl ?_
  refine wW_len rfl ((zw_up_ne _ _ (by omega)).trans (zw_up_same _ _ _)) rfl ?_
  refine zW_p 2 rfl ?_
  refine zW_br rfl rfl (fun _ => ?_) (fun hP => ?_)
  · refine zW_p 2 rfl ?_
    refine wW_get rfl (zw_up_same _ _ _) rfl rfl ?_
    refine zW_p 2 rfl ?_
    refine wW_len rfl ((zw_up_ne _ _ hra).trans ((zw_up_ne _ _ (by omega)).trans h.2.1)) rfl ?_
    refine zW_p 1 rfl ?_
    refine wW_get rfl (zw_up_same _ _ _) rfl rfl ?_
    refine zW_p 3 rfl ?_
    rw [I_sub]
    refine zW_br rfl rfl (fun hP => ?_) (fun hP => ?_)
    · rw [I_le ⟨by omega, by omega⟩ ⟨by omega, by omega⟩] at hP
      omega
    · refine zW_p 4 rfl ?_
      rw [I_add, show ((0 : Nat) : Int) + (nc : Int) = ((nc : Nat) : Int) from by omega]
      refine wV rfl rfl rfl rfl rfl rfl rfl hL1.rc h3 (by decide) ?_
      refine zW_p 6 rfl ?_
      have hnn : ¬ Int32.ofInt (nc : Int) < 0 := by rw [I_lt0 ⟨by omega, by omega⟩]; omega
      have hel2 : ∀ i y : Nat, fc i = some y → wOb (zg_k g) (zw_up (zw_up (zw_up (zw_up σ.1 σ.2.1 (.inl (1, nc, .inr (.inr (.inr (.inr fc)))))) a (.inr (16, [.int (mc + Int32.ofInt 1), .ref r, iv (0 : Nat)]))) (σ.2.1 + 1) (.inl (1, C, .inr (.inr (.inr (.inr f)))))) a (.inr (16, [.int (mc + Int32.ofInt 1), .ref (σ.2.1 + 1), iv (0 : Nat)]))) y := by
        intro i y hy
        refine wOb.up ?_ (fun _ => rfl)
        refine wOb.new ?_ ((zw_up_ne _ _ (by omega)).trans ((zw_up_ne _ _ (by omega)).trans (hfr _ (by omega)))) (fun q hq e => by have := hk q hq; omega)
        refine wOb.up ?_ (fun _ => rfl)
        exact (hel.1 i y hy).new (hfr _ (Nat.le_refl _)) (fun q hq e => by have := hk q hq; omega)
      refine wW_copy rfl rfl (Or.inl ⟨rfl, rfl⟩) ((zw_up_ne _ _ (by omega)).trans ((zw_up_ne _ _ (by show σ.2.1 ≠ σ.2.1 + 1; omega)).trans ((zw_up_ne _ _ (by omega)).trans (zw_up_same _ _ _)))) ((zw_up_ne _ _ (by omega)).trans (zw_up_same _ _ _)) rfl rfl (by decide) (by decide) hnn ?_ ?_ (by omega) (zs_fit_of hel2) (by decide) ?_
      · rw [I_cl (n := nc) (by omega)]
        show 0 + nc ≤ nc
        omega
      · rw [I_cl (n := nc) (by omega)]
        show 0 + nc ≤ C
        omega
      rw [I_cl (n := nc) (by omega)]
      refine zW_p 4 rfl ?_
      refine wW_put rfl ((zw_up_ne _ _ (by omega)).trans (zw_up_same _ _ _)) rfl hna (Or.inl rfl) rfl rfl rfl ?_
      refine zW_p 1 rfl ?_
      refine zW_reti rfl rfl rfl ⟨rfl, ?_⟩
      have ef : va_cpy fc f (Int32.ofInt 0).toNatClampNeg (Int32.ofInt (0 : Nat)).toNatClampNeg nc = fc := by
        funext i
        show (if 0 ≤ i ∧ i < 0 + nc then fc (0 + (i - 0)) else f i) = fc i
        by_cases hi : i < nc
        · rw [if_pos ⟨by omega, by omega⟩]; congr 1; omega
        · rw [if_neg (by omega), hel.2 i (by omega), hf]
      rw [ef, I_add, show ((0 : Nat) : Int) + (nc : Int) = ((nc : Nat) : Int) from by omega]
      have e1 : ∀ (w : zw_W) (X Y Z U V : va_E), zw_up (zw_up (zw_up (zw_up (zw_up w a X) (σ.2.1 + 1) Y) a Z) (σ.2.1 + 1) U) a V = zw_up (zw_up w (σ.2.1 + 1) U) a V := by
        intro w X Y Z U V
        rw [zw_up_comm _ (show a ≠ σ.2.1 + 1 by omega), zw_up_up, zw_up_up, zw_up_comm _ (show a ≠ σ.2.1 + 1 by omega), zw_up_up]
      show (zw_up (zw_up (zw_up (zw_up (zw_up (zw_up σ.1 σ.2.1 _) a _) (σ.2.1 + 1) _) a _) (σ.2.1 + 1) _) a _, _, _) = _
      rw [e1]
      rfl
  · exact absurd (fun e => by rw [I_eq0 ⟨by omega, by omega⟩] at e; omega) hP
/-! Boolean -/
theorem c_boolOf {T F : Nat} {z : Bool} (hT : zt_val (zg_s g) ("java/lang/Boolean", "TRUE", "Ljava/lang/Boolean;") = some (.ref T)) (hF : zt_val (zg_s g) ("java/lang/Boolean", "FALSE", "Ljava/lang/Boolean;") = some (.ref F)) :
    zEnd g 0 78 [iv (if z then 1 else 0)] σ (.inl (some (.ref (if z then T else F)))) σ := zEnd_of (by
  cases z with
  | true =>
    refine zW_p 2 rfl ?_
    refine aW_stat rfl rfl hT ?_
    refine zW_p 1 rfl ?_
    exact wW_ret rfl rfl rfl rfl ⟨rfl, rfl⟩
  | false =>
    refine zW_p 2 rfl ?_
    refine aW_stat rfl rfl hF ?_
    exact wW_ret rfl rfl rfl rfl ⟨rfl, rfl⟩)
theorem c_boolVal {z : Bool} (hw : zcst (σ.1 a)) (hv : zv_val (zg_o g) ("java/lang/Boolean", "value", "Z") a = some (iv (if z then 1 else 0))) : zEnd g 0 80 [.ref a] σ (.inl (some (iv (if z then 1 else 0)))) σ := zEnd_of (by
  refine zW_p 1 rfl ?_
  refine aW_const hw rfl rfl hv ?_
  cases z with
  | true => exact zW_reti rfl rfl rfl ⟨rfl, rfl⟩
  | false => exact zW_reti rfl rfl rfl ⟨rfl, rfl⟩)
/-! Integer -/
theorem c_intVal {v : Int} {fs : List Value} (hw : σ.1 a = some (.inr (19, .int (Int32.ofInt v) :: fs))) : zEnd g 0 216 [.ref a] σ (.inl (some (iv v))) σ := zEnd_of (by
  refine zW_p 1 rfl ?_
  refine wW_get rfl hw rfl rfl ?_
  exact zW_reti rfl rfl rfl ⟨rfl, rfl⟩)
theorem c_numInit : zEnd g 0 232 [.ref a] σ (.inl none) σ := zEnd_of (by
  refine zW_p 1 rfl ?_
  refine aW_oinit rfl rfl (by decide) ?_
  exact wW_ret rfl rfl rfl rfl ⟨rfl, rfl⟩)
theorem c_intInit {v : Int} {x0 : Value} (hw : σ.1 a = some (.inr (19, [x0]))) (hna : zg_n g ≤ a) : zEnd g 1 231 [.ref a, iv v] σ (.inl none) (zw_up σ.1 a (.inr (19, [iv v])), σ.2) := zEnd_of (by
  refine zW_p 1 rfl ?_
  refine wI rfl rfl rfl rfl rfl rfl rfl rfl rfl c_numInit (by decide) ?_
  refine zW_p 2 rfl ?_
  refine wW_put rfl hw rfl hna (Or.inr ⟨rfl, rfl⟩) rfl rfl rfl ?_
  exact wW_ret rfl rfl rfl rfl ⟨rfl, rfl⟩)
/-- the cache of small Integers -/
def wCache (g : zG) (w : zw_W) (A : Nat) : Prop := zt_val (zg_s g) ("java/lang/Integer$IntegerCache", "high", "I") = some (iv 127) ∧ zt_val (zg_s g) ("java/lang/Integer$IntegerCache", "cache", "[Ljava/lang/Integer;") = some (.ref A) ∧ A < zg_n g ∧
  ∃ (N : Nat) (f : Nat → Option Nat), w A = some (.inl (7, N, .inr (.inr (.inr (.inr f))))) ∧ 256 ≤ N ∧ N < 2147483648 ∧ ∀ j : Nat, j < 256 → ∃ q : Nat, f j = some q ∧ q < zg_n g ∧ w q = some (.inr (19, [iv ((j : Int) - 128)]))
theorem c_intOf {A : Nat} {v : Int} (hC : wCache g σ.1 A) (h0 : -128 ≤ v) (h1 : v ≤ 1000000) (hz : zg_n g ≤ σ.2.1) :
    ∃ (q : Nat) (σ' : zS), zEnd g 2 230 [iv v] σ (.inl (some (.ref q))) σ' ∧ ((q < zg_n g ∧ σ' = σ ∧ σ.1 q = some (.inr (19, [iv v]))) ∨ (q = σ.2.1 ∧ σ' = (zw_up σ.1 σ.2.1 (.inr (19, [iv v])), σ.2.1 + 1, σ.2.2 + 1))) := by
  obtain ⟨k1, k2, k3, N, f, k4, k5, k6, k7⟩ := hC
  by_cases hv : v ≤ 127
  · obtain ⟨q, q1, q2, q3⟩ := k7 (v + 128).toNat (by omega)
    rw [show (((v + 128).toNat : Nat) : Int) - 128 = v from by omega] at q3
    refine ⟨q, σ, zEnd_of ?_, Or.inl ⟨q2, rfl, q3⟩⟩
    refine zW_p 2 rfl ?_
    refine zW_br rfl rfl (fun hP => ?_) (fun _ => ?_)
    · rw [show (Int8.ofInt (-128)).toInt32 = Int32.ofInt (-128) from rfl, I_lt ⟨by omega, by omega⟩ ⟨by decide, by decide⟩] at hP
      omega
    · refine zW_p 1 rfl ?_
      refine aW_stat rfl rfl k1 ?_
      refine zW_br rfl rfl (fun hP => ?_) (fun _ => ?_)
      · rw [I_lt ⟨by decide, by decide⟩ ⟨by omega, by omega⟩] at hP
        omega
      · refine aW_stat rfl rfl k2 ?_
        refine zW_p 3 rfl ?_
        have e : Int32.ofInt v + (Int16.ofInt 128).toInt32 = Int32.ofInt (((v + 128).toNat : Nat) : Int) := by
          rw [show (Int16.ofInt 128).toInt32 = Int32.ofInt 128 from rfl, I_add]
          congr 1
          omega
        rw [e]
        refine wW_aald rfl k4 rfl (I_in (by omega) k6) ?_
        rw [I_cl (by omega), q1]
        exact wW_ret rfl rfl rfl rfl ⟨rfl, rfl⟩
  · refine ⟨σ.2.1, _, zEnd_of (σ1 := (zw_up σ.1 σ.2.1 (.inr (19, [iv v])), σ.2.1 + 1, σ.2.2 + 1)) ?_, Or.inr ⟨rfl, rfl⟩⟩
    refine zW_p 2 rfl ?_
    refine zW_br rfl rfl (fun hP => ?_) (fun _ => ?_)
    · rw [show (Int8.ofInt (-128)).toInt32 = Int32.ofInt (-128) from rfl, I_lt ⟨by omega, by omega⟩ ⟨by decide, by decide⟩] at hP
      omega
    · refine zW_p 1 rfl ?_
      refine aW_stat rfl rfl k1 ?_
      refine zW_br rfl rfl (fun _ => ?_) (fun hP => ?_)
      · refine wW_new rfl rfl rfl rfl ?_
        refine zW_p 2 rfl ?_
        refine wI rfl rfl rfl rfl rfl rfl rfl rfl rfl (c_intInit (v := v) (zw_up_same _ _ _) hz) (by decide) ?_
        exact wW_ret rfl rfl rfl rfl ⟨rfl, by rw [zw_up_up]⟩
      · rw [I_lt ⟨by decide, by decide⟩ ⟨by omega, by omega⟩] at hP
        omega
def icmp (x y : Int) : Int := if x < y then -1 else if x = y then 0 else 1
theorem c_compare {x y : Int} (hx : rg x) (hy : rg y) : zEnd g 0 139 [iv x, iv y] σ (.inl (some (iv (icmp x y)))) σ := zEnd_of (by
  unfold icmp
  refine zW_p 2 rfl ?_
  refine zW_br rfl rfl (fun hP => ?_) (fun hP => ?_)
  · rw [I_le hy hx] at hP
    refine zW_p 2 rfl ?_
    refine zW_br rfl rfl (fun hQ => ?_) (fun hQ => ?_)
    · rw [I_eq hx hy] at hQ
      rw [if_neg (by omega), if_neg hQ]
      refine zW_p 1 rfl ?_
      exact zW_reti rfl rfl rfl ⟨rfl, rfl⟩
    · rw [I_eq hx hy] at hQ
      rw [if_neg (by omega), if_pos (by omega)]
      refine zW_p 2 rfl ?_
      exact zW_reti rfl rfl rfl ⟨rfl, rfl⟩
  · rw [I_le hy hx] at hP
    rw [if_pos (by omega)]
    refine zW_p 2 rfl ?_
    exact zW_reti rfl rfl rfl ⟨rfl, rfl⟩)
/-- an order with its key -/
def wKey (w : zw_W) (o : Nat) (key : Int) : Prop := ∃ (fs : List Value) (du nu : Int), w o = some (.inr (8, fs)) ∧ fs[0]? = some (iv nu) ∧ fs[4]? = some (iv du) ∧ 0 ≤ nu ∧ nu < 1000 ∧ 0 ≤ du ∧ du ≤ 100000 ∧ key = du * 1000 + nu
theorem c_cmpO2 {y : Nat} {kx ky : Int} (hx : wKey σ.1 x kx) (hy : wKey σ.1 y ky) : zEnd g 1 138 [.ref x, .ref y] σ (.inl (some (iv (icmp kx ky)))) σ := by
  obtain ⟨fx, dx, nx, a1, a2, a3, a4, a5, a6, a7, rfl⟩ := hx
  obtain ⟨fy, dy, ny, b1, b2, b3, b4, b5, b6, b7, rfl⟩ := hy
  refine zEnd_of ?_
  refine zW_p 1 rfl ?_
  refine wW_get rfl a1 rfl a3 ?_
  refine zW_p 1 rfl ?_
  refine wW_get rfl b1 rfl b3 ?_
  refine zW_br rfl rfl (fun hP => ?_) (fun hP => ?_)
  · rw [I_eq ⟨by omega, by omega⟩ ⟨by omega, by omega⟩] at hP
    refine zW_p 1 rfl ?_
    refine wW_get rfl a1 rfl a3 ?_
    refine zW_p 1 rfl ?_
    refine wW_get rfl b1 rfl b3 ?_
    refine wS rfl rfl rfl rfl rfl rfl rfl rfl rfl (c_compare (x := dx) (y := dy) ⟨by omega, by omega⟩ ⟨by omega, by omega⟩) (by decide) ?_
    refine zW_reti rfl rfl rfl ⟨?_, rfl⟩
    have e : icmp dx dy = icmp (dx * 1000 + nx) (dy * 1000 + ny) := by
      unfold icmp
      by_cases h1 : dx < dy
      · rw [if_pos h1, if_pos (by omega)]
      · rw [if_neg h1, if_neg (by omega), if_neg (by omega), if_neg (by omega)]
    rw [e]
  · rw [I_eq ⟨by omega, by omega⟩ ⟨by omega, by omega⟩] at hP
    have hd : dx = dy := by omega
    refine zW_p 1 rfl ?_
    refine wW_get rfl a1 rfl a2 ?_
    refine zW_p 1 rfl ?_
    refine wW_get rfl b1 rfl b2 ?_
    refine wS rfl rfl rfl rfl rfl rfl rfl rfl rfl (c_compare (x := nx) (y := ny) ⟨by omega, by omega⟩ ⟨by omega, by omega⟩) (by decide) ?_
    refine zW_p 1 rfl ?_
    refine zW_reti rfl rfl rfl ⟨?_, rfl⟩
    have e : icmp nx ny = icmp (dx * 1000 + nx) (dy * 1000 + ny) := by
      unfold icmp
      by_cases h1 : nx < ny
      · rw [if_pos h1, if_pos (by omega)]
      · by_cases h2 : nx = ny
        · rw [if_neg h1, if_pos h2, if_neg (by omega), if_pos (by omega)]
        · rw [if_neg h1, if_neg h2, if_neg (by omega), if_neg (by omega)]
    rw [e]
theorem c_cmpO {y : Nat} {kx ky : Int} (hx : wKey σ.1 x kx) (hy : wKey σ.1 y ky) : zEnd g 2 137 [.ref x, .ref y] σ (.inl (some (iv (icmp kx ky)))) σ := by
  have h2 := c_cmpO2 (g := g) hx hy
  obtain ⟨fx, dx, nx, a1, a2, a3, a4, a5, a6, a7, rfl⟩ := hx
  obtain ⟨fy, dy, ny, b1, b2, b3, b4, b5, b6, b7, rfl⟩ := hy
  refine zEnd_of ?_
  refine zW_p 2 rfl ?_
  refine wW_cast rfl b1 rfl rfl ?_
  refine wV rfl rfl rfl rfl rfl rfl rfl (w_rc a1 rfl) h2 (by decide) ?_
  exact zW_reti rfl rfl rfl ⟨rfl, rfl⟩
end ZSM
