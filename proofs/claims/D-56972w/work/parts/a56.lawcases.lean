/-! THE LAW's cases (printed by tools/lawcases.py) -/
set_option maxRecDepth 100000
section ZTC3
variable {g : zG} {w0 : hG} {σ σ1 σ2 : zS} {gh gh1 gh2 : Nat → Nat → Nat} {S S1 S2 : hS} {J J1 : zw_W} {scr a m ol od n i d dF dM pc pc4 : Nat} {sf : Nat → Int32} {f : Nat → Int64} {fd : Nat → UInt64} {Q : Option Value ⊕ String → zS → Prop} {k b : Int} {v : Bool} {L : List zIt} {lv : zp_L} {st : List Value}
/-- the script's word at this place -/
abbrev scw (sf : Nat → Int32) (i c : Nat) : Int := (sf (i + c)).toInt
theorem iv_scw {c : Nat} : iv (scw sf i c) = .int (sf (i + c)) := by
  show Value.int (Int32.ofInt (sf (i + c)).toInt) = _
  rw [Int32.ofInt_toInt]
theorem rg_scw {c : Nat} : rg (scw sf i c) := ⟨by have := Int32.le_toInt (sf (i + c)); show _ ≤ (sf (i + c)).toInt; omega, by have := Int32.toInt_lt (sf (i + c)); show (sf (i + c)).toInt < _; omega⟩
abbrev scB (sf : Nat → Int32) (i c : Nat) : Int := bi (decide (scw sf i c ≠ 0))
theorem tW_arg {c : Nat} (hL : zsub L) (hp : tpt L 4 pc lv st = some (pc4, lv, .int (Int32.ofInt (i : Int) + Int32.ofInt (c : Int)) :: .ref scr :: st)) (hx : zat L pc4 = some (.iaload, 1)) (H : hRep g w0 σ gh S J) (hs : w0.1 scr = some (.inl (8, n, .inl sf))) (hlt : scr < zg_n g) (hin : i + c < n) (hn : n ≤ 1000) (hr : tW g d (pc4 + 1) lv (iv (scw sf i c) :: st) σ Q) : tW g d pc lv st σ Q := by
  refine tW_p hL 4 hp ?_
  rw [I_add]
  rw [show ((i : Int) + (c : Int)) = ((i + c : Nat) : Int) by omega]
  refine tW_iald hL hx ((H.2.2.2.1 scr hlt).trans hs) (I_in hin (by omega)) ?_
  rw [I_cl (by omega), ← iv_scw]
  exact hr
theorem tW_scB {c : Nat} {t on : Nat} (hL : zsub L) (hx : zat L pc = some (.ifCond .eq 7, 3)) (h1 : tpt L 1 (pc + 7) lv st = some (pc + 8, lv, iv 0 :: st)) (h2 : tpt L 2 (pc + 3) lv st = some (pc + 8, lv, iv 1 :: st)) (ht : zp_to pc 7 = some (pc + 7)) (hr : tW g d (pc + 8) lv (iv (scB sf i c) :: st) σ Q) : tW g d pc lv (iv (scw sf i c) :: st) σ Q := by
  by_cases h0 : scw sf i c = 0
  · have e : scB sf i c = 0 := by unfold scB; rw [decide_eq_false (fun q => q h0)]; rfl
    rw [e] at hr
    refine tW_t (t := pc + 7) (on := pc + 3) (st' := st) (P := Int32.ofInt (scw sf i c) = 0) hL hx (by show zp_br _ (zp_to pc 7) (pc + 3) lv st = _; rw [ht]) ((I_eq0 rg_scw).mpr h0) ?_
    exact tW_p hL 1 h1 hr
  · have e : scB sf i c = 1 := by unfold scB; rw [decide_eq_true h0]; rfl
    rw [e] at hr
    refine tW_f (t := pc + 7) (on := pc + 3) (st' := st) (P := Int32.ofInt (scw sf i c) = 0) hL hx (by show zp_br _ (zp_to pc 7) (pc + 3) lv st = _; rw [ht]) (fun q => h0 ((I_eq0 rg_scw).mp q)) ?_
    exact tW_p hL 2 h2 hr
theorem zd_cmp_eq {x : UInt64} (h : FP.Core.dIsNaN x = false) : Op.cmpValue (FP.dcmp x x) .l = 0 := by
  have hn : FP.Core.decode FP.Core.b64 x.toNat ≠ .nan := of_decide_eq_false h
  have e : FP.dcmp x x = some .eq := by
    show FP.Core.order (FP.Core.decode FP.Core.b64 x.toNat) (FP.Core.decode FP.Core.b64 x.toNat) = _
    generalize FP.Core.decode FP.Core.b64 x.toNat = D at hn
    cases D with
    | nan => exact absurd rfl hn
    | inf s => cases s <;> decide
    | fin s c q =>
      show some (compare _ _) = _
      have hc : ∀ n : Int, compare n n = .eq := fun n => by simp [compare, compareOfLessAndEq]
      rw [hc]
  rw [e]
  rfl
theorem tW_f2d {xf : UInt32} (hL : zsub L) (hx : zat L pc = some (.f2d, 1)) (h0 : FP.Core.dIsNaN (FP.f2d xf) = false) (hr : tW g d (pc + 1) lv (.double (FP.f2d xf) :: st) σ Q) : tW g d pc lv (.float xf :: st) σ Q := by
  refine tW_step (f := ((pc + 1, lv, .double (FP.f2d xf) :: st), σ)) hL hx ?_ hr
  unfold zstep
  have e : zp_step .f2d 1 pc 9 lv (.float xf :: st) = some (pc + 1, lv, .double (FP.f2d xf) :: st) := by
    show (match (if FP.f2d xf &&& 0x7fffffffffffffff ≤ 0x7ff0000000000000 then some (pc + 1, lv, Value.double (FP.f2d xf) :: st) else none) with | some f => some f | none => zp_jump .f2d 1 pc lv (.float xf :: st)) = _
    rw [if_pos (zf_ok64 h0)]
  rw [e]
abbrev tLV (scr a m ol od i : Nat) : zp_L := [(0, .ref scr), (1, .ref a), (2, .ref m), (3, .ref ol), (4, .ref od), (5, iv (i : Nat))]
theorem tC0 (H : hRep g w0 σ gh S J) (hs : w0.1 scr = some (.inl (8, n, .inl sf))) (hlt : scr < zg_n g) (hi : i + 5 < n) (hn : n ≤ 1000) (hF : zEnd g dF 35 [.ref a, iv (scw sf i 1), iv (scw sf i 2), iv (scw sf i 3), iv (scw sf i 4), .ref ol] σ (.inl (some (iv k))) σ1) (hdF : dF < d) (H1 : hRep g w0 σ1 gh1 S1 J1) (hm1 : hat gh1 S1 11 0 m) (hM : zEnd g dM 196 [.ref m, iv (scw sf i 1), iv (scw sf i 2), iv (scw sf i 3), iv (scw sf i 4)] σ1 (.inl (some (iv b))) σ2) (hdM : dM < d) (h0d : 0 < d)
    (H2 : hRep g w0 σ2 gh2 S2 J1) (hm2 : hat gh2 S2 11 0 m) (hk : rg k) (hb : rg b) (ht : sT S2 11 0 0 = k) (ho : k = 0 → J1 ol = some (wLA f) ∧ f 0 = Int64.ofInt b) (hQ : tW g d 2441 (tLV scr a m ol od i) [] σ2 Q) : tW g d 200 (tLV scr a m ol od i) [] σ Q := by
  refine tW_p zsub1 1 rfl ?_
  refine tW_arg (c := 1) zsub1 rfl rfl H hs hlt (by omega) hn ?_
  refine tW_arg (c := 2) zsub1 rfl rfl H hs hlt (by omega) hn ?_
  refine tW_arg (c := 3) zsub1 rfl rfl H hs hlt (by omega) hn ?_
  refine tW_arg (c := 4) zsub1 rfl rfl H hs hlt (by omega) hn ?_
  refine tW_p zsub1 1 rfl ?_
  refine tW_S zsub1 rfl rfl rfl rfl rfl rfl rfl rfl hF hdF ?_
  refine tW_p zsub1 2 rfl ?_
  refine tW_arg (c := 1) zsub1 rfl rfl H1 hs hlt (by omega) hn ?_
  refine tW_arg (c := 2) zsub1 rfl rfl H1 hs hlt (by omega) hn ?_
  refine tW_arg (c := 3) zsub1 rfl rfl H1 hs hlt (by omega) hn ?_
  refine tW_arg (c := 4) zsub1 rfl rfl H1 hs hlt (by omega) hn ?_
  refine tW_V zsub1 rfl rfl rfl rfl rfl rfl (H1.rc hm1 rfl rfl) hM hdM ?_
  refine tW_p zsub1 2 rfl ?_
  refine tW_V zsub1 rfl rfl rfl rfl rfl rfl (H2.rc hm2 rfl rfl) (M_thrown H2 hm2) h0d ?_
  refine tW_p zsub1 1 rfl ?_
  refine tW_t zsub1 rfl rfl (by rw [ht]) ?_
  refine tW_p zsub1 1 rfl ?_
  by_cases h0 : k = 0
  · obtain ⟨hj, hv⟩ := ho h0
    obtain ⟨j1, j2, j3, j4⟩ := H2.jat hj
    refine tW_f zsub1 rfl rfl (fun q => q ((I_eq0 hk).mpr h0)) ?_
    refine tW_p zsub1 2 rfl ?_
    refine tW_lald zsub1 rfl j1 rfl ?_
    rw [show f (Int32.ofInt 0).toNatClampNeg = f 0 from rfl, hv]
    refine tW_p zsub1 2 rfl ?_
    rw [L_of hb]
    refine tW_p zsub1 1 rfl ?_
    rw [zl_cmp_eq]
    refine tW_p zsub1 2 rfl ?_
    refine tW_lv (tLV scr a m ol od i) rfl ⟨rfl, rfl, rfl, rfl, rfl, rfl, trivial⟩ ?_
    exact hQ
  · refine tW_t zsub1 rfl rfl (fun q => h0 ((I_eq0 hk).mp q)) ?_
    refine tW_p zsub1 1 rfl ?_
    refine tW_lv (tLV scr a m ol od i) rfl ⟨rfl, rfl, rfl, rfl, rfl, rfl, trivial⟩ ?_
    exact hQ
theorem tC1 (H : hRep g w0 σ gh S J) (hs : w0.1 scr = some (.inl (8, n, .inl sf))) (hlt : scr < zg_n g) (hi : i + 5 < n) (hn : n ≤ 1000) (hF : zEnd g dF 53 [.ref a, iv (scB sf i 1), iv (scw sf i 2), .ref ol] σ (.inl (some (iv k))) σ1) (hdF : dF < d) (H1 : hRep g w0 σ1 gh1 S1 J1) (hm1 : hat gh1 S1 11 0 m) (hM : zEnd g dM 200 [.ref m, iv (scB sf i 1), iv (scw sf i 2)] σ1 (.inl (some (iv b))) σ2) (hdM : dM < d) (h0d : 0 < d)
    (H2 : hRep g w0 σ2 gh2 S2 J1) (hm2 : hat gh2 S2 11 0 m) (hk : rg k) (hb : rg b) (ht : sT S2 11 0 0 = k) (ho : k = 0 → J1 ol = some (wLA f) ∧ f 0 = Int64.ofInt b) (hQ : tW g d 2441 (tLV scr a m ol od i) [] σ2 Q) : tW g d 292 (tLV scr a m ol od i) [] σ Q := by
  refine tW_p zsub2 1 rfl ?_
  refine tW_arg (c := 1) zsub2 rfl rfl H hs hlt (by omega) hn ?_
  refine tW_scB (t := 0) (on := 0) zsub2 rfl rfl rfl rfl ?_
  refine tW_arg (c := 2) zsub2 rfl rfl H hs hlt (by omega) hn ?_
  refine tW_p zsub2 1 rfl ?_
  refine tW_S zsub2 rfl rfl rfl rfl rfl rfl rfl rfl hF hdF ?_
  refine tW_p zsub2 2 rfl ?_
  refine tW_arg (c := 1) zsub2 rfl rfl H1 hs hlt (by omega) hn ?_
  refine tW_scB (t := 0) (on := 0) zsub2 rfl rfl rfl rfl ?_
  refine tW_arg (c := 2) zsub2 rfl rfl H1 hs hlt (by omega) hn ?_
  refine tW_V zsub2 rfl rfl rfl rfl rfl rfl (H1.rc hm1 rfl rfl) hM hdM ?_
  refine tW_p zsub2 2 rfl ?_
  refine tW_V zsub2 rfl rfl rfl rfl rfl rfl (H2.rc hm2 rfl rfl) (M_thrown H2 hm2) h0d ?_
  refine tW_p zsub2 1 rfl ?_
  refine tW_t zsub2 rfl rfl (by rw [ht]) ?_
  refine tW_p zsub2 1 rfl ?_
  by_cases h0 : k = 0
  · obtain ⟨hj, hv⟩ := ho h0
    obtain ⟨j1, j2, j3, j4⟩ := H2.jat hj
    refine tW_f zsub2 rfl rfl (fun q => q ((I_eq0 hk).mpr h0)) ?_
    refine tW_p zsub2 2 rfl ?_
    refine tW_lald zsub2 rfl j1 rfl ?_
    rw [show f (Int32.ofInt 0).toNatClampNeg = f 0 from rfl, hv]
    refine tW_p zsub2 2 rfl ?_
    rw [L_of hb]
    refine tW_p zsub2 1 rfl ?_
    rw [zl_cmp_eq]
    refine tW_p zsub2 2 rfl ?_
    refine tW_lv (tLV scr a m ol od i) rfl ⟨rfl, rfl, rfl, rfl, rfl, rfl, trivial⟩ ?_
    exact hQ
  · refine tW_t zsub2 rfl rfl (fun q => h0 ((I_eq0 hk).mp q)) ?_
    refine tW_p zsub2 1 rfl ?_
    refine tW_lv (tLV scr a m ol od i) rfl ⟨rfl, rfl, rfl, rfl, rfl, rfl, trivial⟩ ?_
    exact hQ
theorem tC2 (H : hRep g w0 σ gh S J) (hs : w0.1 scr = some (.inl (8, n, .inl sf))) (hlt : scr < zg_n g) (hi : i + 5 < n) (hn : n ≤ 1000) (hF : zEnd g dF 58 [.ref a, iv (scw sf i 1), iv (scw sf i 2), iv (scw sf i 3), iv (scw sf i 4), .ref ol] σ (.inl (some (iv k))) σ1) (hdF : dF < d) (H1 : hRep g w0 σ1 gh1 S1 J1) (hm1 : hat gh1 S1 11 0 m) (hM : zEnd g dM 202 [.ref m, iv (scw sf i 1), iv (scw sf i 2), iv (scw sf i 3), iv (scw sf i 4)] σ1 (.inl (some (iv b))) σ2) (hdM : dM < d) (h0d : 0 < d)
    (H2 : hRep g w0 σ2 gh2 S2 J1) (hm2 : hat gh2 S2 11 0 m) (hk : rg k) (hb : rg b) (ht : sT S2 11 0 0 = k) (ho : k = 0 → J1 ol = some (wLA f) ∧ f 0 = Int64.ofInt b) (hQ : tW g d 2441 (tLV scr a m ol od i) [] σ2 Q) : tW g d 376 (tLV scr a m ol od i) [] σ Q := by
  refine tW_p zsub3 1 rfl ?_
  refine tW_arg (c := 1) zsub3 rfl rfl H hs hlt (by omega) hn ?_
  refine tW_arg (c := 2) zsub3 rfl rfl H hs hlt (by omega) hn ?_
  refine tW_arg (c := 3) zsub3 rfl rfl H hs hlt (by omega) hn ?_
  refine tW_arg (c := 4) zsub3 rfl rfl H hs hlt (by omega) hn ?_
  refine tW_p zsub3 1 rfl ?_
  refine tW_S zsub3 rfl rfl rfl rfl rfl rfl rfl rfl hF hdF ?_
  refine tW_p zsub3 2 rfl ?_
  refine tW_arg (c := 1) zsub3 rfl rfl H1 hs hlt (by omega) hn ?_
  refine tW_arg (c := 2) zsub3 rfl rfl H1 hs hlt (by omega) hn ?_
  refine tW_arg (c := 3) zsub3 rfl rfl H1 hs hlt (by omega) hn ?_
  refine tW_arg (c := 4) zsub3 rfl rfl H1 hs hlt (by omega) hn ?_
  refine tW_V zsub3 rfl rfl rfl rfl rfl rfl (H1.rc hm1 rfl rfl) hM hdM ?_
  refine tW_p zsub3 2 rfl ?_
  refine tW_V zsub3 rfl rfl rfl rfl rfl rfl (H2.rc hm2 rfl rfl) (M_thrown H2 hm2) h0d ?_
  refine tW_p zsub3 1 rfl ?_
  refine tW_t zsub3 rfl rfl (by rw [ht]) ?_
  refine tW_p zsub3 1 rfl ?_
  by_cases h0 : k = 0
  · obtain ⟨hj, hv⟩ := ho h0
    obtain ⟨j1, j2, j3, j4⟩ := H2.jat hj
    refine tW_f zsub3 rfl rfl (fun q => q ((I_eq0 hk).mpr h0)) ?_
    refine tW_p zsub3 2 rfl ?_
    refine tW_lald zsub3 rfl j1 rfl ?_
    rw [show f (Int32.ofInt 0).toNatClampNeg = f 0 from rfl, hv]
    refine tW_p zsub3 2 rfl ?_
    rw [L_of hb]
    refine tW_p zsub3 1 rfl ?_
    rw [zl_cmp_eq]
    refine tW_p zsub3 2 rfl ?_
    refine tW_lv (tLV scr a m ol od i) rfl ⟨rfl, rfl, rfl, rfl, rfl, rfl, trivial⟩ ?_
    exact hQ
  · refine tW_t zsub3 rfl rfl (fun q => h0 ((I_eq0 hk).mp q)) ?_
    refine tW_p zsub3 1 rfl ?_
    refine tW_lv (tLV scr a m ol od i) rfl ⟨rfl, rfl, rfl, rfl, rfl, rfl, trivial⟩ ?_
    exact hQ
theorem tC3 (H : hRep g w0 σ gh S J) (hs : w0.1 scr = some (.inl (8, n, .inl sf))) (hlt : scr < zg_n g) (hi : i + 5 < n) (hn : n ≤ 1000) (hF : zEnd g dF 69 [.ref a, iv (scw sf i 1), iv (scw sf i 2), iv (scw sf i 3), iv (scw sf i 4), .ref ol] σ (.inl (some (iv k))) σ1) (hdF : dF < d) (H1 : hRep g w0 σ1 gh1 S1 J1) (hm1 : hat gh1 S1 11 0 m) (hM : zEnd g dM 204 [.ref m, iv (scw sf i 1), iv (scw sf i 2), iv (scw sf i 3), iv (scw sf i 4)] σ1 (.inl (some (iv b))) σ2) (hdM : dM < d) (h0d : 0 < d)
    (H2 : hRep g w0 σ2 gh2 S2 J1) (hm2 : hat gh2 S2 11 0 m) (hk : rg k) (hb : rg b) (ht : sT S2 11 0 0 = k) (ho : k = 0 → J1 ol = some (wLA f) ∧ f 0 = Int64.ofInt b) (hQ : tW g d 2441 (tLV scr a m ol od i) [] σ2 Q) : tW g d 468 (tLV scr a m ol od i) [] σ Q := by
  refine tW_p zsub4 1 rfl ?_
  refine tW_arg (c := 1) zsub4 rfl rfl H hs hlt (by omega) hn ?_
  refine tW_arg (c := 2) zsub4 rfl rfl H hs hlt (by omega) hn ?_
  refine tW_arg (c := 3) zsub4 rfl rfl H hs hlt (by omega) hn ?_
  refine tW_arg (c := 4) zsub4 rfl rfl H hs hlt (by omega) hn ?_
  refine tW_p zsub4 1 rfl ?_
  refine tW_S zsub4 rfl rfl rfl rfl rfl rfl rfl rfl hF hdF ?_
  refine tW_p zsub4 2 rfl ?_
  refine tW_arg (c := 1) zsub4 rfl rfl H1 hs hlt (by omega) hn ?_
  refine tW_arg (c := 2) zsub4 rfl rfl H1 hs hlt (by omega) hn ?_
  refine tW_arg (c := 3) zsub4 rfl rfl H1 hs hlt (by omega) hn ?_
  refine tW_arg (c := 4) zsub4 rfl rfl H1 hs hlt (by omega) hn ?_
  refine tW_V zsub4 rfl rfl rfl rfl rfl rfl (H1.rc hm1 rfl rfl) hM hdM ?_
  refine tW_p zsub4 2 rfl ?_
  refine tW_V zsub4 rfl rfl rfl rfl rfl rfl (H2.rc hm2 rfl rfl) (M_thrown H2 hm2) h0d ?_
  refine tW_p zsub4 1 rfl ?_
  refine tW_t zsub4 rfl rfl (by rw [ht]) ?_
  refine tW_p zsub4 1 rfl ?_
  by_cases h0 : k = 0
  · obtain ⟨hj, hv⟩ := ho h0
    obtain ⟨j1, j2, j3, j4⟩ := H2.jat hj
    refine tW_f zsub4 rfl rfl (fun q => q ((I_eq0 hk).mpr h0)) ?_
    refine tW_p zsub4 2 rfl ?_
    refine tW_lald zsub4 rfl j1 rfl ?_
    rw [show f (Int32.ofInt 0).toNatClampNeg = f 0 from rfl, hv]
    refine tW_p zsub4 2 rfl ?_
    rw [L_of hb]
    refine tW_p zsub4 1 rfl ?_
    rw [zl_cmp_eq]
    refine tW_p zsub4 2 rfl ?_
    refine tW_lv (tLV scr a m ol od i) rfl ⟨rfl, rfl, rfl, rfl, rfl, rfl, trivial⟩ ?_
    exact hQ
  · refine tW_t zsub4 rfl rfl (fun q => h0 ((I_eq0 hk).mp q)) ?_
    refine tW_p zsub4 1 rfl ?_
    refine tW_lv (tLV scr a m ol od i) rfl ⟨rfl, rfl, rfl, rfl, rfl, rfl, trivial⟩ ?_
    exact hQ
theorem tC4 (H : hRep g w0 σ gh S J) (hs : w0.1 scr = some (.inl (8, n, .inl sf))) (hlt : scr < zg_n g) (hi : i + 5 < n) (hn : n ≤ 1000) (hF : zEnd g dF 73 [.ref a, iv (scw sf i 1), iv (scw sf i 2), iv (scw sf i 3), iv (scw sf i 4), iv (scw sf i 5), .ref ol] σ (.inl (some (iv k))) σ1) (hdF : dF < d) (H1 : hRep g w0 σ1 gh1 S1 J1) (hm1 : hat gh1 S1 11 0 m) (hM : zEnd g dM 206 [.ref m, iv (scw sf i 1), iv (scw sf i 2), iv (scw sf i 3), iv (scw sf i 4), iv (scw sf i 5)] σ1 (.inl (some (iv b))) σ2) (hdM : dM < d) (h0d : 0 < d)
    (H2 : hRep g w0 σ2 gh2 S2 J1) (hm2 : hat gh2 S2 11 0 m) (hk : rg k) (hb : rg b) (ht : sT S2 11 0 0 = k) (ho : k = 0 → J1 ol = some (wLA f) ∧ f 0 = Int64.ofInt b) (hQ : tW g d 2441 (tLV scr a m ol od i) [] σ2 Q) : tW g d 560 (tLV scr a m ol od i) [] σ Q := by
  refine tW_p zsub5 1 rfl ?_
  refine tW_arg (c := 1) zsub5 rfl rfl H hs hlt (by omega) hn ?_
  refine tW_arg (c := 2) zsub5 rfl rfl H hs hlt (by omega) hn ?_
  refine tW_arg (c := 3) zsub5 rfl rfl H hs hlt (by omega) hn ?_
  refine tW_arg (c := 4) zsub5 rfl rfl H hs hlt (by omega) hn ?_
  refine tW_arg (c := 5) zsub5 rfl rfl H hs hlt (by omega) hn ?_
  refine tW_p zsub5 1 rfl ?_
  refine tW_S zsub5 rfl rfl rfl rfl rfl rfl rfl rfl hF hdF ?_
  refine tW_p zsub5 2 rfl ?_
  refine tW_arg (c := 1) zsub5 rfl rfl H1 hs hlt (by omega) hn ?_
  refine tW_arg (c := 2) zsub5 rfl rfl H1 hs hlt (by omega) hn ?_
  refine tW_arg (c := 3) zsub5 rfl rfl H1 hs hlt (by omega) hn ?_
  refine tW_arg (c := 4) zsub5 rfl rfl H1 hs hlt (by omega) hn ?_
  refine tW_arg (c := 5) zsub5 rfl rfl H1 hs hlt (by omega) hn ?_
  refine tW_V zsub5 rfl rfl rfl rfl rfl rfl (H1.rc hm1 rfl rfl) hM hdM ?_
  refine tW_p zsub5 2 rfl ?_
  refine tW_V zsub5 rfl rfl rfl rfl rfl rfl (H2.rc hm2 rfl rfl) (M_thrown H2 hm2) h0d ?_
  refine tW_p zsub5 1 rfl ?_
  refine tW_t zsub5 rfl rfl (by rw [ht]) ?_
  refine tW_p zsub5 1 rfl ?_
  by_cases h0 : k = 0
  · obtain ⟨hj, hv⟩ := ho h0
    obtain ⟨j1, j2, j3, j4⟩ := H2.jat hj
    refine tW_f zsub5 rfl rfl (fun q => q ((I_eq0 hk).mpr h0)) ?_
    refine tW_p zsub5 2 rfl ?_
    refine tW_lald zsub5 rfl j1 rfl ?_
    rw [show f (Int32.ofInt 0).toNatClampNeg = f 0 from rfl, hv]
    refine tW_p zsub5 2 rfl ?_
    rw [L_of hb]
    refine tW_p zsub5 1 rfl ?_
    rw [zl_cmp_eq]
    refine tW_p zsub5 2 rfl ?_
    refine tW_lv (tLV scr a m ol od i) rfl ⟨rfl, rfl, rfl, rfl, rfl, rfl, trivial⟩ ?_
    exact hQ
  · refine tW_t zsub5 rfl rfl (fun q => h0 ((I_eq0 hk).mp q)) ?_
    refine tW_p zsub5 1 rfl ?_
    refine tW_lv (tLV scr a m ol od i) rfl ⟨rfl, rfl, rfl, rfl, rfl, rfl, trivial⟩ ?_
    exact hQ
theorem tC5 (H : hRep g w0 σ gh S J) (hs : w0.1 scr = some (.inl (8, n, .inl sf))) (hlt : scr < zg_n g) (hi : i + 5 < n) (hn : n ≤ 1000) (hF : zEnd g dF 85 [.ref a, iv (scw sf i 1), .ref ol] σ (.inl (some (iv k))) σ1) (hdF : dF < d) (H1 : hRep g w0 σ1 gh1 S1 J1) (hm1 : hat gh1 S1 11 0 m) (hM : zEnd g dM 210 [.ref m, iv (scw sf i 1)] σ1 (.inl (some (iv b))) σ2) (hdM : dM < d) (h0d : 0 < d)
    (H2 : hRep g w0 σ2 gh2 S2 J1) (hm2 : hat gh2 S2 11 0 m) (hk : rg k) (hb : rg b) (ht : sT S2 11 0 0 = k) (ho : k = 0 → J1 ol = some (wLA f) ∧ f 0 = Int64.ofInt b) (hQ : tW g d 2441 (tLV scr a m ol od i) [] σ2 Q) : tW g d 664 (tLV scr a m ol od i) [] σ Q := by
  refine tW_p zsub6 1 rfl ?_
  refine tW_arg (c := 1) zsub6 rfl rfl H hs hlt (by omega) hn ?_
  refine tW_p zsub6 1 rfl ?_
  refine tW_S zsub6 rfl rfl rfl rfl rfl rfl rfl rfl hF hdF ?_
  refine tW_p zsub6 2 rfl ?_
  refine tW_arg (c := 1) zsub6 rfl rfl H1 hs hlt (by omega) hn ?_
  refine tW_V zsub6 rfl rfl rfl rfl rfl rfl (H1.rc hm1 rfl rfl) hM hdM ?_
  refine tW_p zsub6 2 rfl ?_
  refine tW_V zsub6 rfl rfl rfl rfl rfl rfl (H2.rc hm2 rfl rfl) (M_thrown H2 hm2) h0d ?_
  refine tW_p zsub6 1 rfl ?_
  refine tW_t zsub6 rfl rfl (by rw [ht]) ?_
  refine tW_p zsub6 1 rfl ?_
  by_cases h0 : k = 0
  · obtain ⟨hj, hv⟩ := ho h0
    obtain ⟨j1, j2, j3, j4⟩ := H2.jat hj
    refine tW_f zsub6 rfl rfl (fun q => q ((I_eq0 hk).mpr h0)) ?_
    refine tW_p zsub6 2 rfl ?_
    refine tW_lald zsub6 rfl j1 rfl ?_
    rw [show f (Int32.ofInt 0).toNatClampNeg = f 0 from rfl, hv]
    refine tW_p zsub6 2 rfl ?_
    rw [L_of hb]
    refine tW_p zsub6 1 rfl ?_
    rw [zl_cmp_eq]
    refine tW_p zsub6 2 rfl ?_
    refine tW_lv (tLV scr a m ol od i) rfl ⟨rfl, rfl, rfl, rfl, rfl, rfl, trivial⟩ ?_
    exact hQ
  · refine tW_t zsub6 rfl rfl (fun q => h0 ((I_eq0 hk).mp q)) ?_
    refine tW_p zsub6 1 rfl ?_
    refine tW_lv (tLV scr a m ol od i) rfl ⟨rfl, rfl, rfl, rfl, rfl, rfl, trivial⟩ ?_
    exact hQ
theorem tC6 (H : hRep g w0 σ gh S J) (hs : w0.1 scr = some (.inl (8, n, .inl sf))) (hlt : scr < zg_n g) (hi : i + 5 < n) (hn : n ≤ 1000) (hF : zEnd g dF 87 [.ref a, iv (scw sf i 1), iv (scB sf i 2), .ref ol] σ (.inl (some (iv k))) σ1) (hdF : dF < d) (H1 : hRep g w0 σ1 gh1 S1 J1) (hm1 : hat gh1 S1 11 0 m) (hM : zEnd g dM 211 [.ref m, iv (scw sf i 1), iv (scB sf i 2)] σ1 (.inl (some (iv b))) σ2) (hdM : dM < d) (h0d : 0 < d)
    (H2 : hRep g w0 σ2 gh2 S2 J1) (hm2 : hat gh2 S2 11 0 m) (hk : rg k) (hb : rg b) (ht : sT S2 11 0 0 = k) (ho : k = 0 → J1 ol = some (wLA f) ∧ f 0 = Int64.ofInt b) (hQ : tW g d 2441 (tLV scr a m ol od i) [] σ2 Q) : tW g d 720 (tLV scr a m ol od i) [] σ Q := by
  refine tW_p zsub7 1 rfl ?_
  refine tW_arg (c := 1) zsub7 rfl rfl H hs hlt (by omega) hn ?_
  refine tW_arg (c := 2) zsub7 rfl rfl H hs hlt (by omega) hn ?_
  refine tW_scB (t := 0) (on := 0) zsub7 rfl rfl rfl rfl ?_
  refine tW_p zsub7 1 rfl ?_
  refine tW_S zsub7 rfl rfl rfl rfl rfl rfl rfl rfl hF hdF ?_
  refine tW_p zsub7 2 rfl ?_
  refine tW_arg (c := 1) zsub7 rfl rfl H1 hs hlt (by omega) hn ?_
  refine tW_arg (c := 2) zsub7 rfl rfl H1 hs hlt (by omega) hn ?_
  refine tW_scB (t := 0) (on := 0) zsub7 rfl rfl rfl rfl ?_
  refine tW_V zsub7 rfl rfl rfl rfl rfl rfl (H1.rc hm1 rfl rfl) hM hdM ?_
  refine tW_p zsub7 2 rfl ?_
  refine tW_V zsub7 rfl rfl rfl rfl rfl rfl (H2.rc hm2 rfl rfl) (M_thrown H2 hm2) h0d ?_
  refine tW_p zsub7 1 rfl ?_
  refine tW_t zsub7 rfl rfl (by rw [ht]) ?_
  refine tW_p zsub7 1 rfl ?_
  by_cases h0 : k = 0
  · obtain ⟨hj, hv⟩ := ho h0
    obtain ⟨j1, j2, j3, j4⟩ := H2.jat hj
    refine tW_f zsub7 rfl rfl (fun q => q ((I_eq0 hk).mpr h0)) ?_
    refine tW_p zsub7 2 rfl ?_
    refine tW_lald zsub7 rfl j1 rfl ?_
    rw [show f (Int32.ofInt 0).toNatClampNeg = f 0 from rfl, hv]
    refine tW_p zsub7 2 rfl ?_
    rw [L_of hb]
    refine tW_p zsub7 1 rfl ?_
    rw [zl_cmp_eq]
    refine tW_p zsub7 2 rfl ?_
    refine tW_lv (tLV scr a m ol od i) rfl ⟨rfl, rfl, rfl, rfl, rfl, rfl, trivial⟩ ?_
    exact hQ
  · refine tW_t zsub7 rfl rfl (fun q => h0 ((I_eq0 hk).mp q)) ?_
    refine tW_p zsub7 1 rfl ?_
    refine tW_lv (tLV scr a m ol od i) rfl ⟨rfl, rfl, rfl, rfl, rfl, rfl, trivial⟩ ?_
    exact hQ
theorem tC7 (H : hRep g w0 σ gh S J) (hs : w0.1 scr = some (.inl (8, n, .inl sf))) (hlt : scr < zg_n g) (hi : i + 5 < n) (hn : n ≤ 1000) (hF : zEnd g dF 91 [.ref a, iv (scw sf i 1), .ref ol] σ (.inl (some (iv k))) σ1) (hdF : dF < d) (H1 : hRep g w0 σ1 gh1 S1 J1) (hm1 : hat gh1 S1 11 0 m) (hM : zEnd g dM 217 [.ref m, iv (scw sf i 1)] σ1 (.inl (some (iv (bi v)))) σ2) (hdM : dM < d) (h0d : 0 < d)
    (H2 : hRep g w0 σ2 gh2 S2 J1) (hm2 : hat gh2 S2 11 0 m) (hk : rg k) (ht : sT S2 11 0 0 = k) (ho : k = 0 → J1 ol = some (wLA f) ∧ f 0 = Int64.ofInt (bi v)) (hQ : tW g d 2441 (tLV scr a m ol od i) [] σ2 Q) : tW g d 804 (tLV scr a m ol od i) [] σ Q := by
  refine tW_p zsub8 1 rfl ?_
  refine tW_arg (c := 1) zsub8 rfl rfl H hs hlt (by omega) hn ?_
  refine tW_p zsub8 1 rfl ?_
  refine tW_S zsub8 rfl rfl rfl rfl rfl rfl rfl rfl hF hdF ?_
  refine tW_p zsub8 2 rfl ?_
  refine tW_arg (c := 1) zsub8 rfl rfl H1 hs hlt (by omega) hn ?_
  refine tW_V zsub8 rfl rfl rfl rfl rfl rfl (H1.rc hm1 rfl rfl) hM hdM ?_
  refine tW_p zsub8 2 rfl ?_
  refine tW_V zsub8 rfl rfl rfl rfl rfl rfl (H2.rc hm2 rfl rfl) (M_thrown H2 hm2) h0d ?_
  refine tW_p zsub8 1 rfl ?_
  refine tW_t zsub8 rfl rfl (by rw [ht]) ?_
  refine tW_p zsub8 1 rfl ?_
  by_cases h0 : k = 0
  · obtain ⟨hj, hv⟩ := ho h0
    obtain ⟨j1, j2, j3, j4⟩ := H2.jat hj
    refine tW_f zsub8 rfl rfl (fun q => q ((I_eq0 hk).mpr h0)) ?_
    refine tW_p zsub8 2 rfl ?_
    refine tW_lald zsub8 rfl j1 rfl ?_
    rw [show f (Int32.ofInt 0).toNatClampNeg = f 0 from rfl, hv]
    cases v with
    | true =>
      refine tW_p zsub8 5 rfl ?_
      refine tW_p zsub8 2 rfl ?_
      refine tW_lv (tLV scr a m ol od i) rfl ⟨rfl, rfl, rfl, rfl, rfl, rfl, trivial⟩ ?_
      exact hQ
    | false =>
      refine tW_p zsub8 4 rfl ?_
      refine tW_p zsub8 2 rfl ?_
      refine tW_lv (tLV scr a m ol od i) rfl ⟨rfl, rfl, rfl, rfl, rfl, rfl, trivial⟩ ?_
      exact hQ
  · refine tW_t zsub8 rfl rfl (fun q => h0 ((I_eq0 hk).mp q)) ?_
    refine tW_p zsub8 1 rfl ?_
    refine tW_lv (tLV scr a m ol od i) rfl ⟨rfl, rfl, rfl, rfl, rfl, rfl, trivial⟩ ?_
    exact hQ
theorem tC8 (H : hRep g w0 σ gh S J) (hs : w0.1 scr = some (.inl (8, n, .inl sf))) (hlt : scr < zg_n g) (hi : i + 5 < n) (hn : n ≤ 1000) (hF : zEnd g dF 93 [.ref a, iv (scw sf i 1), iv (scw sf i 2), iv (scw sf i 3), .ref ol] σ (.inl (some (iv k))) σ1) (hdF : dF < d) (H1 : hRep g w0 σ1 gh1 S1 J1) (hm1 : hat gh1 S1 11 0 m) (hM : zEnd g dM 218 [.ref m, iv (scw sf i 1), iv (scw sf i 2), iv (scw sf i 3)] σ1 (.inl (some (iv b))) σ2) (hdM : dM < d) (h0d : 0 < d)
    (H2 : hRep g w0 σ2 gh2 S2 J1) (hm2 : hat gh2 S2 11 0 m) (hk : rg k) (hb : rg b) (ht : sT S2 11 0 0 = k) (ho : k = 0 → J1 ol = some (wLA f) ∧ f 0 = Int64.ofInt b) (hQ : tW g d 2441 (tLV scr a m ol od i) [] σ2 Q) : tW g d 867 (tLV scr a m ol od i) [] σ Q := by
  refine tW_p zsub9 1 rfl ?_
  refine tW_arg (c := 1) zsub9 rfl rfl H hs hlt (by omega) hn ?_
  refine tW_arg (c := 2) zsub9 rfl rfl H hs hlt (by omega) hn ?_
  refine tW_arg (c := 3) zsub9 rfl rfl H hs hlt (by omega) hn ?_
  refine tW_p zsub9 1 rfl ?_
  refine tW_S zsub9 rfl rfl rfl rfl rfl rfl rfl rfl hF hdF ?_
  refine tW_p zsub9 2 rfl ?_
  refine tW_arg (c := 1) zsub9 rfl rfl H1 hs hlt (by omega) hn ?_
  refine tW_arg (c := 2) zsub9 rfl rfl H1 hs hlt (by omega) hn ?_
  refine tW_arg (c := 3) zsub9 rfl rfl H1 hs hlt (by omega) hn ?_
  refine tW_V zsub9 rfl rfl rfl rfl rfl rfl (H1.rc hm1 rfl rfl) hM hdM ?_
  refine tW_p zsub9 2 rfl ?_
  refine tW_V zsub9 rfl rfl rfl rfl rfl rfl (H2.rc hm2 rfl rfl) (M_thrown H2 hm2) h0d ?_
  refine tW_p zsub9 1 rfl ?_
  refine tW_t zsub9 rfl rfl (by rw [ht]) ?_
  refine tW_p zsub9 1 rfl ?_
  by_cases h0 : k = 0
  · obtain ⟨hj, hv⟩ := ho h0
    obtain ⟨j1, j2, j3, j4⟩ := H2.jat hj
    refine tW_f zsub9 rfl rfl (fun q => q ((I_eq0 hk).mpr h0)) ?_
    refine tW_p zsub9 2 rfl ?_
    refine tW_lald zsub9 rfl j1 rfl ?_
    rw [show f (Int32.ofInt 0).toNatClampNeg = f 0 from rfl, hv]
    refine tW_p zsub9 2 rfl ?_
    rw [L_of hb]
    refine tW_p zsub9 1 rfl ?_
    rw [zl_cmp_eq]
    refine tW_p zsub9 2 rfl ?_
    refine tW_lv (tLV scr a m ol od i) rfl ⟨rfl, rfl, rfl, rfl, rfl, rfl, trivial⟩ ?_
    exact hQ
  · refine tW_t zsub9 rfl rfl (fun q => h0 ((I_eq0 hk).mp q)) ?_
    refine tW_p zsub9 1 rfl ?_
    refine tW_lv (tLV scr a m ol od i) rfl ⟨rfl, rfl, rfl, rfl, rfl, rfl, trivial⟩ ?_
    exact hQ
theorem tC9 (H : hRep g w0 σ gh S J) (hs : w0.1 scr = some (.inl (8, n, .inl sf))) (hlt : scr < zg_n g) (hi : i + 5 < n) (hn : n ≤ 1000) (hF : zEnd g dF 95 [.ref a, iv (scw sf i 1), iv (scw sf i 2), .ref ol] σ (.inl (some (iv k))) σ1) (hdF : dF < d) (H1 : hRep g w0 σ1 gh1 S1 J1) (hm1 : hat gh1 S1 11 0 m) (hM : zEnd g dM 219 [.ref m, iv (scw sf i 1), iv (scw sf i 2)] σ1 (.inl (some (iv (bi v)))) σ2) (hdM : dM < d) (h0d : 0 < d)
    (H2 : hRep g w0 σ2 gh2 S2 J1) (hm2 : hat gh2 S2 11 0 m) (hk : rg k) (ht : sT S2 11 0 0 = k) (ho : k = 0 → J1 ol = some (wLA f) ∧ f 0 = Int64.ofInt (bi v)) (hQ : tW g d 2441 (tLV scr a m ol od i) [] σ2 Q) : tW g d 947 (tLV scr a m ol od i) [] σ Q := by
  refine tW_p zsub10 1 rfl ?_
  refine tW_arg (c := 1) zsub10 rfl rfl H hs hlt (by omega) hn ?_
  refine tW_arg (c := 2) zsub10 rfl rfl H hs hlt (by omega) hn ?_
  refine tW_p zsub10 1 rfl ?_
  refine tW_S zsub10 rfl rfl rfl rfl rfl rfl rfl rfl hF hdF ?_
  refine tW_p zsub10 2 rfl ?_
  refine tW_arg (c := 1) zsub10 rfl rfl H1 hs hlt (by omega) hn ?_
  refine tW_arg (c := 2) zsub10 rfl rfl H1 hs hlt (by omega) hn ?_
  refine tW_V zsub10 rfl rfl rfl rfl rfl rfl (H1.rc hm1 rfl rfl) hM hdM ?_
  refine tW_p zsub10 2 rfl ?_
  refine tW_V zsub10 rfl rfl rfl rfl rfl rfl (H2.rc hm2 rfl rfl) (M_thrown H2 hm2) h0d ?_
  refine tW_p zsub10 1 rfl ?_
  refine tW_t zsub10 rfl rfl (by rw [ht]) ?_
  refine tW_p zsub10 1 rfl ?_
  by_cases h0 : k = 0
  · obtain ⟨hj, hv⟩ := ho h0
    obtain ⟨j1, j2, j3, j4⟩ := H2.jat hj
    refine tW_f zsub10 rfl rfl (fun q => q ((I_eq0 hk).mpr h0)) ?_
    refine tW_p zsub10 2 rfl ?_
    refine tW_lald zsub10 rfl j1 rfl ?_
    rw [show f (Int32.ofInt 0).toNatClampNeg = f 0 from rfl, hv]
    cases v with
    | true =>
      refine tW_p zsub10 5 rfl ?_
      refine tW_p zsub10 2 rfl ?_
      refine tW_lv (tLV scr a m ol od i) rfl ⟨rfl, rfl, rfl, rfl, rfl, rfl, trivial⟩ ?_
      exact hQ
    | false =>
      refine tW_p zsub10 4 rfl ?_
      refine tW_p zsub10 2 rfl ?_
      refine tW_lv (tLV scr a m ol od i) rfl ⟨rfl, rfl, rfl, rfl, rfl, rfl, trivial⟩ ?_
      exact hQ
  · refine tW_t zsub10 rfl rfl (fun q => h0 ((I_eq0 hk).mp q)) ?_
    refine tW_p zsub10 1 rfl ?_
    refine tW_lv (tLV scr a m ol od i) rfl ⟨rfl, rfl, rfl, rfl, rfl, rfl, trivial⟩ ?_
    exact hQ
theorem tC10 (H : hRep g w0 σ gh S J) (ha : hat gh S 0 0 a) (hF : zEnd g dF 5 [.ref a] σ (.inl (some (iv b))) σ1) (hdF : dF < d) (H1 : hRep g w0 σ1 gh1 S1 J) (hm1 : hat gh1 S1 11 0 m) (hM : zEnd g dM 220 [.ref m] σ1 (.inl (some (iv b))) σ2) (hdM : dM < d)
    (hQ : tW g d 2441 (tLV scr a m ol od i) [] σ2 Q) : tW g d 1022 (tLV scr a m ol od i) [] σ Q := by
  refine tW_p zsub11 1 rfl ?_
  refine tW_V zsub11 rfl rfl rfl rfl rfl rfl (H.rc ha rfl rfl) hF hdF ?_
  refine tW_p zsub11 1 rfl ?_
  refine tW_V zsub11 rfl rfl rfl rfl rfl rfl (H1.rc hm1 rfl rfl) hM hdM ?_
  refine tW_t zsub11 rfl rfl rfl ?_
  exact hQ
theorem tC11 (H : hRep g w0 σ gh S J) (hs : w0.1 scr = some (.inl (8, n, .inl sf))) (hlt : scr < zg_n g) (hi : i + 5 < n) (hn : n ≤ 1000) (hF : zEnd g dF 98 [.ref a, iv (scw sf i 1), .ref ol] σ (.inl (some (iv k))) σ1) (hdF : dF < d) (H1 : hRep g w0 σ1 gh1 S1 J1) (hm1 : hat gh1 S1 11 0 m) (hM : zEnd g dM 221 [.ref m, iv (scw sf i 1)] σ1 (.inl (some (iv b))) σ2) (hdM : dM < d) (h0d : 0 < d)
    (H2 : hRep g w0 σ2 gh2 S2 J1) (hm2 : hat gh2 S2 11 0 m) (hk : rg k) (hb : rg b) (ht : sT S2 11 0 0 = k) (ho : k = 0 → J1 ol = some (wLA f) ∧ f 0 = Int64.ofInt b) (hQ : tW g d 2441 (tLV scr a m ol od i) [] σ2 Q) : tW g d 1035 (tLV scr a m ol od i) [] σ Q := by
  refine tW_p zsub12 1 rfl ?_
  refine tW_arg (c := 1) zsub12 rfl rfl H hs hlt (by omega) hn ?_
  refine tW_p zsub12 1 rfl ?_
  refine tW_S zsub12 rfl rfl rfl rfl rfl rfl rfl rfl hF hdF ?_
  refine tW_p zsub12 2 rfl ?_
  refine tW_arg (c := 1) zsub12 rfl rfl H1 hs hlt (by omega) hn ?_
  refine tW_V zsub12 rfl rfl rfl rfl rfl rfl (H1.rc hm1 rfl rfl) hM hdM ?_
  refine tW_p zsub12 2 rfl ?_
  refine tW_V zsub12 rfl rfl rfl rfl rfl rfl (H2.rc hm2 rfl rfl) (M_thrown H2 hm2) h0d ?_
  refine tW_p zsub12 1 rfl ?_
  refine tW_t zsub12 rfl rfl (by rw [ht]) ?_
  refine tW_p zsub12 1 rfl ?_
  by_cases h0 : k = 0
  · obtain ⟨hj, hv⟩ := ho h0
    obtain ⟨j1, j2, j3, j4⟩ := H2.jat hj
    refine tW_f zsub12 rfl rfl (fun q => q ((I_eq0 hk).mpr h0)) ?_
    refine tW_p zsub12 2 rfl ?_
    refine tW_lald zsub12 rfl j1 rfl ?_
    rw [show f (Int32.ofInt 0).toNatClampNeg = f 0 from rfl, hv]
    refine tW_p zsub12 2 rfl ?_
    rw [L_of hb]
    refine tW_p zsub12 1 rfl ?_
    rw [zl_cmp_eq]
    refine tW_p zsub12 2 rfl ?_
    refine tW_lv (tLV scr a m ol od i) rfl ⟨rfl, rfl, rfl, rfl, rfl, rfl, trivial⟩ ?_
    exact hQ
  · refine tW_t zsub12 rfl rfl (fun q => h0 ((I_eq0 hk).mp q)) ?_
    refine tW_p zsub12 1 rfl ?_
    refine tW_lv (tLV scr a m ol od i) rfl ⟨rfl, rfl, rfl, rfl, rfl, rfl, trivial⟩ ?_
    exact hQ
theorem tC12 (H : hRep g w0 σ gh S J) (hs : w0.1 scr = some (.inl (8, n, .inl sf))) (hlt : scr < zg_n g) (hi : i + 5 < n) (hn : n ≤ 1000) (hF : zEnd g dF 100 [.ref a, iv (scw sf i 1), .ref ol] σ (.inl (some (iv k))) σ1) (hdF : dF < d) (H1 : hRep g w0 σ1 gh1 S1 J1) (hm1 : hat gh1 S1 11 0 m) (hM : zEnd g dM 222 [.ref m, iv (scw sf i 1)] σ1 (.inl (some (iv b))) σ2) (hdM : dM < d) (h0d : 0 < d)
    (H2 : hRep g w0 σ2 gh2 S2 J1) (hm2 : hat gh2 S2 11 0 m) (hk : rg k) (hb : rg b) (ht : sT S2 11 0 0 = k) (ho : k = 0 → J1 ol = some (wLA f) ∧ f 0 = Int64.ofInt b) (hQ : tW g d 2441 (tLV scr a m ol od i) [] σ2 Q) : tW g d 1091 (tLV scr a m ol od i) [] σ Q := by
  refine tW_p zsub13 1 rfl ?_
  refine tW_arg (c := 1) zsub13 rfl rfl H hs hlt (by omega) hn ?_
  refine tW_p zsub13 1 rfl ?_
  refine tW_S zsub13 rfl rfl rfl rfl rfl rfl rfl rfl hF hdF ?_
  refine tW_p zsub13 2 rfl ?_
  refine tW_arg (c := 1) zsub13 rfl rfl H1 hs hlt (by omega) hn ?_
  refine tW_V zsub13 rfl rfl rfl rfl rfl rfl (H1.rc hm1 rfl rfl) hM hdM ?_
  refine tW_p zsub13 2 rfl ?_
  refine tW_V zsub13 rfl rfl rfl rfl rfl rfl (H2.rc hm2 rfl rfl) (M_thrown H2 hm2) h0d ?_
  refine tW_p zsub13 1 rfl ?_
  refine tW_t zsub13 rfl rfl (by rw [ht]) ?_
  refine tW_p zsub13 1 rfl ?_
  by_cases h0 : k = 0
  · obtain ⟨hj, hv⟩ := ho h0
    obtain ⟨j1, j2, j3, j4⟩ := H2.jat hj
    refine tW_f zsub13 rfl rfl (fun q => q ((I_eq0 hk).mpr h0)) ?_
    refine tW_p zsub13 2 rfl ?_
    refine tW_lald zsub13 rfl j1 rfl ?_
    rw [show f (Int32.ofInt 0).toNatClampNeg = f 0 from rfl, hv]
    refine tW_p zsub13 2 rfl ?_
    rw [L_of hb]
    refine tW_p zsub13 1 rfl ?_
    rw [zl_cmp_eq]
    refine tW_p zsub13 2 rfl ?_
    refine tW_lv (tLV scr a m ol od i) rfl ⟨rfl, rfl, rfl, rfl, rfl, rfl, trivial⟩ ?_
    exact hQ
  · refine tW_t zsub13 rfl rfl (fun q => h0 ((I_eq0 hk).mp q)) ?_
    refine tW_p zsub13 1 rfl ?_
    refine tW_lv (tLV scr a m ol od i) rfl ⟨rfl, rfl, rfl, rfl, rfl, rfl, trivial⟩ ?_
    exact hQ
theorem tC13 (H : hRep g w0 σ gh S J) (hs : w0.1 scr = some (.inl (8, n, .inl sf))) (hlt : scr < zg_n g) (hi : i + 5 < n) (hn : n ≤ 1000) (hF : zEnd g dF 102 [.ref a, iv (scw sf i 1), .ref ol] σ (.inl (some (iv k))) σ1) (hdF : dF < d) (H1 : hRep g w0 σ1 gh1 S1 J1) (hm1 : hat gh1 S1 11 0 m) (hM : zEnd g dM 223 [.ref m, iv (scw sf i 1)] σ1 (.inl (some (iv b))) σ2) (hdM : dM < d) (h0d : 0 < d)
    (H2 : hRep g w0 σ2 gh2 S2 J1) (hm2 : hat gh2 S2 11 0 m) (hk : rg k) (hb : rg b) (ht : sT S2 11 0 0 = k) (ho : k = 0 → J1 ol = some (wLA f) ∧ f 0 = Int64.ofInt b) (hQ : tW g d 2441 (tLV scr a m ol od i) [] σ2 Q) : tW g d 1147 (tLV scr a m ol od i) [] σ Q := by
  refine tW_p zsub14 1 rfl ?_
  refine tW_arg (c := 1) zsub14 rfl rfl H hs hlt (by omega) hn ?_
  refine tW_p zsub14 1 rfl ?_
  refine tW_S zsub14 rfl rfl rfl rfl rfl rfl rfl rfl hF hdF ?_
  refine tW_p zsub14 2 rfl ?_
  refine tW_arg (c := 1) zsub14 rfl rfl H1 hs hlt (by omega) hn ?_
  refine tW_V zsub14 rfl rfl rfl rfl rfl rfl (H1.rc hm1 rfl rfl) hM hdM ?_
  refine tW_p zsub14 2 rfl ?_
  refine tW_V zsub14 rfl rfl rfl rfl rfl rfl (H2.rc hm2 rfl rfl) (M_thrown H2 hm2) h0d ?_
  refine tW_p zsub14 1 rfl ?_
  refine tW_t zsub14 rfl rfl (by rw [ht]) ?_
  refine tW_p zsub14 1 rfl ?_
  by_cases h0 : k = 0
  · obtain ⟨hj, hv⟩ := ho h0
    obtain ⟨j1, j2, j3, j4⟩ := H2.jat hj
    refine tW_f zsub14 rfl rfl (fun q => q ((I_eq0 hk).mpr h0)) ?_
    refine tW_p zsub14 2 rfl ?_
    refine tW_lald zsub14 rfl j1 rfl ?_
    rw [show f (Int32.ofInt 0).toNatClampNeg = f 0 from rfl, hv]
    refine tW_p zsub14 2 rfl ?_
    rw [L_of hb]
    refine tW_p zsub14 1 rfl ?_
    rw [zl_cmp_eq]
    refine tW_p zsub14 2 rfl ?_
    refine tW_lv (tLV scr a m ol od i) rfl ⟨rfl, rfl, rfl, rfl, rfl, rfl, trivial⟩ ?_
    exact hQ
  · refine tW_t zsub14 rfl rfl (fun q => h0 ((I_eq0 hk).mp q)) ?_
    refine tW_p zsub14 1 rfl ?_
    refine tW_lv (tLV scr a m ol od i) rfl ⟨rfl, rfl, rfl, rfl, rfl, rfl, trivial⟩ ?_
    exact hQ
theorem tC14 (H : hRep g w0 σ gh S J) (hs : w0.1 scr = some (.inl (8, n, .inl sf))) (hlt : scr < zg_n g) (hi : i + 5 < n) (hn : n ≤ 1000) (hF : zEnd g dF 104 [.ref a, iv (scw sf i 1), .ref ol] σ (.inl (some (iv k))) σ1) (hdF : dF < d) (H1 : hRep g w0 σ1 gh1 S1 J1) (hm1 : hat gh1 S1 11 0 m) (hM : zEnd g dM 224 [.ref m, iv (scw sf i 1)] σ1 (.inl (some (.long (Int64.ofInt b)))) σ2) (hdM : dM < d) (h0d : 0 < d)
    (H2 : hRep g w0 σ2 gh2 S2 J1) (hm2 : hat gh2 S2 11 0 m) (hk : rg k) (ht : sT S2 11 0 0 = k) (ho : k = 0 → J1 ol = some (wLA f) ∧ f 0 = Int64.ofInt b) (hQ : tW g d 2441 (tLV scr a m ol od i) [] σ2 Q) : tW g d 1203 (tLV scr a m ol od i) [] σ Q := by
  refine tW_p zsub15 1 rfl ?_
  refine tW_arg (c := 1) zsub15 rfl rfl H hs hlt (by omega) hn ?_
  refine tW_p zsub15 1 rfl ?_
  refine tW_S zsub15 rfl rfl rfl rfl rfl rfl rfl rfl hF hdF ?_
  refine tW_p zsub15 2 rfl ?_
  refine tW_arg (c := 1) zsub15 rfl rfl H1 hs hlt (by omega) hn ?_
  refine tW_V zsub15 rfl rfl rfl rfl rfl rfl (H1.rc hm1 rfl rfl) hM hdM ?_
  refine tW_p zsub15 2 rfl ?_
  refine tW_V zsub15 rfl rfl rfl rfl rfl rfl (H2.rc hm2 rfl rfl) (M_thrown H2 hm2) h0d ?_
  refine tW_p zsub15 1 rfl ?_
  refine tW_t zsub15 rfl rfl (by rw [ht]) ?_
  refine tW_p zsub15 1 rfl ?_
  by_cases h0 : k = 0
  · obtain ⟨hj, hv⟩ := ho h0
    obtain ⟨j1, j2, j3, j4⟩ := H2.jat hj
    refine tW_f zsub15 rfl rfl (fun q => q ((I_eq0 hk).mpr h0)) ?_
    refine tW_p zsub15 2 rfl ?_
    refine tW_lald zsub15 rfl j1 rfl ?_
    rw [show f (Int32.ofInt 0).toNatClampNeg = f 0 from rfl, hv]
    refine tW_p zsub15 2 rfl ?_
    rw [zl_cmp_eq]
    refine tW_p zsub15 2 rfl ?_
    refine tW_lv (tLV scr a m ol od i) rfl ⟨rfl, rfl, rfl, rfl, rfl, rfl, trivial⟩ ?_
    exact hQ
  · refine tW_t zsub15 rfl rfl (fun q => h0 ((I_eq0 hk).mp q)) ?_
    refine tW_p zsub15 1 rfl ?_
    refine tW_lv (tLV scr a m ol od i) rfl ⟨rfl, rfl, rfl, rfl, rfl, rfl, trivial⟩ ?_
    exact hQ
theorem tC15 (H : hRep g w0 σ gh S J) (hs : w0.1 scr = some (.inl (8, n, .inl sf))) (hlt : scr < zg_n g) (hi : i + 5 < n) (hn : n ≤ 1000) (hF : zEnd g dF 106 [.ref a, iv (scw sf i 1), iv (scw sf i 2), iv (scw sf i 3), iv (scw sf i 4), .ref ol] σ (.inl (some (iv k))) σ1) (hdF : dF < d) (H1 : hRep g w0 σ1 gh1 S1 J1) (hm1 : hat gh1 S1 11 0 m) (hM : zEnd g dM 225 [.ref m, iv (scw sf i 1), iv (scw sf i 2), iv (scw sf i 3), iv (scw sf i 4)] σ1 (.inl (some (iv b))) σ2) (hdM : dM < d) (h0d : 0 < d)
    (H2 : hRep g w0 σ2 gh2 S2 J1) (hm2 : hat gh2 S2 11 0 m) (hk : rg k) (hb : rg b) (ht : sT S2 11 0 0 = k) (ho : k = 0 → J1 ol = some (wLA f) ∧ f 0 = Int64.ofInt b) (hQ : tW g d 2441 (tLV scr a m ol od i) [] σ2 Q) : tW g d 1258 (tLV scr a m ol od i) [] σ Q := by
  refine tW_p zsub16 1 rfl ?_
  refine tW_arg (c := 1) zsub16 rfl rfl H hs hlt (by omega) hn ?_
  refine tW_arg (c := 2) zsub16 rfl rfl H hs hlt (by omega) hn ?_
  refine tW_arg (c := 3) zsub16 rfl rfl H hs hlt (by omega) hn ?_
  refine tW_arg (c := 4) zsub16 rfl rfl H hs hlt (by omega) hn ?_
  refine tW_p zsub16 1 rfl ?_
  refine tW_S zsub16 rfl rfl rfl rfl rfl rfl rfl rfl hF hdF ?_
  refine tW_p zsub16 2 rfl ?_
  refine tW_arg (c := 1) zsub16 rfl rfl H1 hs hlt (by omega) hn ?_
  refine tW_arg (c := 2) zsub16 rfl rfl H1 hs hlt (by omega) hn ?_
  refine tW_arg (c := 3) zsub16 rfl rfl H1 hs hlt (by omega) hn ?_
  refine tW_arg (c := 4) zsub16 rfl rfl H1 hs hlt (by omega) hn ?_
  refine tW_V zsub16 rfl rfl rfl rfl rfl rfl (H1.rc hm1 rfl rfl) hM hdM ?_
  refine tW_p zsub16 2 rfl ?_
  refine tW_V zsub16 rfl rfl rfl rfl rfl rfl (H2.rc hm2 rfl rfl) (M_thrown H2 hm2) h0d ?_
  refine tW_p zsub16 1 rfl ?_
  refine tW_t zsub16 rfl rfl (by rw [ht]) ?_
  refine tW_p zsub16 1 rfl ?_
  by_cases h0 : k = 0
  · obtain ⟨hj, hv⟩ := ho h0
    obtain ⟨j1, j2, j3, j4⟩ := H2.jat hj
    refine tW_f zsub16 rfl rfl (fun q => q ((I_eq0 hk).mpr h0)) ?_
    refine tW_p zsub16 2 rfl ?_
    refine tW_lald zsub16 rfl j1 rfl ?_
    rw [show f (Int32.ofInt 0).toNatClampNeg = f 0 from rfl, hv]
    refine tW_p zsub16 2 rfl ?_
    rw [L_of hb]
    refine tW_p zsub16 1 rfl ?_
    rw [zl_cmp_eq]
    refine tW_p zsub16 2 rfl ?_
    refine tW_lv (tLV scr a m ol od i) rfl ⟨rfl, rfl, rfl, rfl, rfl, rfl, trivial⟩ ?_
    exact hQ
  · refine tW_t zsub16 rfl rfl (fun q => h0 ((I_eq0 hk).mp q)) ?_
    refine tW_p zsub16 1 rfl ?_
    refine tW_lv (tLV scr a m ol od i) rfl ⟨rfl, rfl, rfl, rfl, rfl, rfl, trivial⟩ ?_
    exact hQ
theorem tC16 (H : hRep g w0 σ gh S J) (hs : w0.1 scr = some (.inl (8, n, .inl sf))) (hlt : scr < zg_n g) (hi : i + 5 < n) (hn : n ≤ 1000) (hF : zEnd g dF 109 [.ref a, iv (scw sf i 1), .ref ol] σ (.inl (some (iv k))) σ1) (hdF : dF < d) (H1 : hRep g w0 σ1 gh1 S1 J1) (hm1 : hat gh1 S1 11 0 m) (hM : zEnd g dM 227 [.ref m, iv (scw sf i 1)] σ1 (.inl (some (iv (bi v)))) σ2) (hdM : dM < d) (h0d : 0 < d)
    (H2 : hRep g w0 σ2 gh2 S2 J1) (hm2 : hat gh2 S2 11 0 m) (hk : rg k) (ht : sT S2 11 0 0 = k) (ho : k = 0 → J1 ol = some (wLA f) ∧ f 0 = Int64.ofInt (bi v)) (hQ : tW g d 2441 (tLV scr a m ol od i) [] σ2 Q) : tW g d 1350 (tLV scr a m ol od i) [] σ Q := by
  refine tW_p zsub17 1 rfl ?_
  refine tW_arg (c := 1) zsub17 rfl rfl H hs hlt (by omega) hn ?_
  refine tW_p zsub17 1 rfl ?_
  refine tW_S zsub17 rfl rfl rfl rfl rfl rfl rfl rfl hF hdF ?_
  refine tW_p zsub17 2 rfl ?_
  refine tW_arg (c := 1) zsub17 rfl rfl H1 hs hlt (by omega) hn ?_
  refine tW_V zsub17 rfl rfl rfl rfl rfl rfl (H1.rc hm1 rfl rfl) hM hdM ?_
  refine tW_p zsub17 2 rfl ?_
  refine tW_V zsub17 rfl rfl rfl rfl rfl rfl (H2.rc hm2 rfl rfl) (M_thrown H2 hm2) h0d ?_
  refine tW_p zsub17 1 rfl ?_
  refine tW_t zsub17 rfl rfl (by rw [ht]) ?_
  refine tW_p zsub17 1 rfl ?_
  by_cases h0 : k = 0
  · obtain ⟨hj, hv⟩ := ho h0
    obtain ⟨j1, j2, j3, j4⟩ := H2.jat hj
    refine tW_f zsub17 rfl rfl (fun q => q ((I_eq0 hk).mpr h0)) ?_
    refine tW_p zsub17 2 rfl ?_
    refine tW_lald zsub17 rfl j1 rfl ?_
    rw [show f (Int32.ofInt 0).toNatClampNeg = f 0 from rfl, hv]
    cases v with
    | true =>
      refine tW_p zsub17 5 rfl ?_
      refine tW_p zsub17 2 rfl ?_
      refine tW_lv (tLV scr a m ol od i) rfl ⟨rfl, rfl, rfl, rfl, rfl, rfl, trivial⟩ ?_
      exact hQ
    | false =>
      refine tW_p zsub17 4 rfl ?_
      refine tW_p zsub17 2 rfl ?_
      refine tW_lv (tLV scr a m ol od i) rfl ⟨rfl, rfl, rfl, rfl, rfl, rfl, trivial⟩ ?_
      exact hQ
  · refine tW_t zsub17 rfl rfl (fun q => h0 ((I_eq0 hk).mp q)) ?_
    refine tW_p zsub17 1 rfl ?_
    refine tW_lv (tLV scr a m ol od i) rfl ⟨rfl, rfl, rfl, rfl, rfl, rfl, trivial⟩ ?_
    exact hQ
theorem tC17 (H : hRep g w0 σ gh S J) (hs : w0.1 scr = some (.inl (8, n, .inl sf))) (hlt : scr < zg_n g) (hi : i + 5 < n) (hn : n ≤ 1000) (hF : zEnd g dF 119 [.ref a, iv (scw sf i 1), .ref ol] σ (.inl (some (iv k))) σ1) (hdF : dF < d) (H1 : hRep g w0 σ1 gh1 S1 J1) (hm1 : hat gh1 S1 11 0 m) (hM : zEnd g dM 233 [.ref m, iv (scw sf i 1)] σ1 (.inl (some (iv b))) σ2) (hdM : dM < d) (h0d : 0 < d)
    (H2 : hRep g w0 σ2 gh2 S2 J1) (hm2 : hat gh2 S2 11 0 m) (hk : rg k) (hb : rg b) (ht : sT S2 11 0 0 = k) (ho : k = 0 → J1 ol = some (wLA f) ∧ f 0 = Int64.ofInt b) (hQ : tW g d 2441 (tLV scr a m ol od i) [] σ2 Q) : tW g d 1413 (tLV scr a m ol od i) [] σ Q := by
  refine tW_p zsub18 1 rfl ?_
  refine tW_arg (c := 1) zsub18 rfl rfl H hs hlt (by omega) hn ?_
  refine tW_p zsub18 1 rfl ?_
  refine tW_S zsub18 rfl rfl rfl rfl rfl rfl rfl rfl hF hdF ?_
  refine tW_p zsub18 2 rfl ?_
  refine tW_arg (c := 1) zsub18 rfl rfl H1 hs hlt (by omega) hn ?_
  refine tW_V zsub18 rfl rfl rfl rfl rfl rfl (H1.rc hm1 rfl rfl) hM hdM ?_
  refine tW_p zsub18 2 rfl ?_
  refine tW_V zsub18 rfl rfl rfl rfl rfl rfl (H2.rc hm2 rfl rfl) (M_thrown H2 hm2) h0d ?_
  refine tW_p zsub18 1 rfl ?_
  refine tW_t zsub18 rfl rfl (by rw [ht]) ?_
  refine tW_p zsub18 1 rfl ?_
  by_cases h0 : k = 0
  · obtain ⟨hj, hv⟩ := ho h0
    obtain ⟨j1, j2, j3, j4⟩ := H2.jat hj
    refine tW_f zsub18 rfl rfl (fun q => q ((I_eq0 hk).mpr h0)) ?_
    refine tW_p zsub18 2 rfl ?_
    refine tW_lald zsub18 rfl j1 rfl ?_
    rw [show f (Int32.ofInt 0).toNatClampNeg = f 0 from rfl, hv]
    refine tW_p zsub18 2 rfl ?_
    rw [L_of hb]
    refine tW_p zsub18 1 rfl ?_
    rw [zl_cmp_eq]
    refine tW_p zsub18 2 rfl ?_
    refine tW_lv (tLV scr a m ol od i) rfl ⟨rfl, rfl, rfl, rfl, rfl, rfl, trivial⟩ ?_
    exact hQ
  · refine tW_t zsub18 rfl rfl (fun q => h0 ((I_eq0 hk).mp q)) ?_
    refine tW_p zsub18 1 rfl ?_
    refine tW_lv (tLV scr a m ol od i) rfl ⟨rfl, rfl, rfl, rfl, rfl, rfl, trivial⟩ ?_
    exact hQ
theorem tC18 (H : hRep g w0 σ gh S J) (hs : w0.1 scr = some (.inl (8, n, .inl sf))) (hlt : scr < zg_n g) (hi : i + 5 < n) (hn : n ≤ 1000) (hF : zEnd g dF 121 [.ref a, iv (scw sf i 1), .ref ol] σ (.inl (some (iv k))) σ1) (hdF : dF < d) (H1 : hRep g w0 σ1 gh1 S1 J1) (hm1 : hat gh1 S1 11 0 m) (hM : zEnd g dM 234 [.ref m, iv (scw sf i 1)] σ1 (.inl (some (iv (bi v)))) σ2) (hdM : dM < d) (h0d : 0 < d)
    (H2 : hRep g w0 σ2 gh2 S2 J1) (hm2 : hat gh2 S2 11 0 m) (hk : rg k) (ht : sT S2 11 0 0 = k) (ho : k = 0 → J1 ol = some (wLA f) ∧ f 0 = Int64.ofInt (bi v)) (hQ : tW g d 2441 (tLV scr a m ol od i) [] σ2 Q) : tW g d 1469 (tLV scr a m ol od i) [] σ Q := by
  refine tW_p zsub19 1 rfl ?_
  refine tW_arg (c := 1) zsub19 rfl rfl H hs hlt (by omega) hn ?_
  refine tW_p zsub19 1 rfl ?_
  refine tW_S zsub19 rfl rfl rfl rfl rfl rfl rfl rfl hF hdF ?_
  refine tW_p zsub19 2 rfl ?_
  refine tW_arg (c := 1) zsub19 rfl rfl H1 hs hlt (by omega) hn ?_
  refine tW_V zsub19 rfl rfl rfl rfl rfl rfl (H1.rc hm1 rfl rfl) hM hdM ?_
  refine tW_p zsub19 2 rfl ?_
  refine tW_V zsub19 rfl rfl rfl rfl rfl rfl (H2.rc hm2 rfl rfl) (M_thrown H2 hm2) h0d ?_
  refine tW_p zsub19 1 rfl ?_
  refine tW_t zsub19 rfl rfl (by rw [ht]) ?_
  refine tW_p zsub19 1 rfl ?_
  by_cases h0 : k = 0
  · obtain ⟨hj, hv⟩ := ho h0
    obtain ⟨j1, j2, j3, j4⟩ := H2.jat hj
    refine tW_f zsub19 rfl rfl (fun q => q ((I_eq0 hk).mpr h0)) ?_
    refine tW_p zsub19 2 rfl ?_
    refine tW_lald zsub19 rfl j1 rfl ?_
    rw [show f (Int32.ofInt 0).toNatClampNeg = f 0 from rfl, hv]
    cases v with
    | true =>
      refine tW_p zsub19 5 rfl ?_
      refine tW_p zsub19 2 rfl ?_
      refine tW_lv (tLV scr a m ol od i) rfl ⟨rfl, rfl, rfl, rfl, rfl, rfl, trivial⟩ ?_
      exact hQ
    | false =>
      refine tW_p zsub19 4 rfl ?_
      refine tW_p zsub19 2 rfl ?_
      refine tW_lv (tLV scr a m ol od i) rfl ⟨rfl, rfl, rfl, rfl, rfl, rfl, trivial⟩ ?_
      exact hQ
  · refine tW_t zsub19 rfl rfl (fun q => h0 ((I_eq0 hk).mp q)) ?_
    refine tW_p zsub19 1 rfl ?_
    refine tW_lv (tLV scr a m ol od i) rfl ⟨rfl, rfl, rfl, rfl, rfl, rfl, trivial⟩ ?_
    exact hQ
theorem tC19 (H : hRep g w0 σ gh S J) (hs : w0.1 scr = some (.inl (8, n, .inl sf))) (hlt : scr < zg_n g) (hi : i + 5 < n) (hn : n ≤ 1000) (hF : zEnd g dF 155 [.ref a, iv (scw sf i 1), iv (scw sf i 2), .ref ol] σ (.inl (some (iv k))) σ1) (hdF : dF < d) (H1 : hRep g w0 σ1 gh1 S1 J1) (hm1 : hat gh1 S1 11 0 m) (hM : zEnd g dM 241 [.ref m, iv (scw sf i 1), iv (scw sf i 2)] σ1 (.inl (some (iv b))) σ2) (hdM : dM < d) (h0d : 0 < d)
    (H2 : hRep g w0 σ2 gh2 S2 J1) (hm2 : hat gh2 S2 11 0 m) (hk : rg k) (hb : rg b) (ht : sT S2 11 0 0 = k) (ho : k = 0 → J1 ol = some (wLA f) ∧ f 0 = Int64.ofInt b) (hQ : tW g d 2441 (tLV scr a m ol od i) [] σ2 Q) : tW g d 1532 (tLV scr a m ol od i) [] σ Q := by
  refine tW_p zsub20 1 rfl ?_
  refine tW_arg (c := 1) zsub20 rfl rfl H hs hlt (by omega) hn ?_
  refine tW_arg (c := 2) zsub20 rfl rfl H hs hlt (by omega) hn ?_
  refine tW_p zsub20 1 rfl ?_
  refine tW_S zsub20 rfl rfl rfl rfl rfl rfl rfl rfl hF hdF ?_
  refine tW_p zsub20 2 rfl ?_
  refine tW_arg (c := 1) zsub20 rfl rfl H1 hs hlt (by omega) hn ?_
  refine tW_arg (c := 2) zsub20 rfl rfl H1 hs hlt (by omega) hn ?_
  refine tW_V zsub20 rfl rfl rfl rfl rfl rfl (H1.rc hm1 rfl rfl) hM hdM ?_
  refine tW_p zsub20 2 rfl ?_
  refine tW_V zsub20 rfl rfl rfl rfl rfl rfl (H2.rc hm2 rfl rfl) (M_thrown H2 hm2) h0d ?_
  refine tW_p zsub20 1 rfl ?_
  refine tW_t zsub20 rfl rfl (by rw [ht]) ?_
  refine tW_p zsub20 1 rfl ?_
  by_cases h0 : k = 0
  · obtain ⟨hj, hv⟩ := ho h0
    obtain ⟨j1, j2, j3, j4⟩ := H2.jat hj
    refine tW_f zsub20 rfl rfl (fun q => q ((I_eq0 hk).mpr h0)) ?_
    refine tW_p zsub20 2 rfl ?_
    refine tW_lald zsub20 rfl j1 rfl ?_
    rw [show f (Int32.ofInt 0).toNatClampNeg = f 0 from rfl, hv]
    refine tW_p zsub20 2 rfl ?_
    rw [L_of hb]
    refine tW_p zsub20 1 rfl ?_
    rw [zl_cmp_eq]
    refine tW_p zsub20 2 rfl ?_
    refine tW_lv (tLV scr a m ol od i) rfl ⟨rfl, rfl, rfl, rfl, rfl, rfl, trivial⟩ ?_
    exact hQ
  · refine tW_t zsub20 rfl rfl (fun q => h0 ((I_eq0 hk).mp q)) ?_
    refine tW_p zsub20 1 rfl ?_
    refine tW_lv (tLV scr a m ol od i) rfl ⟨rfl, rfl, rfl, rfl, rfl, rfl, trivial⟩ ?_
    exact hQ
theorem tC20 (H : hRep g w0 σ gh S J) (hs : w0.1 scr = some (.inl (8, n, .inl sf))) (hlt : scr < zg_n g) (hi : i + 5 < n) (hn : n ≤ 1000) (hF : zEnd g dF 157 [.ref a, iv (scw sf i 1), .ref ol] σ (.inl (some (iv k))) σ1) (hdF : dF < d) (H1 : hRep g w0 σ1 gh1 S1 J1) (hm1 : hat gh1 S1 11 0 m) (hM : zEnd g dM 242 [.ref m, iv (scw sf i 1)] σ1 (.inl (some (iv b))) σ2) (hdM : dM < d) (h0d : 0 < d)
    (H2 : hRep g w0 σ2 gh2 S2 J1) (hm2 : hat gh2 S2 11 0 m) (hk : rg k) (hb : rg b) (ht : sT S2 11 0 0 = k) (ho : k = 0 → J1 ol = some (wLA f) ∧ f 0 = Int64.ofInt b) (hQ : tW g d 2441 (tLV scr a m ol od i) [] σ2 Q) : tW g d 1600 (tLV scr a m ol od i) [] σ Q := by
  refine tW_p zsub21 1 rfl ?_
  refine tW_arg (c := 1) zsub21 rfl rfl H hs hlt (by omega) hn ?_
  refine tW_p zsub21 1 rfl ?_
  refine tW_S zsub21 rfl rfl rfl rfl rfl rfl rfl rfl hF hdF ?_
  refine tW_p zsub21 2 rfl ?_
  refine tW_arg (c := 1) zsub21 rfl rfl H1 hs hlt (by omega) hn ?_
  refine tW_V zsub21 rfl rfl rfl rfl rfl rfl (H1.rc hm1 rfl rfl) hM hdM ?_
  refine tW_p zsub21 2 rfl ?_
  refine tW_V zsub21 rfl rfl rfl rfl rfl rfl (H2.rc hm2 rfl rfl) (M_thrown H2 hm2) h0d ?_
  refine tW_p zsub21 1 rfl ?_
  refine tW_t zsub21 rfl rfl (by rw [ht]) ?_
  refine tW_p zsub21 1 rfl ?_
  by_cases h0 : k = 0
  · obtain ⟨hj, hv⟩ := ho h0
    obtain ⟨j1, j2, j3, j4⟩ := H2.jat hj
    refine tW_f zsub21 rfl rfl (fun q => q ((I_eq0 hk).mpr h0)) ?_
    refine tW_p zsub21 2 rfl ?_
    refine tW_lald zsub21 rfl j1 rfl ?_
    rw [show f (Int32.ofInt 0).toNatClampNeg = f 0 from rfl, hv]
    refine tW_p zsub21 2 rfl ?_
    rw [L_of hb]
    refine tW_p zsub21 1 rfl ?_
    rw [zl_cmp_eq]
    refine tW_p zsub21 2 rfl ?_
    refine tW_lv (tLV scr a m ol od i) rfl ⟨rfl, rfl, rfl, rfl, rfl, rfl, trivial⟩ ?_
    exact hQ
  · refine tW_t zsub21 rfl rfl (fun q => h0 ((I_eq0 hk).mp q)) ?_
    refine tW_p zsub21 1 rfl ?_
    refine tW_lv (tLV scr a m ol od i) rfl ⟨rfl, rfl, rfl, rfl, rfl, rfl, trivial⟩ ?_
    exact hQ
theorem tC21 (H : hRep g w0 σ gh S J) (hs : w0.1 scr = some (.inl (8, n, .inl sf))) (hlt : scr < zg_n g) (hi : i + 5 < n) (hn : n ≤ 1000) (hF : zEnd g dF 161 [.ref a, iv (scw sf i 1), .ref ol] σ (.inl (some (iv k))) σ1) (hdF : dF < d) (H1 : hRep g w0 σ1 gh1 S1 J1) (hm1 : hat gh1 S1 11 0 m) (hM : zEnd g dM 244 [.ref m, iv (scw sf i 1)] σ1 (.inl (some (iv (bi v)))) σ2) (hdM : dM < d) (h0d : 0 < d)
    (H2 : hRep g w0 σ2 gh2 S2 J1) (hm2 : hat gh2 S2 11 0 m) (hk : rg k) (ht : sT S2 11 0 0 = k) (ho : k = 0 → J1 ol = some (wLA f) ∧ f 0 = Int64.ofInt (bi v)) (hQ : tW g d 2441 (tLV scr a m ol od i) [] σ2 Q) : tW g d 1656 (tLV scr a m ol od i) [] σ Q := by
  refine tW_p zsub22 1 rfl ?_
  refine tW_arg (c := 1) zsub22 rfl rfl H hs hlt (by omega) hn ?_
  refine tW_p zsub22 1 rfl ?_
  refine tW_S zsub22 rfl rfl rfl rfl rfl rfl rfl rfl hF hdF ?_
  refine tW_p zsub22 2 rfl ?_
  refine tW_arg (c := 1) zsub22 rfl rfl H1 hs hlt (by omega) hn ?_
  refine tW_V zsub22 rfl rfl rfl rfl rfl rfl (H1.rc hm1 rfl rfl) hM hdM ?_
  refine tW_p zsub22 2 rfl ?_
  refine tW_V zsub22 rfl rfl rfl rfl rfl rfl (H2.rc hm2 rfl rfl) (M_thrown H2 hm2) h0d ?_
  refine tW_p zsub22 1 rfl ?_
  refine tW_t zsub22 rfl rfl (by rw [ht]) ?_
  refine tW_p zsub22 1 rfl ?_
  by_cases h0 : k = 0
  · obtain ⟨hj, hv⟩ := ho h0
    obtain ⟨j1, j2, j3, j4⟩ := H2.jat hj
    refine tW_f zsub22 rfl rfl (fun q => q ((I_eq0 hk).mpr h0)) ?_
    refine tW_p zsub22 2 rfl ?_
    refine tW_lald zsub22 rfl j1 rfl ?_
    rw [show f (Int32.ofInt 0).toNatClampNeg = f 0 from rfl, hv]
    cases v with
    | true =>
      refine tW_p zsub22 5 rfl ?_
      refine tW_p zsub22 2 rfl ?_
      refine tW_lv (tLV scr a m ol od i) rfl ⟨rfl, rfl, rfl, rfl, rfl, rfl, trivial⟩ ?_
      exact hQ
    | false =>
      refine tW_p zsub22 4 rfl ?_
      refine tW_p zsub22 2 rfl ?_
      refine tW_lv (tLV scr a m ol od i) rfl ⟨rfl, rfl, rfl, rfl, rfl, rfl, trivial⟩ ?_
      exact hQ
  · refine tW_t zsub22 rfl rfl (fun q => h0 ((I_eq0 hk).mp q)) ?_
    refine tW_p zsub22 1 rfl ?_
    refine tW_lv (tLV scr a m ol od i) rfl ⟨rfl, rfl, rfl, rfl, rfl, rfl, trivial⟩ ?_
    exact hQ
theorem tC22 (H : hRep g w0 σ gh S J) (hs : w0.1 scr = some (.inl (8, n, .inl sf))) (hlt : scr < zg_n g) (hi : i + 5 < n) (hn : n ≤ 1000) (hF : zEnd g dF 167 [.ref a, iv (scw sf i 1), .ref ol] σ (.inl (some (iv k))) σ1) (hdF : dF < d) (H1 : hRep g w0 σ1 gh1 S1 J1) (hm1 : hat gh1 S1 11 0 m) (hM : zEnd g dM 246 [.ref m, iv (scw sf i 1)] σ1 (.inl (some (iv b))) σ2) (hdM : dM < d) (h0d : 0 < d)
    (H2 : hRep g w0 σ2 gh2 S2 J1) (hm2 : hat gh2 S2 11 0 m) (hk : rg k) (hb : rg b) (ht : sT S2 11 0 0 = k) (ho : k = 0 → J1 ol = some (wLA f) ∧ f 0 = Int64.ofInt b) (hQ : tW g d 2441 (tLV scr a m ol od i) [] σ2 Q) : tW g d 1719 (tLV scr a m ol od i) [] σ Q := by
  refine tW_p zsub23 1 rfl ?_
  refine tW_arg (c := 1) zsub23 rfl rfl H hs hlt (by omega) hn ?_
  refine tW_p zsub23 1 rfl ?_
  refine tW_S zsub23 rfl rfl rfl rfl rfl rfl rfl rfl hF hdF ?_
  refine tW_p zsub23 2 rfl ?_
  refine tW_arg (c := 1) zsub23 rfl rfl H1 hs hlt (by omega) hn ?_
  refine tW_V zsub23 rfl rfl rfl rfl rfl rfl (H1.rc hm1 rfl rfl) hM hdM ?_
  refine tW_p zsub23 2 rfl ?_
  refine tW_V zsub23 rfl rfl rfl rfl rfl rfl (H2.rc hm2 rfl rfl) (M_thrown H2 hm2) h0d ?_
  refine tW_p zsub23 1 rfl ?_
  refine tW_t zsub23 rfl rfl (by rw [ht]) ?_
  refine tW_p zsub23 1 rfl ?_
  by_cases h0 : k = 0
  · obtain ⟨hj, hv⟩ := ho h0
    obtain ⟨j1, j2, j3, j4⟩ := H2.jat hj
    refine tW_f zsub23 rfl rfl (fun q => q ((I_eq0 hk).mpr h0)) ?_
    refine tW_p zsub23 2 rfl ?_
    refine tW_lald zsub23 rfl j1 rfl ?_
    rw [show f (Int32.ofInt 0).toNatClampNeg = f 0 from rfl, hv]
    refine tW_p zsub23 2 rfl ?_
    rw [L_of hb]
    refine tW_p zsub23 1 rfl ?_
    rw [zl_cmp_eq]
    refine tW_p zsub23 2 rfl ?_
    refine tW_lv (tLV scr a m ol od i) rfl ⟨rfl, rfl, rfl, rfl, rfl, rfl, trivial⟩ ?_
    exact hQ
  · refine tW_t zsub23 rfl rfl (fun q => h0 ((I_eq0 hk).mp q)) ?_
    refine tW_p zsub23 1 rfl ?_
    refine tW_lv (tLV scr a m ol od i) rfl ⟨rfl, rfl, rfl, rfl, rfl, rfl, trivial⟩ ?_
    exact hQ
theorem tC23 (H : hRep g w0 σ gh S J) (hs : w0.1 scr = some (.inl (8, n, .inl sf))) (hlt : scr < zg_n g) (hi : i + 5 < n) (hn : n ≤ 1000) (hF : zEnd g dF 169 [.ref a, iv (scw sf i 1), .ref ol] σ (.inl (some (iv k))) σ1) (hdF : dF < d) (H1 : hRep g w0 σ1 gh1 S1 J1) (hm1 : hat gh1 S1 11 0 m) (hM : zEnd g dM 247 [.ref m, iv (scw sf i 1)] σ1 (.inl (some (iv b))) σ2) (hdM : dM < d) (h0d : 0 < d)
    (H2 : hRep g w0 σ2 gh2 S2 J1) (hm2 : hat gh2 S2 11 0 m) (hk : rg k) (hb : rg b) (ht : sT S2 11 0 0 = k) (ho : k = 0 → J1 ol = some (wLA f) ∧ f 0 = Int64.ofInt b) (hQ : tW g d 2441 (tLV scr a m ol od i) [] σ2 Q) : tW g d 1775 (tLV scr a m ol od i) [] σ Q := by
  refine tW_p zsub24 1 rfl ?_
  refine tW_arg (c := 1) zsub24 rfl rfl H hs hlt (by omega) hn ?_
  refine tW_p zsub24 1 rfl ?_
  refine tW_S zsub24 rfl rfl rfl rfl rfl rfl rfl rfl hF hdF ?_
  refine tW_p zsub24 2 rfl ?_
  refine tW_arg (c := 1) zsub24 rfl rfl H1 hs hlt (by omega) hn ?_
  refine tW_V zsub24 rfl rfl rfl rfl rfl rfl (H1.rc hm1 rfl rfl) hM hdM ?_
  refine tW_p zsub24 2 rfl ?_
  refine tW_V zsub24 rfl rfl rfl rfl rfl rfl (H2.rc hm2 rfl rfl) (M_thrown H2 hm2) h0d ?_
  refine tW_p zsub24 1 rfl ?_
  refine tW_t zsub24 rfl rfl (by rw [ht]) ?_
  refine tW_p zsub24 1 rfl ?_
  by_cases h0 : k = 0
  · obtain ⟨hj, hv⟩ := ho h0
    obtain ⟨j1, j2, j3, j4⟩ := H2.jat hj
    refine tW_f zsub24 rfl rfl (fun q => q ((I_eq0 hk).mpr h0)) ?_
    refine tW_p zsub24 2 rfl ?_
    refine tW_lald zsub24 rfl j1 rfl ?_
    rw [show f (Int32.ofInt 0).toNatClampNeg = f 0 from rfl, hv]
    refine tW_p zsub24 2 rfl ?_
    rw [L_of hb]
    refine tW_p zsub24 1 rfl ?_
    rw [zl_cmp_eq]
    refine tW_p zsub24 2 rfl ?_
    refine tW_lv (tLV scr a m ol od i) rfl ⟨rfl, rfl, rfl, rfl, rfl, rfl, trivial⟩ ?_
    exact hQ
  · refine tW_t zsub24 rfl rfl (fun q => h0 ((I_eq0 hk).mp q)) ?_
    refine tW_p zsub24 1 rfl ?_
    refine tW_lv (tLV scr a m ol od i) rfl ⟨rfl, rfl, rfl, rfl, rfl, rfl, trivial⟩ ?_
    exact hQ
theorem tC24 (H : hRep g w0 σ gh S J) (hs : w0.1 scr = some (.inl (8, n, .inl sf))) (hlt : scr < zg_n g) (hi : i + 5 < n) (hn : n ≤ 1000) (hF : zEnd g dF 172 [.ref a, iv (scw sf i 1), .ref ol] σ (.inl (some (iv k))) σ1) (hdF : dF < d) (H1 : hRep g w0 σ1 gh1 S1 J1) (hm1 : hat gh1 S1 11 0 m) (hM : zEnd g dM 248 [.ref m, iv (scw sf i 1)] σ1 (.inl (some (iv b))) σ2) (hdM : dM < d) (h0d : 0 < d)
    (H2 : hRep g w0 σ2 gh2 S2 J1) (hm2 : hat gh2 S2 11 0 m) (hk : rg k) (hb : rg b) (ht : sT S2 11 0 0 = k) (ho : k = 0 → J1 ol = some (wLA f) ∧ f 0 = Int64.ofInt b) (hQ : tW g d 2441 (tLV scr a m ol od i) [] σ2 Q) : tW g d 1831 (tLV scr a m ol od i) [] σ Q := by
  refine tW_p zsub25 1 rfl ?_
  refine tW_arg (c := 1) zsub25 rfl rfl H hs hlt (by omega) hn ?_
  refine tW_p zsub25 1 rfl ?_
  refine tW_S zsub25 rfl rfl rfl rfl rfl rfl rfl rfl hF hdF ?_
  refine tW_p zsub25 2 rfl ?_
  refine tW_arg (c := 1) zsub25 rfl rfl H1 hs hlt (by omega) hn ?_
  refine tW_V zsub25 rfl rfl rfl rfl rfl rfl (H1.rc hm1 rfl rfl) hM hdM ?_
  refine tW_p zsub25 2 rfl ?_
  refine tW_V zsub25 rfl rfl rfl rfl rfl rfl (H2.rc hm2 rfl rfl) (M_thrown H2 hm2) h0d ?_
  refine tW_p zsub25 1 rfl ?_
  refine tW_t zsub25 rfl rfl (by rw [ht]) ?_
  refine tW_p zsub25 1 rfl ?_
  by_cases h0 : k = 0
  · obtain ⟨hj, hv⟩ := ho h0
    obtain ⟨j1, j2, j3, j4⟩ := H2.jat hj
    refine tW_f zsub25 rfl rfl (fun q => q ((I_eq0 hk).mpr h0)) ?_
    refine tW_p zsub25 2 rfl ?_
    refine tW_lald zsub25 rfl j1 rfl ?_
    rw [show f (Int32.ofInt 0).toNatClampNeg = f 0 from rfl, hv]
    refine tW_p zsub25 2 rfl ?_
    rw [L_of hb]
    refine tW_p zsub25 1 rfl ?_
    rw [zl_cmp_eq]
    refine tW_p zsub25 2 rfl ?_
    refine tW_lv (tLV scr a m ol od i) rfl ⟨rfl, rfl, rfl, rfl, rfl, rfl, trivial⟩ ?_
    exact hQ
  · refine tW_t zsub25 rfl rfl (fun q => h0 ((I_eq0 hk).mp q)) ?_
    refine tW_p zsub25 1 rfl ?_
    refine tW_lv (tLV scr a m ol od i) rfl ⟨rfl, rfl, rfl, rfl, rfl, rfl, trivial⟩ ?_
    exact hQ
theorem tC25 (H : hRep g w0 σ gh S J) (hs : w0.1 scr = some (.inl (8, n, .inl sf))) (hlt : scr < zg_n g) (hi : i + 5 < n) (hn : n ≤ 1000) (hF : zEnd g dF 174 [.ref a, iv (scw sf i 1), .ref ol] σ (.inl (some (iv k))) σ1) (hdF : dF < d) (H1 : hRep g w0 σ1 gh1 S1 J1) (hm1 : hat gh1 S1 11 0 m) (hM : zEnd g dM 249 [.ref m, iv (scw sf i 1)] σ1 (.inl (some (iv b))) σ2) (hdM : dM < d) (h0d : 0 < d)
    (H2 : hRep g w0 σ2 gh2 S2 J1) (hm2 : hat gh2 S2 11 0 m) (hk : rg k) (hb : rg b) (ht : sT S2 11 0 0 = k) (ho : k = 0 → J1 ol = some (wLA f) ∧ f 0 = Int64.ofInt b) (hQ : tW g d 2441 (tLV scr a m ol od i) [] σ2 Q) : tW g d 1887 (tLV scr a m ol od i) [] σ Q := by
  refine tW_p zsub26 1 rfl ?_
  refine tW_arg (c := 1) zsub26 rfl rfl H hs hlt (by omega) hn ?_
  refine tW_p zsub26 1 rfl ?_
  refine tW_S zsub26 rfl rfl rfl rfl rfl rfl rfl rfl hF hdF ?_
  refine tW_p zsub26 2 rfl ?_
  refine tW_arg (c := 1) zsub26 rfl rfl H1 hs hlt (by omega) hn ?_
  refine tW_V zsub26 rfl rfl rfl rfl rfl rfl (H1.rc hm1 rfl rfl) hM hdM ?_
  refine tW_p zsub26 2 rfl ?_
  refine tW_V zsub26 rfl rfl rfl rfl rfl rfl (H2.rc hm2 rfl rfl) (M_thrown H2 hm2) h0d ?_
  refine tW_p zsub26 1 rfl ?_
  refine tW_t zsub26 rfl rfl (by rw [ht]) ?_
  refine tW_p zsub26 1 rfl ?_
  by_cases h0 : k = 0
  · obtain ⟨hj, hv⟩ := ho h0
    obtain ⟨j1, j2, j3, j4⟩ := H2.jat hj
    refine tW_f zsub26 rfl rfl (fun q => q ((I_eq0 hk).mpr h0)) ?_
    refine tW_p zsub26 2 rfl ?_
    refine tW_lald zsub26 rfl j1 rfl ?_
    rw [show f (Int32.ofInt 0).toNatClampNeg = f 0 from rfl, hv]
    refine tW_p zsub26 2 rfl ?_
    rw [L_of hb]
    refine tW_p zsub26 1 rfl ?_
    rw [zl_cmp_eq]
    refine tW_p zsub26 2 rfl ?_
    refine tW_lv (tLV scr a m ol od i) rfl ⟨rfl, rfl, rfl, rfl, rfl, rfl, trivial⟩ ?_
    exact hQ
  · refine tW_t zsub26 rfl rfl (fun q => h0 ((I_eq0 hk).mp q)) ?_
    refine tW_p zsub26 1 rfl ?_
    refine tW_lv (tLV scr a m ol od i) rfl ⟨rfl, rfl, rfl, rfl, rfl, rfl, trivial⟩ ?_
    exact hQ
theorem tC26 (H : hRep g w0 σ gh S J) (hs : w0.1 scr = some (.inl (8, n, .inl sf))) (hlt : scr < zg_n g) (hi : i + 5 < n) (hn : n ≤ 1000) (hF : zEnd g dF 176 [.ref a, iv (scw sf i 1), .ref ol] σ (.inl (some (iv k))) σ1) (hdF : dF < d) (H1 : hRep g w0 σ1 gh1 S1 J1) (hm1 : hat gh1 S1 11 0 m) (hM : zEnd g dM 251 [.ref m, iv (scw sf i 1)] σ1 (.inl (some (iv b))) σ2) (hdM : dM < d) (h0d : 0 < d)
    (H2 : hRep g w0 σ2 gh2 S2 J1) (hm2 : hat gh2 S2 11 0 m) (hk : rg k) (hb : rg b) (ht : sT S2 11 0 0 = k) (ho : k = 0 → J1 ol = some (wLA f) ∧ f 0 = Int64.ofInt b) (hQ : tW g d 2441 (tLV scr a m ol od i) [] σ2 Q) : tW g d 1943 (tLV scr a m ol od i) [] σ Q := by
  refine tW_p zsub27 1 rfl ?_
  refine tW_arg (c := 1) zsub27 rfl rfl H hs hlt (by omega) hn ?_
  refine tW_p zsub27 1 rfl ?_
  refine tW_S zsub27 rfl rfl rfl rfl rfl rfl rfl rfl hF hdF ?_
  refine tW_p zsub27 2 rfl ?_
  refine tW_arg (c := 1) zsub27 rfl rfl H1 hs hlt (by omega) hn ?_
  refine tW_V zsub27 rfl rfl rfl rfl rfl rfl (H1.rc hm1 rfl rfl) hM hdM ?_
  refine tW_p zsub27 2 rfl ?_
  refine tW_V zsub27 rfl rfl rfl rfl rfl rfl (H2.rc hm2 rfl rfl) (M_thrown H2 hm2) h0d ?_
  refine tW_p zsub27 1 rfl ?_
  refine tW_t zsub27 rfl rfl (by rw [ht]) ?_
  refine tW_p zsub27 1 rfl ?_
  by_cases h0 : k = 0
  · obtain ⟨hj, hv⟩ := ho h0
    obtain ⟨j1, j2, j3, j4⟩ := H2.jat hj
    refine tW_f zsub27 rfl rfl (fun q => q ((I_eq0 hk).mpr h0)) ?_
    refine tW_p zsub27 2 rfl ?_
    refine tW_lald zsub27 rfl j1 rfl ?_
    rw [show f (Int32.ofInt 0).toNatClampNeg = f 0 from rfl, hv]
    refine tW_p zsub27 2 rfl ?_
    rw [L_of hb]
    refine tW_p zsub27 1 rfl ?_
    rw [zl_cmp_eq]
    refine tW_p zsub27 2 rfl ?_
    refine tW_lv (tLV scr a m ol od i) rfl ⟨rfl, rfl, rfl, rfl, rfl, rfl, trivial⟩ ?_
    exact hQ
  · refine tW_t zsub27 rfl rfl (fun q => h0 ((I_eq0 hk).mp q)) ?_
    refine tW_p zsub27 1 rfl ?_
    refine tW_lv (tLV scr a m ol od i) rfl ⟨rfl, rfl, rfl, rfl, rfl, rfl, trivial⟩ ?_
    exact hQ
theorem tC27 (H : hRep g w0 σ gh S J) (hs : w0.1 scr = some (.inl (8, n, .inl sf))) (hlt : scr < zg_n g) (hi : i + 5 < n) (hn : n ≤ 1000) (hF : zEnd g dF 178 [.ref a, iv (scw sf i 1), .ref ol] σ (.inl (some (iv k))) σ1) (hdF : dF < d) (H1 : hRep g w0 σ1 gh1 S1 J1) (hm1 : hat gh1 S1 11 0 m) (hM : zEnd g dM 252 [.ref m, iv (scw sf i 1)] σ1 (.inl (some (iv b))) σ2) (hdM : dM < d) (h0d : 0 < d)
    (H2 : hRep g w0 σ2 gh2 S2 J1) (hm2 : hat gh2 S2 11 0 m) (hk : rg k) (hb : rg b) (ht : sT S2 11 0 0 = k) (ho : k = 0 → J1 ol = some (wLA f) ∧ f 0 = Int64.ofInt b) (hQ : tW g d 2441 (tLV scr a m ol od i) [] σ2 Q) : tW g d 1999 (tLV scr a m ol od i) [] σ Q := by
  refine tW_p zsub28 1 rfl ?_
  refine tW_arg (c := 1) zsub28 rfl rfl H hs hlt (by omega) hn ?_
  refine tW_p zsub28 1 rfl ?_
  refine tW_S zsub28 rfl rfl rfl rfl rfl rfl rfl rfl hF hdF ?_
  refine tW_p zsub28 2 rfl ?_
  refine tW_arg (c := 1) zsub28 rfl rfl H1 hs hlt (by omega) hn ?_
  refine tW_V zsub28 rfl rfl rfl rfl rfl rfl (H1.rc hm1 rfl rfl) hM hdM ?_
  refine tW_p zsub28 2 rfl ?_
  refine tW_V zsub28 rfl rfl rfl rfl rfl rfl (H2.rc hm2 rfl rfl) (M_thrown H2 hm2) h0d ?_
  refine tW_p zsub28 1 rfl ?_
  refine tW_t zsub28 rfl rfl (by rw [ht]) ?_
  refine tW_p zsub28 1 rfl ?_
  by_cases h0 : k = 0
  · obtain ⟨hj, hv⟩ := ho h0
    obtain ⟨j1, j2, j3, j4⟩ := H2.jat hj
    refine tW_f zsub28 rfl rfl (fun q => q ((I_eq0 hk).mpr h0)) ?_
    refine tW_p zsub28 2 rfl ?_
    refine tW_lald zsub28 rfl j1 rfl ?_
    rw [show f (Int32.ofInt 0).toNatClampNeg = f 0 from rfl, hv]
    refine tW_p zsub28 2 rfl ?_
    rw [L_of hb]
    refine tW_p zsub28 1 rfl ?_
    rw [zl_cmp_eq]
    refine tW_p zsub28 2 rfl ?_
    refine tW_lv (tLV scr a m ol od i) rfl ⟨rfl, rfl, rfl, rfl, rfl, rfl, trivial⟩ ?_
    exact hQ
  · refine tW_t zsub28 rfl rfl (fun q => h0 ((I_eq0 hk).mp q)) ?_
    refine tW_p zsub28 1 rfl ?_
    refine tW_lv (tLV scr a m ol od i) rfl ⟨rfl, rfl, rfl, rfl, rfl, rfl, trivial⟩ ?_
    exact hQ
theorem tC28 (H : hRep g w0 σ gh S J) (hs : w0.1 scr = some (.inl (8, n, .inl sf))) (hlt : scr < zg_n g) (hi : i + 5 < n) (hn : n ≤ 1000) (hF : zEnd g dF 180 [.ref a, iv (scw sf i 1), iv (scw sf i 2), .ref ol] σ (.inl (some (iv k))) σ1) (hdF : dF < d) (H1 : hRep g w0 σ1 gh1 S1 J1) (hm1 : hat gh1 S1 11 0 m) (hM : zEnd g dM 253 [.ref m, iv (scw sf i 1), iv (scw sf i 2)] σ1 (.inl (some (iv (bi v)))) σ2) (hdM : dM < d) (h0d : 0 < d)
    (H2 : hRep g w0 σ2 gh2 S2 J1) (hm2 : hat gh2 S2 11 0 m) (hk : rg k) (ht : sT S2 11 0 0 = k) (ho : k = 0 → J1 ol = some (wLA f) ∧ f 0 = Int64.ofInt (bi v)) (hQ : tW g d 2441 (tLV scr a m ol od i) [] σ2 Q) : tW g d 2055 (tLV scr a m ol od i) [] σ Q := by
  refine tW_p zsub29 1 rfl ?_
  refine tW_arg (c := 1) zsub29 rfl rfl H hs hlt (by omega) hn ?_
  refine tW_arg (c := 2) zsub29 rfl rfl H hs hlt (by omega) hn ?_
  refine tW_p zsub29 1 rfl ?_
  refine tW_S zsub29 rfl rfl rfl rfl rfl rfl rfl rfl hF hdF ?_
  refine tW_p zsub29 2 rfl ?_
  refine tW_arg (c := 1) zsub29 rfl rfl H1 hs hlt (by omega) hn ?_
  refine tW_arg (c := 2) zsub29 rfl rfl H1 hs hlt (by omega) hn ?_
  refine tW_V zsub29 rfl rfl rfl rfl rfl rfl (H1.rc hm1 rfl rfl) hM hdM ?_
  refine tW_p zsub29 2 rfl ?_
  refine tW_V zsub29 rfl rfl rfl rfl rfl rfl (H2.rc hm2 rfl rfl) (M_thrown H2 hm2) h0d ?_
  refine tW_p zsub29 1 rfl ?_
  refine tW_t zsub29 rfl rfl (by rw [ht]) ?_
  refine tW_p zsub29 1 rfl ?_
  by_cases h0 : k = 0
  · obtain ⟨hj, hv⟩ := ho h0
    obtain ⟨j1, j2, j3, j4⟩ := H2.jat hj
    refine tW_f zsub29 rfl rfl (fun q => q ((I_eq0 hk).mpr h0)) ?_
    refine tW_p zsub29 2 rfl ?_
    refine tW_lald zsub29 rfl j1 rfl ?_
    rw [show f (Int32.ofInt 0).toNatClampNeg = f 0 from rfl, hv]
    cases v with
    | true =>
      refine tW_p zsub29 5 rfl ?_
      refine tW_p zsub29 2 rfl ?_
      refine tW_lv (tLV scr a m ol od i) rfl ⟨rfl, rfl, rfl, rfl, rfl, rfl, trivial⟩ ?_
      exact hQ
    | false =>
      refine tW_p zsub29 4 rfl ?_
      refine tW_p zsub29 2 rfl ?_
      refine tW_lv (tLV scr a m ol od i) rfl ⟨rfl, rfl, rfl, rfl, rfl, rfl, trivial⟩ ?_
      exact hQ
  · refine tW_t zsub29 rfl rfl (fun q => h0 ((I_eq0 hk).mp q)) ?_
    refine tW_p zsub29 1 rfl ?_
    refine tW_lv (tLV scr a m ol od i) rfl ⟨rfl, rfl, rfl, rfl, rfl, rfl, trivial⟩ ?_
    exact hQ
theorem tC29 (H : hRep g w0 σ gh S J) (hs : w0.1 scr = some (.inl (8, n, .inl sf))) (hlt : scr < zg_n g) (hi : i + 5 < n) (hn : n ≤ 1000) (hF : zEnd g dF 182 [.ref a, iv (scw sf i 1), .ref ol] σ (.inl (some (iv k))) σ1) (hdF : dF < d) (H1 : hRep g w0 σ1 gh1 S1 J1) (hm1 : hat gh1 S1 11 0 m) (hM : zEnd g dM 255 [.ref m, iv (scw sf i 1)] σ1 (.inl (some (iv b))) σ2) (hdM : dM < d) (h0d : 0 < d)
    (H2 : hRep g w0 σ2 gh2 S2 J1) (hm2 : hat gh2 S2 11 0 m) (hk : rg k) (hb : rg b) (ht : sT S2 11 0 0 = k) (ho : k = 0 → J1 ol = some (wLA f) ∧ f 0 = Int64.ofInt b) (hQ : tW g d 2441 (tLV scr a m ol od i) [] σ2 Q) : tW g d 2130 (tLV scr a m ol od i) [] σ Q := by
  refine tW_p zsub30 1 rfl ?_
  refine tW_arg (c := 1) zsub30 rfl rfl H hs hlt (by omega) hn ?_
  refine tW_p zsub30 1 rfl ?_
  refine tW_S zsub30 rfl rfl rfl rfl rfl rfl rfl rfl hF hdF ?_
  refine tW_p zsub30 2 rfl ?_
  refine tW_arg (c := 1) zsub30 rfl rfl H1 hs hlt (by omega) hn ?_
  refine tW_V zsub30 rfl rfl rfl rfl rfl rfl (H1.rc hm1 rfl rfl) hM hdM ?_
  refine tW_p zsub30 2 rfl ?_
  refine tW_V zsub30 rfl rfl rfl rfl rfl rfl (H2.rc hm2 rfl rfl) (M_thrown H2 hm2) h0d ?_
  refine tW_p zsub30 1 rfl ?_
  refine tW_t zsub30 rfl rfl (by rw [ht]) ?_
  refine tW_p zsub30 1 rfl ?_
  by_cases h0 : k = 0
  · obtain ⟨hj, hv⟩ := ho h0
    obtain ⟨j1, j2, j3, j4⟩ := H2.jat hj
    refine tW_f zsub30 rfl rfl (fun q => q ((I_eq0 hk).mpr h0)) ?_
    refine tW_p zsub30 2 rfl ?_
    refine tW_lald zsub30 rfl j1 rfl ?_
    rw [show f (Int32.ofInt 0).toNatClampNeg = f 0 from rfl, hv]
    refine tW_p zsub30 2 rfl ?_
    rw [L_of hb]
    refine tW_p zsub30 1 rfl ?_
    rw [zl_cmp_eq]
    refine tW_p zsub30 2 rfl ?_
    refine tW_lv (tLV scr a m ol od i) rfl ⟨rfl, rfl, rfl, rfl, rfl, rfl, trivial⟩ ?_
    exact hQ
  · refine tW_t zsub30 rfl rfl (fun q => h0 ((I_eq0 hk).mp q)) ?_
    refine tW_p zsub30 1 rfl ?_
    refine tW_lv (tLV scr a m ol od i) rfl ⟨rfl, rfl, rfl, rfl, rfl, rfl, trivial⟩ ?_
    exact hQ
theorem tC30 (H : hRep g w0 σ gh S J) (hs : w0.1 scr = some (.inl (8, n, .inl sf))) (hlt : scr < zg_n g) (hi : i + 5 < n) (hn : n ≤ 1000) (hF : zEnd g dF 183 [.ref a, iv (scw sf i 1), .ref ol] σ (.inl (some (iv k))) σ1) (hdF : dF < d) (H1 : hRep g w0 σ1 gh1 S1 J1) (hm1 : hat gh1 S1 11 0 m) (hM : zEnd g dM 257 [.ref m, iv (scw sf i 1)] σ1 (.inl (some (iv b))) σ2) (hdM : dM < d) (h0d : 0 < d)
    (H2 : hRep g w0 σ2 gh2 S2 J1) (hm2 : hat gh2 S2 11 0 m) (hk : rg k) (hb : rg b) (ht : sT S2 11 0 0 = k) (ho : k = 0 → J1 ol = some (wLA f) ∧ f 0 = Int64.ofInt b) (hQ : tW g d 2441 (tLV scr a m ol od i) [] σ2 Q) : tW g d 2186 (tLV scr a m ol od i) [] σ Q := by
  refine tW_p zsub31 1 rfl ?_
  refine tW_arg (c := 1) zsub31 rfl rfl H hs hlt (by omega) hn ?_
  refine tW_p zsub31 1 rfl ?_
  refine tW_S zsub31 rfl rfl rfl rfl rfl rfl rfl rfl hF hdF ?_
  refine tW_p zsub31 2 rfl ?_
  refine tW_arg (c := 1) zsub31 rfl rfl H1 hs hlt (by omega) hn ?_
  refine tW_V zsub31 rfl rfl rfl rfl rfl rfl (H1.rc hm1 rfl rfl) hM hdM ?_
  refine tW_p zsub31 2 rfl ?_
  refine tW_V zsub31 rfl rfl rfl rfl rfl rfl (H2.rc hm2 rfl rfl) (M_thrown H2 hm2) h0d ?_
  refine tW_p zsub31 1 rfl ?_
  refine tW_t zsub31 rfl rfl (by rw [ht]) ?_
  refine tW_p zsub31 1 rfl ?_
  by_cases h0 : k = 0
  · obtain ⟨hj, hv⟩ := ho h0
    obtain ⟨j1, j2, j3, j4⟩ := H2.jat hj
    refine tW_f zsub31 rfl rfl (fun q => q ((I_eq0 hk).mpr h0)) ?_
    refine tW_p zsub31 2 rfl ?_
    refine tW_lald zsub31 rfl j1 rfl ?_
    rw [show f (Int32.ofInt 0).toNatClampNeg = f 0 from rfl, hv]
    refine tW_p zsub31 2 rfl ?_
    rw [L_of hb]
    refine tW_p zsub31 1 rfl ?_
    rw [zl_cmp_eq]
    refine tW_p zsub31 2 rfl ?_
    refine tW_lv (tLV scr a m ol od i) rfl ⟨rfl, rfl, rfl, rfl, rfl, rfl, trivial⟩ ?_
    exact hQ
  · refine tW_t zsub31 rfl rfl (fun q => h0 ((I_eq0 hk).mp q)) ?_
    refine tW_p zsub31 1 rfl ?_
    refine tW_lv (tLV scr a m ol od i) rfl ⟨rfl, rfl, rfl, rfl, rfl, rfl, trivial⟩ ?_
    exact hQ
theorem tC31 (H : hRep g w0 σ gh S J) (hs : w0.1 scr = some (.inl (8, n, .inl sf))) (hlt : scr < zg_n g) (hi : i + 5 < n) (hn : n ≤ 1000) (hF : zEnd g dF 185 [.ref a, iv (scw sf i 1), .ref ol] σ (.inl (some (iv k))) σ1) (hdF : dF < d) (H1 : hRep g w0 σ1 gh1 S1 J1) (hm1 : hat gh1 S1 11 0 m) (hM : zEnd g dM 258 [.ref m, iv (scw sf i 1)] σ1 (.inl (some (.long (Int64.ofInt b)))) σ2) (hdM : dM < d) (h0d : 0 < d)
    (H2 : hRep g w0 σ2 gh2 S2 J1) (hm2 : hat gh2 S2 11 0 m) (hk : rg k) (ht : sT S2 11 0 0 = k) (ho : k = 0 → J1 ol = some (wLA f) ∧ f 0 = Int64.ofInt b) (hQ : tW g d 2441 (tLV scr a m ol od i) [] σ2 Q) : tW g d 2242 (tLV scr a m ol od i) [] σ Q := by
  refine tW_p zsub32 1 rfl ?_
  refine tW_arg (c := 1) zsub32 rfl rfl H hs hlt (by omega) hn ?_
  refine tW_p zsub32 1 rfl ?_
  refine tW_S zsub32 rfl rfl rfl rfl rfl rfl rfl rfl hF hdF ?_
  refine tW_p zsub32 2 rfl ?_
  refine tW_arg (c := 1) zsub32 rfl rfl H1 hs hlt (by omega) hn ?_
  refine tW_V zsub32 rfl rfl rfl rfl rfl rfl (H1.rc hm1 rfl rfl) hM hdM ?_
  refine tW_p zsub32 2 rfl ?_
  refine tW_V zsub32 rfl rfl rfl rfl rfl rfl (H2.rc hm2 rfl rfl) (M_thrown H2 hm2) h0d ?_
  refine tW_p zsub32 1 rfl ?_
  refine tW_t zsub32 rfl rfl (by rw [ht]) ?_
  refine tW_p zsub32 1 rfl ?_
  by_cases h0 : k = 0
  · obtain ⟨hj, hv⟩ := ho h0
    obtain ⟨j1, j2, j3, j4⟩ := H2.jat hj
    refine tW_f zsub32 rfl rfl (fun q => q ((I_eq0 hk).mpr h0)) ?_
    refine tW_p zsub32 2 rfl ?_
    refine tW_lald zsub32 rfl j1 rfl ?_
    rw [show f (Int32.ofInt 0).toNatClampNeg = f 0 from rfl, hv]
    refine tW_p zsub32 2 rfl ?_
    rw [zl_cmp_eq]
    refine tW_p zsub32 2 rfl ?_
    refine tW_lv (tLV scr a m ol od i) rfl ⟨rfl, rfl, rfl, rfl, rfl, rfl, trivial⟩ ?_
    exact hQ
  · refine tW_t zsub32 rfl rfl (fun q => h0 ((I_eq0 hk).mp q)) ?_
    refine tW_p zsub32 1 rfl ?_
    refine tW_lv (tLV scr a m ol od i) rfl ⟨rfl, rfl, rfl, rfl, rfl, rfl, trivial⟩ ?_
    exact hQ
theorem tC32 {xf : UInt32} (H : hRep g w0 σ gh S J) (hs : w0.1 scr = some (.inl (8, n, .inl sf))) (hlt : scr < zg_n g) (hi : i + 5 < n) (hn : n ≤ 1000) (hF : zEnd g dF 187 [.ref a, .ref od] σ (.inl (some (iv k))) σ1) (hdF : dF < d) (H1 : hRep g w0 σ1 gh1 S1 J1) (hm1 : hat gh1 S1 11 0 m) (hM : zEnd g dM 259 [.ref m] σ1 (.inl (some (.float xf))) σ2) (hdM : dM < d) (h0d : 0 < d)
    (H2 : hRep g w0 σ2 gh2 S2 J1) (hm2 : hat gh2 S2 11 0 m) (hk : rg k) (ht : sT S2 11 0 0 = k) (ho : k = 0 → J1 od = some (wDA fd) ∧ fd 0 = FP.f2d xf ∧ FP.Core.dIsNaN (FP.f2d xf) = false) (hQ : tW g d 2441 (tLV scr a m ol od i) [] σ2 Q) : tW g d 2297 (tLV scr a m ol od i) [] σ Q := by
  refine tW_p zsub33 1 rfl ?_
  refine tW_p zsub33 1 rfl ?_
  refine tW_S zsub33 rfl rfl rfl rfl rfl rfl rfl rfl hF hdF ?_
  refine tW_p zsub33 2 rfl ?_
  refine tW_V zsub33 rfl rfl rfl rfl rfl rfl (H1.rc hm1 rfl rfl) hM hdM ?_
  refine tW_p zsub33 2 rfl ?_
  refine tW_V zsub33 rfl rfl rfl rfl rfl rfl (H2.rc hm2 rfl rfl) (M_thrown H2 hm2) h0d ?_
  refine tW_p zsub33 1 rfl ?_
  refine tW_t zsub33 rfl rfl (by rw [ht]) ?_
  refine tW_p zsub33 1 rfl ?_
  by_cases h0 : k = 0
  · obtain ⟨hj, hv⟩ := ho h0
    obtain ⟨j1, j2, j3, j4⟩ := H2.jat hj
    refine tW_f zsub33 rfl rfl (fun q => q ((I_eq0 hk).mpr h0)) ?_
    refine tW_p zsub33 2 rfl ?_
    obtain ⟨hv, hnn⟩ := hv
    refine tW_dald zsub33 rfl j1 rfl ?_
    rw [show fd (Int32.ofInt 0).toNatClampNeg = fd 0 from rfl, hv]
    refine tW_p zsub33 1 rfl ?_
    refine tW_f2d zsub33 rfl hnn ?_
    refine tW_p zsub33 1 rfl ?_
    rw [zd_cmp_eq hnn]
    refine tW_p zsub33 2 rfl ?_
    refine tW_lv (tLV scr a m ol od i) rfl ⟨rfl, rfl, rfl, rfl, rfl, rfl, trivial⟩ ?_
    exact hQ
  · refine tW_t zsub33 rfl rfl (fun q => h0 ((I_eq0 hk).mp q)) ?_
    refine tW_p zsub33 1 rfl ?_
    refine tW_lv (tLV scr a m ol od i) rfl ⟨rfl, rfl, rfl, rfl, rfl, rfl, trivial⟩ ?_
    exact hQ
theorem tC33 {xd : UInt64} (H : hRep g w0 σ gh S J) (hs : w0.1 scr = some (.inl (8, n, .inl sf))) (hlt : scr < zg_n g) (hi : i + 5 < n) (hn : n ≤ 1000) (hF : zEnd g dF 191 [.ref a, .ref od] σ (.inl (some (iv k))) σ1) (hdF : dF < d) (H1 : hRep g w0 σ1 gh1 S1 J1) (hm1 : hat gh1 S1 11 0 m) (hM : zEnd g dM 260 [.ref m] σ1 (.inl (some (.double xd))) σ2) (hdM : dM < d) (h0d : 0 < d)
    (H2 : hRep g w0 σ2 gh2 S2 J1) (hm2 : hat gh2 S2 11 0 m) (hk : rg k) (ht : sT S2 11 0 0 = k) (ho : k = 0 → J1 od = some (wDA fd) ∧ fd 0 = xd ∧ FP.Core.dIsNaN xd = false) (hQ : tW g d 2441 (tLV scr a m ol od i) [] σ2 Q) : tW g d 2363 (tLV scr a m ol od i) [] σ Q := by
  refine tW_p zsub34 1 rfl ?_
  refine tW_p zsub34 1 rfl ?_
  refine tW_S zsub34 rfl rfl rfl rfl rfl rfl rfl rfl hF hdF ?_
  refine tW_p zsub34 2 rfl ?_
  refine tW_V zsub34 rfl rfl rfl rfl rfl rfl (H1.rc hm1 rfl rfl) hM hdM ?_
  refine tW_p zsub34 2 rfl ?_
  refine tW_V zsub34 rfl rfl rfl rfl rfl rfl (H2.rc hm2 rfl rfl) (M_thrown H2 hm2) h0d ?_
  refine tW_p zsub34 1 rfl ?_
  refine tW_t zsub34 rfl rfl (by rw [ht]) ?_
  refine tW_p zsub34 1 rfl ?_
  by_cases h0 : k = 0
  · obtain ⟨hj, hv⟩ := ho h0
    obtain ⟨j1, j2, j3, j4⟩ := H2.jat hj
    refine tW_f zsub34 rfl rfl (fun q => q ((I_eq0 hk).mpr h0)) ?_
    refine tW_p zsub34 2 rfl ?_
    obtain ⟨hv, hnn⟩ := hv
    refine tW_dald zsub34 rfl j1 rfl ?_
    rw [show fd (Int32.ofInt 0).toNatClampNeg = fd 0 from rfl, hv]
    refine tW_p zsub34 2 rfl ?_
    rw [zd_cmp_eq hnn]
    refine tW_p zsub34 2 rfl ?_
    refine tW_lv (tLV scr a m ol od i) rfl ⟨rfl, rfl, rfl, rfl, rfl, rfl, trivial⟩ ?_
    exact hQ
  · refine tW_t zsub34 rfl rfl (fun q => h0 ((I_eq0 hk).mp q)) ?_
    refine tW_p zsub34 1 rfl ?_
    refine tW_lv (tLV scr a m ol od i) rfl ⟨rfl, rfl, rfl, rfl, rfl, rfl, trivial⟩ ?_
    exact hQ
theorem tC34 (H : hRep g w0 σ gh S J) (ha : hat gh S 0 0 a) (hF : zEnd g dF 7 [.ref a] σ (.inl (some (iv b))) σ1) (hdF : dF < d) (H1 : hRep g w0 σ1 gh1 S1 J) (hm1 : hat gh1 S1 11 0 m) (hM : zEnd g dM 261 [.ref m] σ1 (.inl (some (iv b))) σ2) (hdM : dM < d)
    (hQ : tW g d 2441 (tLV scr a m ol od i) [] σ2 Q) : tW g d 2428 (tLV scr a m ol od i) [] σ Q := by
  refine tW_p zsub35 1 rfl ?_
  refine tW_V zsub35 rfl rfl rfl rfl rfl rfl (H.rc ha rfl rfl) hF hdF ?_
  refine tW_p zsub35 1 rfl ?_
  refine tW_V zsub35 rfl rfl rfl rfl rfl rfl (H1.rc hm1 rfl rfl) hM hdM ?_
  refine tW_t zsub35 rfl rfl rfl ?_
  exact hQ
end ZTC3
