/-! THE MODEL: receive -/
set_option maxRecDepth 100000
def mPart (S : hS) : Prop := ∀ i : Nat, i < sn S 13 → (sT S 13 0 i = 0 ∨ sT S 13 0 i = 1) ∧ 0 ≤ sT S 13 2 i ∧ 0 ≤ sT S 13 3 i ∧ (sE S 36 (sT S 13 2 i).toNat).length ≤ 4 ∧ (sE S 37 (sT S 13 3 i).toNat).length ≤ 3
def mNextL (ρ : Int) (row : List Bool) (is : Bool) : Int := if ρ = 110 then (if 2 ≤ mAmong 5 true row then 116 else if 4 ≤ row.length ∧ mAmong 4 false row = 4 then 114 else 110) else if ρ = 116 then (if 3 ≤ row.length ∧ mAmong 3 false row = 3 then 110 else 116) else if is then 110 else ρ
def mLim (ρ : Int) : Int := if ρ = 110 then 2 else if ρ = 116 then 1 else 4
def mRecvCode (S : hS) (p q c s v : Int) : Int := if ¬ (0 ≤ p ∧ p < sn S 13) then 1 else if sT S 13 0 p.toNat = 1 then 2 else if ¬ ((1 ≤ q ∧ q ≤ 500) ∧ (0 ≤ c ∧ c ≤ 999) ∧ (0 ≤ s ∧ s ≤ 3) ∧ (0 ≤ v ∧ v ≤ 20)) then 3 else if sT S 11 5 0 = 60 then 4 else 0
def mRecv3 (z : Nat → Nat) (S : hS) (p q c : Int) (s : Nat) (is : Bool) : hS := ssE (sset (mLotS (sset (mt S 0) 11 5 0 (sT S 11 5 0 + 1)) p q (q * c)) 14 5 (sn S 14) (bi is)) 35 s (sE S 35 s ++ [(z (if is then 10 else 9) : Int)])
def mReceive (z : Nat → Nat) (S : hS) (p q c : Int) (s : Nat) (is : Bool) : hS :=
  if mNextL (mRl S s) (bls z (sE S 35 s) ++ [is]) is = mRl S s then mRecv3 z S p q c s is
  else ssE (ssA (mRecv3 z S p q c s is) 47 0 ((sE S 47 0).set s (mNextL (mRl S s) (bls z (sE S 35 s) ++ [is]) is))) 35 s []
theorem mAmong_le (n : Nat) (w : Bool) (l : List Bool) : mAmong n w l ≤ l.length := by
  unfold mAmong
  exact Nat.le_trans List.count_le_length (by rw [List.length_drop]; omega)
section ZMRV
variable {g : zG} {w0 : hG} {z : Nat → Nat} {σ : zS} {gh : Nat → Nat → Nat} {S : hS} {J : zw_W} {a : Nat} {p q c s v : Int}
theorem M_recvOk {t : Nat} (H : hRep g w0 σ gh S J) (C : hCon g w0 z) (hF : mFix S) (hU : mSup z S) (ha : hat gh S 11 0 a) (h99 : sn S 14 < 100) (ht : t < 4) (hq : rg q) (hc : rg c) (hv : rg v) {σ0 : zS} {gh0 : Nat → Nat → Nat} {S0 : hS} (hS0 : mt S0 0 = S) (hx0 : gext S0 gh0 gh) (hk0 : kc σ0 σ 0 0) :
    zW g 9 206 133 [(0, .ref a), (1, iv p), (2, iv q), (3, iv c), (4, iv t), (5, iv v)] [] σ (fun r σ' => r = .inl (some (iv (sn S0 14))) ∧ ∃ ghx, gext S0 gh0 ghx ∧ hRep g w0 σ' ghx (mReceive z S0 p q c t (decide (mLim (mRl S0 t) < v))) J ∧ kc σ0 σ' 4 500) := by
  subst hS0
  have hUF := hF
  obtain ⟨f0, f1, f2, f3, f4, f5, f6, f7, f8, f9, fa, fb, fc, fd, fe⟩ := hF
  obtain ⟨u1, u2, u3, u4⟩ := hU
  obtain ⟨u5, u6, u7⟩ := u4 t ht
  have er : (sE S0 47 0)[t]? = some (mRl S0 t) := by
    unfold mRl
    rw [List.getD_eq_getElem?_getD, List.getElem?_eq_getElem (show t < (sE S0 47 0).length by have : (sE S0 47 0).length = 4 := u3; omega)]
    rfl
  have hρ : mRl S0 t = 110 ∨ mRl S0 t = 116 ∨ mRl S0 t = 114 := by
    have u5' : (sE S0 47 0)[t]? = some 110 ∨ (sE S0 47 0)[t]? = some 116 ∨ (sE S0 47 0)[t]? = some 114 := u5
    rw [er] at u5'
    rcases u5' with h | h | h
    · exact Or.inl (Option.some.inj h)
    · exact Or.inr (Or.inl (Option.some.inj h))
    · exact Or.inr (Or.inr (Option.some.inj h))
  unfold mReceive
  generalize hR : mRl S0 t = ρ at hρ er
  have rρ : rg ρ := by rcases hρ with rfl | rfl | rfl <;> exact ⟨by decide, by decide⟩
  refine zW_p 2 rfl ?_
  refine hW_get H rfl ha rfl rfl rfl ?_
  have e50 : sT (mt S0 0) 11 5 0 = sT S0 11 5 0 := rfl
  rw [e50]
  refine zW_p 2 rfl ?_
  rw [I_add]
  refine hW_put H rfl ha rfl rfl rfl (Or.inl rfl) rfl rfl rfl alv0 (fun e => absurd e (by decide)) (fun σ1 H1 e1 => ?_)
  refine zW_p 8 rfl ?_
  rw [L_of hq, L_of hc, L_mul]
  obtain ⟨σ2, b2, g2, ghx, x2, H2, hb2, k2⟩ := M_lot (p := p) (q := q) (c := q * c) H1 (show mFix (sset (mt S0 0) 11 5 0 (sT S0 11 5 0 + 1)) from hUF) h99 (hat.set ha)
  refine wV rfl rfl rfl rfl rfl rfl rfl (H1.rc (hat.set ha) rfl rfl) g2 (by omega) ?_
  have le2 : ∀ c' : Nat, sn (sset (mt S0 0) 11 5 0 (sT S0 11 5 0 + 1)) c' ≤ sn (mLotS (sset (mt S0 0) 11 5 0 (sT S0 11 5 0 + 1)) p q (q * c)) c' := fun c' => by
    show _ ≤ sn (snw (snw (sset (mt S0 0) 11 5 0 (sT S0 11 5 0 + 1)) 14 []) 41 []) c'
    exact Nat.le_trans sn_w_le sn_w_le
  have ha2 : hat ghx (mLotS (sset (mt S0 0) 11 5 0 (sT S0 11 5 0 + 1)) p q (q * c)) 11 0 a := x2.hat le2 ha
  have hb2' : hat ghx (mLotS (sset (mt S0 0) 11 5 0 (sT S0 11 5 0 + 1)) p q (q * c)) 14 (sn S0 14) b2 := hb2
  refine zW_p 2 rfl ?_
  refine hW_getr (j := 0) H2 rfl ha2 rfl rfl rfl (by show sT S0 11 6 0 = _; exact f5) (fun b3 hb3 => ?_)
  refine zW_p 1 rfl ?_
  refine hW_cald (v := ρ) H2 rfl hb3 (show (sE (mLotS (sset (mt S0 0) 11 5 0 (sT S0 11 5 0 + 1)) p q (q * c)) 47 0)[t]? = some ρ from er) (by omega) ?_
  have J1 : ∀ w : Int, w = mLim ρ → zW g 9 206 192 [(0, .ref a), (1, iv p), (2, iv q), (3, iv c), (4, iv t), (5, iv v), (7, .ref b2), (8, iv ρ)] [iv w, iv v, .ref b2] σ2 (fun r σ' => r = .inl (some (iv (sn S0 14))) ∧ ∃ ghx, gext S0 gh0 ghx ∧ hRep g w0 σ' ghx (if mNextL ρ (bls z (sE S0 35 t) ++ [decide (mLim ρ < v)]) (decide (mLim ρ < v)) = ρ then mRecv3 z S0 p q c t (decide (mLim ρ < v)) else ssE (ssA (mRecv3 z S0 p q c t (decide (mLim ρ < v))) 47 0 ((sE S0 47 0).set t (mNextL ρ (bls z (sE S0 35 t) ++ [decide (mLim ρ < v)]) (decide (mLim ρ < v))))) 35 t []) J ∧ kc σ0 σ' 4 500) := by
    intro w hw
    have rw' : rg w := by
      rw [hw]; unfold mLim
      repeat' split
      all_goals exact ⟨by decide, by decide⟩
    have J2 : ∀ is : Bool, is = decide (mLim ρ < v) → zW g 9 206 200 [(0, .ref a), (1, iv p), (2, iv q), (3, iv c), (4, iv t), (5, iv v), (7, .ref b2), (8, iv ρ)] [iv (bi is), .ref b2] σ2 (fun r σ' => r = .inl (some (iv (sn S0 14))) ∧ ∃ ghx, gext S0 gh0 ghx ∧ hRep g w0 σ' ghx (if mNextL ρ (bls z (sE S0 35 t) ++ [decide (mLim ρ < v)]) (decide (mLim ρ < v)) = ρ then mRecv3 z S0 p q c t (decide (mLim ρ < v)) else ssE (ssA (mRecv3 z S0 p q c t (decide (mLim ρ < v))) 47 0 ((sE S0 47 0).set t (mNextL ρ (bls z (sE S0 35 t) ++ [decide (mLim ρ < v)]) (decide (mLim ρ < v))))) 35 t []) J ∧ kc σ0 σ' 4 500) := by
      intro is his
      rw [← his]
      refine hW_put (v := bi is) H2 rfl hb2' rfl rfl rfl (Or.inl rfl) (by cases is <;> rfl) (by cases is <;> rfl) rfl alv0 (fun e => absurd e (by decide)) (fun σ3 H3 e3 => ?_)
      refine zW_p 1 rfl ?_
      refine hW_getr (j := 0) H3 rfl (hat.set ha2) rfl rfl rfl (by show sT S0 11 7 0 = _; exact f6) (fun b4 hb4 => ?_)
      refine zW_p 1 rfl ?_
      have e34 : (sE (sset (mLotS (sset (mt S0 0) 11 5 0 (sT S0 11 5 0 + 1)) p q (q * c)) 14 5 (sn S0 14) (bi is)) 34 0)[t]? = some ((t : Nat) : Int) := by
        show (sE S0 34 0)[t]? = _
        rw [show sE S0 34 0 = idl 4 from u2]
        exact idl_at ht
      refine hW_lget (y := t) H3 rfl rfl rfl hb4 rfl rfl rfl e34 rfl (by omega) (fun b5 hb5 => ?_)
      obtain ⟨r9, cap9, f9', q9, _⟩ := H3.lst hb5 (by decide) (by decide)
      refine wW_cast rfl q9.1 rfl rfl ?_
      refine zW_p 3 rfl ?_
      refine hW_get H3 rfl (hat.set hb2') rfl rfl rfl ?_
      rw [sT_set, if_pos ⟨rfl, rfl, rfl⟩]
      have gB : zEnd g 0 78 [iv (bi is)] σ3 (.inl (some (.ref (z (if is then 10 else 9))))) σ3 := by
        have := c_boolOf (g := g) (σ := σ3) (z := is) C.2.2.1 C.2.2.2.1
        cases is <;> exact this
      refine wS rfl rfl rfl rfl rfl rfl rfl rfl rfl gB (by omega) ?_
      have e35 : sE (sset (mLotS (sset (mt S0 0) 11 5 0 (sT S0 11 5 0 + 1)) p q (q * c)) 14 5 (sn S0 14) (bi is)) 35 t = sE S0 35 t := rfl
      have u7' : (sE S0 35 t).length ≤ 60 := u7
      refine hW_add (x := (z (if is then 10 else 9) : Int)) H3 rfl rfl rfl hb5 rfl rfl rfl ⟨by omega, rfl, by rw [Int.toNat_natCast]; exact C.boolAt is⟩ alv4 (by rw [e35]; omega) rfl (by omega) (fun σ6 H6 k6 => ?_)
      rw [e35] at H6 k6
      have H6' : hRep g w0 σ6 ghx (mRecv3 z S0 p q c t is) J := H6
      have ha6 : hat ghx (mRecv3 z S0 p q c t is) 11 0 a := ha2
      have hb6 : hat ghx (mRecv3 z S0 p q c t is) 14 (sn S0 14) b2 := hb2'
      have hr6 : hat ghx (mRecv3 z S0 p q c t is) 35 t b5 := hb5
      have eE6 : sE (mRecv3 z S0 p q c t is) 35 t = sE S0 35 t ++ [(z (if is then 10 else 9) : Int)] := by unfold mRecv3; rw [sE_ssE, if_pos ⟨rfl, rfl⟩]
      have hk6 : kc σ0 σ6 4 480 := ((((hk0.trans (kc.of e1)).trans k2).trans (kc.of e3)).trans k6).mono (by omega) (by omega)
      have hB6 : ∀ y ∈ sE (mRecv3 z S0 p q c t is) 35 t, isB z y := by
        rw [eE6]
        intro y hy
        rcases List.mem_append.mp hy with h | h
        · exact u6 y h
        · exact ⟨is, by simpa using h⟩
      have hl6 : (sE (mRecv3 z S0 p q c t is) 35 t).length = (sE S0 35 t).length + 1 := by
        rw [eE6, List.length_append]
        rfl
      have hl6' : (sE (mRecv3 z S0 p q c t is) 35 t).length ≤ 1000 := by omega
      have hbl : bls z (sE (mRecv3 z S0 p q c t is) 35 t) = bls z (sE S0 35 t) ++ [is] := by rw [eE6, bls_app C]
      have hbll : (bls z (sE S0 35 t) ++ [is]).length = (sE S0 35 t).length + 1 := by rw [List.length_append, bls_len]; rfl
      have gA := fun (n : Nat) (w : Bool) (hn : n ≤ 10) => M_among (n := n) (w := w) H6' C hr6 hB6 hl6' hn
      rw [hbl] at gA
      have key : ∀ ν : Int, ν = mNextL ρ (bls z (sE S0 35 t) ++ [is]) is → zW g 9 206 342 [(0, .ref a), (4, iv t), (7, .ref b2), (8, iv ρ), (9, .ref b5), (11, iv ν)] [] σ6 (fun r σ' => r = .inl (some (iv (sn S0 14))) ∧ ∃ ghx, gext S0 gh0 ghx ∧ hRep g w0 σ' ghx (if mNextL ρ (bls z (sE S0 35 t) ++ [is]) is = ρ then mRecv3 z S0 p q c t is else ssE (ssA (mRecv3 z S0 p q c t is) 47 0 ((sE S0 47 0).set t (mNextL ρ (bls z (sE S0 35 t) ++ [is]) is))) 35 t []) J ∧ kc σ0 σ' 4 500) := by
        intro ν hν
        rw [← hν]
        have hνs : ν = 110 ∨ ν = 116 ∨ ν = 114 := by
          rw [hν]; unfold mNextL
          repeat' split
          all_goals first
            | exact Or.inl rfl
            | exact Or.inr (Or.inl rfl)
            | exact Or.inr (Or.inr rfl)
            | exact hρ
        have rν : rg ν := by rcases hνs with h | h | h <;> rw [h] <;> exact ⟨by decide, by decide⟩
        have gx0 : gext S0 gh0 ghx := gext.trans hx0 x2 (fun _ => Nat.le_refl _)
        refine zW_p 2 rfl ?_
        by_cases e : ν = ρ
        · rw [if_pos e]
          refine zW_t rfl rfl ((I_eq rν rρ).mpr e) ?_
          refine zW_p 1 rfl ?_
          refine hW_get H6' rfl hb6 rfl rfl rfl ?_
          have en : sT (mRecv3 z S0 p q c t is) 14 0 (sn S0 14) = (sn S0 14 : Int) := by
            unfold mRecv3 mLotS kMLot
            simp only [sT_ssE, sT_set]
            simp [sn_w, sn_set]
          rw [en]
          exact zW_reti rfl rfl rfl ⟨rfl, ghx, gx0, H6', hk6.mono (by omega) (by omega)⟩
        · rw [if_neg e]
          refine zW_f rfl rfl (fun q => e ((I_eq rν rρ).mp q)) ?_
          refine zW_p 1 rfl ?_
          refine hW_getr (j := 0) H6' rfl ha6 rfl rfl rfl (by show sT S0 11 6 0 = _; exact f5) (fun b7 hb7 => ?_)
          refine zW_p 2 rfl ?_
          have e47 : sE (mRecv3 z S0 p q c t is) 47 0 = sE S0 47 0 := rfl
          have u3' : (sE S0 47 0).length = 4 := u3
          refine hW_cast_ (j := t) (v := ν) H6' rfl hb7 (by rw [e47]; omega) (by rw [e47]; omega) (by rcases hνs with h | h | h <;> rw [h] <;> rfl) (fun σ8 H8 e8 => ?_)
          rw [e47] at H8
          refine zW_p 1 rfl ?_
          refine hW_clear H8 rfl rfl rfl (show hat ghx _ 35 t b5 from hr6) rfl rfl rfl rfl (by omega) (fun σ9 H9 e9 => ?_)
          refine zW_p 1 rfl ?_
          refine hW_get H9 rfl (show hat ghx _ 14 (sn S0 14) b2 from hb6) rfl rfl rfl ?_
          have en : sT (ssE (ssA (mRecv3 z S0 p q c t is) 47 0 ((sE S0 47 0).set t ν)) 35 t []) 14 0 (sn S0 14) = (sn S0 14 : Int) := by
            unfold mRecv3 mLotS kMLot
            simp only [sT_ssE, sT_ssA, sT_set]
            simp [sn_w, sn_set]
          rw [en]
          exact zW_reti rfl rfl rfl ⟨rfl, ghx, gx0, H9, ((hk6.trans (kc.of e8)).trans (kc.of e9)).mono (by omega) (by omega)⟩
      refine zW_p 3 rfl ?_
      refine zW_p 2 rfl ?_
      have toKey : ∀ (ν : Int) (lv : zp_L), ν = mNextL ρ (bls z (sE S0 35 t) ++ [is]) is → lvok [(0, .ref a), (4, iv t), (7, .ref b2), (8, iv ρ), (9, .ref b5), (11, iv ν)] lv → zW g 9 206 342 lv [] σ6 (fun r σ' => r = .inl (some (iv (sn S0 14))) ∧ ∃ ghx, gext S0 gh0 ghx ∧ hRep g w0 σ' ghx (if mNextL ρ (bls z (sE S0 35 t) ++ [is]) is = ρ then mRecv3 z S0 p q c t is else ssE (ssA (mRecv3 z S0 p q c t is) 47 0 ((sE S0 47 0).set t (mNextL ρ (bls z (sE S0 35 t) ++ [is]) is))) 35 t []) J ∧ kc σ0 σ' 4 500) := fun ν lv h1 h2 => zW_lx (key ν h1) rfl h2
      by_cases r1 : ρ = 110
      · subst r1
        refine zW_p 1 rfl ?_
        refine zW_p 3 rfl ?_
        refine wS rfl rfl rfl rfl rfl rfl rfl rfl rfl (gA 5 true (by decide)) (by omega) ?_
        have hm := mAmong_le 5 true (bls z (sE S0 35 t) ++ [is])
        rw [hbll] at hm
        refine zW_p 1 rfl ?_
        by_cases r2 : 2 ≤ mAmong 5 true (bls z (sE S0 35 t) ++ [is])
        · refine zW_f rfl rfl (fun e => by have := (I_lt ⟨by omega, by omega⟩ ⟨by decide, by decide⟩).mp e; omega) ?_
          refine zW_p 4 rfl ?_
          exact toKey 116 _ (by unfold mNextL; rw [if_pos rfl, if_pos r2]) ⟨rfl, rfl, rfl, rfl, rfl, rfl, trivial⟩
        · refine zW_t rfl rfl ((I_lt ⟨by omega, by omega⟩ ⟨by decide, by decide⟩).mpr (by omega)) ?_
          refine zW_p 1 rfl ?_
          refine hW_size H6' rfl rfl rfl hr6 rfl rfl rfl (by omega) ?_
          rw [hl6]
          refine zW_p 1 rfl ?_
          by_cases r3 : 4 ≤ (sE S0 35 t).length + 1
          · refine zW_f rfl rfl (fun e => by have := (I_lt ⟨by omega, by omega⟩ ⟨by decide, by decide⟩).mp e; omega) ?_
            refine zW_p 3 rfl ?_
            refine wS rfl rfl rfl rfl rfl rfl rfl rfl rfl (gA 4 false (by decide)) (by omega) ?_
            have hm2 := mAmong_le 4 false (bls z (sE S0 35 t) ++ [is])
            rw [hbll] at hm2
            refine zW_p 1 rfl ?_
            by_cases r4 : mAmong 4 false (bls z (sE S0 35 t) ++ [is]) = 4
            · refine zW_f rfl rfl (fun e => e (by rw [r4]; rfl)) ?_
              refine zW_p 4 rfl ?_
              exact toKey 114 _ (by unfold mNextL; rw [if_pos rfl, if_neg r2, if_pos ⟨by rw [hbll]; exact r3, r4⟩]) ⟨rfl, rfl, rfl, rfl, rfl, rfl, trivial⟩
            · refine zW_t rfl rfl (fun e => r4 (by have := (I_eq ⟨by omega, by omega⟩ ⟨by decide, by decide⟩).mp e; omega)) ?_
              refine zW_p 3 rfl ?_
              exact toKey 110 _ (by unfold mNextL; rw [if_pos rfl, if_neg r2, if_neg (fun q => r4 q.2)]) ⟨rfl, rfl, rfl, rfl, rfl, rfl, trivial⟩
          · refine zW_t rfl rfl ((I_lt ⟨by omega, by omega⟩ ⟨by decide, by decide⟩).mpr (by omega)) ?_
            refine zW_p 3 rfl ?_
            exact toKey 110 _ (by unfold mNextL; rw [if_pos rfl, if_neg r2, if_neg (fun q => r3 (by rw [← hbll]; exact q.1))]) ⟨rfl, rfl, rfl, rfl, rfl, rfl, trivial⟩
      · refine zW_t rfl rfl (fun e => r1 ((I_eq rρ ⟨by decide, by decide⟩).mp e)) ?_
        refine zW_p 2 rfl ?_
        by_cases r2 : ρ = 116
        · subst r2
          refine zW_p 1 rfl ?_
          refine zW_p 1 rfl ?_
          refine hW_size H6' rfl rfl rfl hr6 rfl rfl rfl (by omega) ?_
          rw [hl6]
          refine zW_p 1 rfl ?_
          by_cases r3 : 3 ≤ (sE S0 35 t).length + 1
          · refine zW_f rfl rfl (fun e => by have := (I_lt ⟨by omega, by omega⟩ ⟨by decide, by decide⟩).mp e; omega) ?_
            refine zW_p 3 rfl ?_
            refine wS rfl rfl rfl rfl rfl rfl rfl rfl rfl (gA 3 false (by decide)) (by omega) ?_
            have hm2 := mAmong_le 3 false (bls z (sE S0 35 t) ++ [is])
            rw [hbll] at hm2
            refine zW_p 1 rfl ?_
            by_cases r4 : mAmong 3 false (bls z (sE S0 35 t) ++ [is]) = 3
            · refine zW_f rfl rfl (fun e => e (by rw [r4]; rfl)) ?_
              refine zW_p 4 rfl ?_
              exact toKey 110 _ (by unfold mNextL; rw [if_neg (by decide), if_pos rfl, if_pos ⟨by rw [hbll]; exact r3, r4⟩]) ⟨rfl, rfl, rfl, rfl, rfl, rfl, trivial⟩
            · refine zW_t rfl rfl (fun e => r4 (by have := (I_eq ⟨by omega, by omega⟩ ⟨by decide, by decide⟩).mp e; omega)) ?_
              refine zW_p 3 rfl ?_
              exact toKey 116 _ (by unfold mNextL; rw [if_neg (by decide), if_pos rfl, if_neg (fun q => r4 q.2)]) ⟨rfl, rfl, rfl, rfl, rfl, rfl, trivial⟩
          · refine zW_t rfl rfl ((I_lt ⟨by omega, by omega⟩ ⟨by decide, by decide⟩).mpr (by omega)) ?_
            refine zW_p 3 rfl ?_
            exact toKey 116 _ (by unfold mNextL; rw [if_neg (by decide), if_pos rfl, if_neg (fun q => r3 (by rw [← hbll]; exact q.1))]) ⟨rfl, rfl, rfl, rfl, rfl, rfl, trivial⟩
        · refine zW_t rfl rfl (fun e => r2 ((I_eq rρ ⟨by decide, by decide⟩).mp e)) ?_
          refine zW_p 1 rfl ?_
          refine hW_get H6' rfl hb6 rfl rfl rfl ?_
          have e5 : sT (mRecv3 z S0 p q c t is) 14 5 (sn S0 14) = bi is := by
            unfold mRecv3
            rw [sT_ssE, sT_set, if_pos ⟨rfl, rfl, rfl⟩]
          rw [e5]
          cases is with
          | true =>
            refine zW_p 3 rfl ?_
            exact toKey 110 _ (by unfold mNextL; rw [if_neg r1, if_neg r2]; rfl) ⟨rfl, rfl, rfl, rfl, rfl, rfl, trivial⟩
          | false =>
            refine zW_p 1 rfl ?_
            exact toKey ρ _ (by unfold mNextL; rw [if_neg r1, if_neg r2]; rfl) ⟨rfl, rfl, rfl, rfl, rfl, rfl, trivial⟩
    by_cases h : mLim ρ < v
    · refine zW_f rfl rfl (fun e => by rw [hw] at e rw'; have := (I_le hv rw').mp e; omega) ?_
      refine zW_p 2 rfl ?_
      exact J2 true (by rw [decide_eq_true h])
    · refine zW_t rfl rfl ((I_le hv rw').mpr (by rw [hw]; omega)) ?_
      refine zW_p 1 rfl ?_
      exact J2 false (by rw [decide_eq_false h])
  refine zW_p 1 rfl ?_
  refine zW_p 4 rfl ?_
  by_cases r1 : ρ = 110
  · subst r1
    refine zW_p 1 rfl ?_
    refine zW_p 2 rfl ?_
    exact zW_lx (J1 2 rfl) rfl ⟨rfl, rfl, rfl, rfl, rfl, rfl, rfl, rfl, trivial⟩
  · refine zW_t rfl rfl (fun e => r1 ((I_eq rρ ⟨by decide, by decide⟩).mp e)) ?_
    refine zW_p 2 rfl ?_
    by_cases r2 : ρ = 116
    · subst r2
      refine zW_p 1 rfl ?_
      refine zW_p 2 rfl ?_
      exact zW_lx (J1 1 rfl) rfl ⟨rfl, rfl, rfl, rfl, rfl, rfl, rfl, rfl, trivial⟩
    · refine zW_t rfl rfl (fun e => r2 ((I_eq rρ ⟨by decide, by decide⟩).mp e)) ?_
      refine zW_p 1 rfl ?_
      exact zW_lx (J1 4 (by unfold mLim; rw [if_neg r1, if_neg r2])) rfl ⟨rfl, rfl, rfl, rfl, rfl, rfl, rfl, rfl, trivial⟩
end ZMRV
