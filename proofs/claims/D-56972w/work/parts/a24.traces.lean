/-! TRACES: isIn, touched, lotsIn (of the model) -/
set_option maxRecDepth 100000
/-- found among these; what the search costs -/
def inStep (ch : Nat → List Nat) (x : Nat) (s : Bool × Nat) (y : Nat) : Bool × Nat := if s.1 = true then s else (decide (y = x) || tHas ch 100 x y, s.2 + (if y = x then 0 else tWalk ch 100 x y))
def fInQ (S : hS) (x o q : Nat) : Bool × Nat := (((sE S 27 (fDelL S o)).take q).map (fLotOf S)).foldl (inStep (fch S) x) (false, 1)
def fInO (S : hS) (x o : Nat) : Bool × Nat := fInQ S x o (sE S 27 (fDelL S o)).length
def mInQ (S : hS) (x o q : Nat) : Bool × Nat := (((sE S 40 o).take q).map (fun t => t.toNat)).foldl (inStep (mch S) x) (false, 1)
def mInO (S : hS) (x o : Nat) : Bool × Nat := mInQ S x o (sE S 40 o).length
def cntP (f : Nat → Bool × Nat) (n : Nat) : Nat × Nat := (List.range n).foldl (fun s o => (s.1 + (if (f o).1 = true then 1 else 0), s.2 + (f o).2)) (0, 1)
theorem cntP_succ {f : Nat → Bool × Nat} {n : Nat} : cntP f (n + 1) = ((cntP f n).1 + (if (f n).1 = true then 1 else 0), (cntP f n).2 + (f n).2) := by
  unfold cntP
  rw [List.range_succ, List.foldl_append]
  rfl
section ZTC
variable {g : zG} {w0 : hG} {z : Nat → Nat} {σ : zS} {gh : Nat → Nat → Nat} {S T : hS} {J : zw_W} {a b o x xb : Nat} {v : Int}
theorem fInQ_succ {q y : Nat} (h : (sE S 27 (fDelL S o))[q]? = some (y : Int)) : fInQ S x o (q + 1) = inStep (fch S) x (fInQ S x o q) (fLotOf S y) := by
  unfold fInQ
  rw [take_snoc h, List.map_append, List.foldl_append]
  rfl
theorem mInQ_succ {q y : Nat} (h : (sE S 40 o)[q]? = some (y : Int)) : mInQ S x o (q + 1) = inStep (mch S) x (mInQ S x o q) y := by
  unfold mInQ
  rw [take_snoc h, List.map_append, List.foldl_append]
  rfl
theorem F_isInO (H : hRep g w0 σ gh S J) (hW : fW S) (hT : fTk S) (h100 : sn S 6 ≤ 100) (hx : hat gh S 6 x xb) (hb : hat gh S 8 o b) (h6 : 0 ≤ sT S 8 6 o) :
    ∃ σ' : zS, zEnd g 104 28 [.ref xb, .ref b] σ (.inl (some (iv (bi (fInO S x o).1)))) σ' ∧ hRep g w0 σ' gh S J ∧ kc σ σ' (fInO S x o).2 (4 * (fInO S x o).2) := by
  have hdl : sT S 8 6 o = (fDelL S o : Nat) := (Int.toNat_of_nonneg h6).symm
  have main : zW g 104 28 0 (lv_args 0 [.ref xb, .ref b]) [] σ (fun r σ' => r = .inl (some (iv (bi (fInO S x o).1))) ∧ hRep g w0 σ' gh S J ∧ kc σ σ' (fInO S x o).2 (4 * (fInO S x o).2)) := by
    refine zW_p 3 rfl ?_
    refine hW_getr H rfl hb rfl rfl rfl hdl (fun b1 hb1 => ?_)
    refine hW_iter H rfl rfl rfl hb1 rfl rfl rfl (by omega) (fun σ1 it hJ H1 k1 => ?_)
    refine zW_p 1 rfl ?_
    refine zW_lv ((3, .ref it) :: [(0, .ref xb), (2, iv (bi (fInQ S x o 0).1))]) rfl ⟨rfl, rfl, rfl, trivial⟩ ?_
    refine hW_loop (c := 27) (i := fDelL S o) (b := b1) (n := 7) (xs := sE S 27 (fDelL S o)) (mc := Int32.ofInt (sM S 27 (fDelL S o))) (fun q lv κ gh' S' => lv = [(0, .ref xb), (2, iv (bi (fInQ S x o q).1))] ∧ gh' = gh ∧ S' = S ∧ kd σ.2 κ (fInQ S x o q).2 (4 * (fInQ S x o q).2)) hJ rfl rfl rfl (fun _ => rfl) rfl rfl rfl (fun _ => rfl) (fun _ => rfl) rfl rfl rfl (by omega) ?_ ?_ ?_ _ _ _ _ H1 ⟨rfl, rfl, rfl, k1⟩
    · rintro q lv κ gh' S' ⟨rfl, rfl, rfl, hk⟩
      exact ⟨hb1, rfl, rfl⟩
    · rintro q y lv σ2 gh' S' J2 e hq hy ⟨rfl, rfl, rfl, hk⟩ H2 hd he hback
      obtain ⟨l, hl⟩ : ∃ l : Nat, sT S' 7 0 y = l := ⟨(sT S' 7 0 y).toNat, (Int.toNat_of_nonneg (hT y he.1)).symm⟩
      have hly : fLotOf S' y = l := by unfold fLotOf; rw [Int.toNat_natCast, hl, Int.toNat_natCast]
      have hs := fInQ_succ (x := x) hy
      rw [hly] at hs
      generalize hL : fInQ S' x o q = L at hk hs
      obtain ⟨fd, ct⟩ := L
      unfold inStep at hs
      simp only at hk hs
      have back : ∀ (r : Bool) (σ5 : zS) (lv : zp_L), hRep g w0 σ5 gh' S' J2 → r = (fInQ S' x o (q + 1)).1 → kd σ.2 σ5.2 (fInQ S' x o (q + 1)).2 (4 * (fInQ S' x o (q + 1)).2) → lvok [(0, .ref xb), (3, .ref it)] lv → zW g 104 28 60 lv [iv (bi r)] σ5 (fun r σ' => r = .inl (some (iv (bi (fInO S' x o).1))) ∧ hRep g w0 σ' gh' S' J ∧ kc σ σ' (fInO S' x o).2 (4 * (fInO S' x o).2)) := by
        intro r σ5 lv H5 hr hk5 hlv
        refine zW_ly hlv rfl ?_
        refine zW_p 2 rfl ?_
        refine zW_lv ((3, .ref it) :: [(0, .ref xb), (2, iv (bi r))]) rfl ⟨rfl, rfl, rfl, trivial⟩ ?_
        exact hback _ σ5 _ _ H5 ⟨by rw [hr], rfl, rfl, hk5⟩
      refine hW_cast H2 rfl he rfl rfl rfl ?_
      refine zW_p 2 rfl ?_
      cases fd with
      | true =>
        rw [if_pos rfl] at hs
        refine zW_p 3 rfl ?_
        exact back true σ2 _ H2 (by rw [hs]) (by rw [hs]; exact hk) ⟨rfl, rfl, trivial⟩
      | false =>
        rw [if_neg (by decide)] at hs
        refine zW_p 2 rfl ?_
        refine hW_getr (j := l) H2 rfl he rfl rfl rfl hl (fun lb hlb => ?_)
        refine zW_p 1 rfl ?_
        by_cases e1 : l = x
        · rw [if_pos e1, decide_eq_true e1, Bool.true_or] at hs
          refine zW_t rfl rfl (by rw [← hlb.2, ← hx.2, e1]) ?_
          refine zW_p 2 rfl ?_
          exact back true σ2 _ H2 (by rw [hs]) (by rw [hs]; exact hk) ⟨rfl, rfl, trivial⟩
        · rw [if_neg e1, decide_eq_false e1, Bool.false_or] at hs
          refine zW_f rfl rfl (fun q => e1 ((H2.inj hlb.1 hx.1 (by rw [hlb.2, hx.2]; exact q)).2)) ?_
          refine zW_p 1 rfl ?_
          refine hW_getr (j := l) H2 rfl he rfl rfl rfl hl (fun lb2 hlb2 => ?_)
          refine zW_p 1 rfl ?_
          obtain ⟨σ6, g6, H6, k6⟩ := F_isOf 100 (show l < 100 by have := hlb2.1; omega) H2 hlb2 hx hW
          refine wV rfl rfl rfl rfl rfl rfl rfl (H2.rc hlb2 rfl rfl) g6 (by omega) ?_
          have kk : kd σ.2 σ6.2 (ct + tWalk (fch S') 100 x l) (4 * (ct + tWalk (fch S') 100 x l)) := (hk.trans k6).mono (Nat.le_refl _) (by omega)
          cases hh : tHas (fch S') 100 x l with
          | true =>
            rw [hh] at hs
            refine zW_p 3 rfl ?_
            exact back true σ6 _ H6 (by rw [hs]) (by rw [hs]; exact kk) ⟨rfl, rfl, trivial⟩
          | false =>
            rw [hh] at hs
            refine zW_p 2 rfl ?_
            exact back false σ6 _ H6 (by rw [hs]) (by rw [hs]; exact kk) ⟨rfl, rfl, trivial⟩
    · rintro lv σ2 gh' S' H2 ⟨rfl, rfl, rfl, hk⟩
      refine zW_p 1 rfl ?_
      exact zW_reti rfl rfl (by cases (fInQ S' x o (sE S' 27 (fDelL S' o)).length).1 <;> rfl) ⟨rfl, H2, hk⟩
  obtain ⟨r, σ', h1, rfl, h2⟩ := main
  exact ⟨σ', h1, h2⟩
theorem F_touched (H : hRep g w0 σ gh S J) (hF : fFix S) (hW : fW S) (hT : fTk S) (hO : fOrd z S) (ha : hat gh S 0 0 a) (hx : x < sn S 6) :
    ∃ σ' : zS, zEnd g 106 19 [.ref a, iv x] σ (.inl (some (iv (cntP (fInO S x) (sn S 8)).1))) σ' ∧ hRep g w0 σ' gh S J ∧ kc σ σ' (cntP (fInO S x) (sn S 8)).2 (4 * (cntP (fInO S x) (sn S 8)).2) := by
  obtain ⟨xb, hxb, g1⟩ := F_lot H hF ha hx
  obtain ⟨f0, f1, f2, f3, f4, f5, f6, f7, f8, f9, fa, fb, fc, fd⟩ := hF
  have main : zW g 106 19 0 (lv_args 0 [.ref a, iv x]) [] σ (fun r σ' => r = .inl (some (iv (cntP (fInO S x) (sn S 8)).1)) ∧ hRep g w0 σ' gh S J ∧ kc σ σ' (cntP (fInO S x) (sn S 8)).2 (4 * (cntP (fInO S x) (sn S 8)).2)) := by
    refine zW_p 2 rfl ?_
    refine wV rfl rfl rfl rfl rfl rfl rfl (H.rc ha rfl rfl) g1 (by omega) ?_
    refine zW_p 4 rfl ?_
    refine hW_getr (j := 0) H rfl ha rfl rfl rfl f4 (fun b1 hb1 => ?_)
    refine hW_iter H rfl rfl rfl hb1 rfl rfl rfl (by omega) (fun σ1 it hJ H1 k1 => ?_)
    refine zW_p 1 rfl ?_
    refine zW_lv ((4, .ref it) :: [(2, .ref xb), (3, iv (cntP (fInO S x) 0).1)]) rfl ⟨rfl, rfl, rfl, trivial⟩ ?_
    refine hW_loop (c := 23) (i := 0) (b := b1) (n := 8) (xs := sE S 23 0) (mc := Int32.ofInt (sM S 23 0)) (fun p lv κ gh' S' => lv = [(2, .ref xb), (3, iv (cntP (fInO S x) p).1)] ∧ gh' = gh ∧ S' = S ∧ kd σ.2 κ (cntP (fInO S x) p).2 (4 * (cntP (fInO S x) p).2)) hJ rfl rfl rfl (fun _ => rfl) rfl rfl rfl (fun _ => rfl) (fun _ => rfl) rfl rfl rfl (by omega) ?_ ?_ ?_ _ _ _ _ H1 ⟨rfl, rfl, rfl, k1⟩
    · rintro q lv κ gh' S' ⟨rfl, rfl, rfl, hk⟩
      exact ⟨hb1, rfl, rfl⟩
    · rintro p y lv σ2 gh' S' J2 e hp hy ⟨rfl, rfl, rfl, hk⟩ H2 hd he hback
      rw [f8, idl_len] at hp
      rw [f8, idl_at hp] at hy
      obtain rfl : p = y := by have := Option.some.inj hy; omega
      have hs := cntP_succ (f := fInO S' x) (n := p)
      obtain ⟨o1, o2, o3, o4⟩ := hO p he.1
      refine hW_cast H2 rfl he rfl rfl rfl ?_
      refine zW_p 4 rfl ?_
      obtain ⟨σ6, g6, H6, k6⟩ := F_isInO H2 hW hT fa hxb he o3
      refine wS rfl rfl rfl rfl rfl rfl rfl rfl rfl g6 (by omega) ?_
      have kk : kd σ.2 σ6.2 (cntP (fInO S' x) (p + 1)).2 (4 * (cntP (fInO S' x) (p + 1)).2) := by rw [hs]; exact (hk.trans k6).mono (Nat.le_refl _) (by show _ ≤ 4 * ((cntP (fInO S' x) p).2 + (fInO S' x p).2); omega)
      cases hh : (fInO S' x p).1 with
      | true =>
        rw [hh, if_pos rfl] at hs
        refine zW_p 4 rfl ?_
        rw [I_add]
        refine zW_p 2 rfl ?_
        refine zW_lv ((4, .ref it) :: [(2, .ref xb), (3, iv (cntP (fInO S' x) (p + 1)).1)]) rfl ⟨rfl, rfl, by rw [hs]; rfl, trivial⟩ ?_
        exact hback _ σ6 _ _ H6 ⟨rfl, rfl, rfl, kk⟩
      | false =>
        rw [hh, if_neg (by decide)] at hs
        refine zW_p 3 rfl ?_
        rw [I_add]
        refine zW_p 2 rfl ?_
        refine zW_lv ((4, .ref it) :: [(2, .ref xb), (3, iv (cntP (fInO S' x) (p + 1)).1)]) rfl ⟨rfl, rfl, by rw [hs]; rfl, trivial⟩ ?_
        exact hback _ σ6 _ _ H6 ⟨rfl, rfl, rfl, kk⟩
    · rintro lv σ2 gh' S' H2 ⟨rfl, rfl, rfl, hk⟩
      rw [f8, idl_len] at hk ⊢
      refine zW_p 1 rfl ?_
      exact zW_reti rfl rfl rfl ⟨rfl, H2, hk⟩
  obtain ⟨r, σ', h1, rfl, h2⟩ := main
  exact ⟨σ', h1, h2⟩
theorem F_isIn {y : Nat} (H : hRep g w0 σ gh S J) (hF : fFix S) (hW : fW S) (ha : hat gh S 0 0 a) (hx : x < sn S 6) (hy : y < sn S 6) :
    ∃ σ' : zS, zEnd g 104 181 [.ref a, iv x, iv y] σ (.inl (some (iv (bi (tHas (fch S) 100 x y))))) σ' ∧ hRep g w0 σ' gh S J ∧ kc σ σ' (tWalk (fch S) 100 x y) (4 * tWalk (fch S) 100 x y) := by
  obtain ⟨xb, hxb, g1⟩ := F_lot H hF ha hx
  obtain ⟨yb, hyb, g2⟩ := F_lot H hF ha hy
  have h100 : sn S 6 ≤ 100 := hF.2.2.2.2.2.2.2.2.2.2.1
  obtain ⟨σ3, g3, H3, k3⟩ := F_isOf 100 (show y < 100 by omega) H hyb hxb hW
  refine ⟨σ3, zEnd_of ?_, H3, k3⟩
  refine zW_p 2 rfl ?_
  refine wV rfl rfl rfl rfl rfl rfl rfl (H.rc ha rfl rfl) g1 (by omega) ?_
  refine zW_p 3 rfl ?_
  refine wV rfl rfl rfl rfl rfl rfl rfl (H.rc ha rfl rfl) g2 (by omega) ?_
  refine zW_p 1 rfl ?_
  refine wV rfl rfl rfl rfl rfl rfl rfl (H.rc hyb rfl rfl) g3 (by omega) ?_
  exact zW_reti rfl rfl (by cases tHas (fch S) 100 x y <;> rfl) ⟨rfl, rfl⟩
end ZTC
