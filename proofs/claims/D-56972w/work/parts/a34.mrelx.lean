/-! THE MODEL: the loop of release -/
set_option maxRecDepth 100000
def mRelStep (o : Nat) (S : hS) (t : Int × Int) : hS := sset (mGive (mUnres S t) t.1.toNat (sT S 19 0 t.2.toNat)) 15 11 o (sT S 15 11 o + mCost (mUnres S t) t.1.toNat (sT S 19 0 t.2.toNat))
def mRelN (S : hS) (o p : Nat) : hS := ((mZs S o).take p).foldl (mRelStep o) S
theorem mRel_sn {S : hS} {o p c : Nat} : sn (mRelN S o p) c = sn S c := fold_keep (f := mRelStep o) (fun S => sn S c) (fun _ _ => rfl) _ S
theorem mRel_sE {S : hS} {o p c i : Nat} : sE (mRelN S o p) c i = sE S c i := fold_keep (f := mRelStep o) (fun S => sE S c i) (fun _ _ => rfl) _ S
theorem mRel_sT {S : hS} {o p c k i : Nat} (h : ¬ (c = 14 ∧ (k = 3 ∨ k = 4 ∨ k = 2))) (h2 : ¬ (c = 15 ∧ k = 11 ∧ i = o)) : sT (mRelN S o p) c k i = sT S c k i := fold_keep (f := mRelStep o) (fun S => sT S c k i) (fun S t => by
  unfold mRelStep mGive mUnres
  rw [sT_set, if_neg h2, sT_set, if_neg (by omega), sT_set, if_neg (by omega), sT_set, if_neg (by omega)]) _ S
section ZMRX
variable {g : zG} {w0 : hG} {σ : zS} {gh : Nat → Nat → Nat} {S T : hS} {J : zw_W} {a b o : Nat} {Q : Option Value ⊕ String → zS → Prop}
theorem M_relX (H : hRep g w0 σ gh T J) (hO : mOrd2 T) (hb : hat gh T 15 o b) (hG : ∀ (p : Nat) (t : Int × Int), (mZs T o)[p]? = some t → mGok (mUnres (mRelN T o p) t) t.1.toNat (sT T 19 0 t.2.toNat))
    (hQ : ∀ (σ' : zS) (lv : zp_L), hRep g w0 σ' gh (mRelN T o (sE T 38 o).length) J → σ'.2 = σ.2 → lvok [(0, .ref a), (2, .ref b)] lv → zW g 106 234 169 lv [] σ' Q) :
    zW g 106 234 80 [(0, .ref a), (2, .ref b)] [] σ Q := by
  obtain ⟨o6, o7, o16, olen, o1000, l38, l39, l40⟩ := hO o hb.1
  have loop : ∀ (q p : Nat) (σ1 : zS), p + q = (sE T 38 o).length → hRep g w0 σ1 gh (mRelN T o p) J → σ1.2 = σ.2 →
      zW g 106 234 82 [(0, .ref a), (2, .ref b), (3, iv p)] [] σ1 Q := by
    intro q
    induction q with
    | zero =>
      intro p σ1 hp H1 hs
      have hb' : hat gh (mRelN T o p) 15 o b := ⟨by rw [mRel_sn]; exact hb.1, hb.2⟩
      refine zW_p 2 rfl ?_
      refine hW_getr (j := o) H1 rfl hb' rfl rfl rfl (by rw [mRel_sT (by omega) (by omega)]; exact o6) (fun b1 hb1 => ?_)
      refine hW_size H1 rfl rfl rfl hb1 rfl rfl rfl (by omega) ?_
      rw [mRel_sE]
      refine zW_t rfl rfl ((I_le ⟨by omega, by omega⟩ ⟨by omega, by omega⟩).mpr (by omega)) ?_
      have hp0 : p = (sE T 38 o).length := by omega
      rw [hp0] at H1
      exact hQ σ1 _ H1 hs ⟨rfl, rfl, trivial⟩
    | succ q ih =>
      intro p σ1 hp H1 hs
      have hb' : hat gh (mRelN T o p) 15 o b := ⟨by rw [mRel_sn]; exact hb.1, hb.2⟩
      have hlt : p < (sE T 38 o).length := by omega
      have hlt2 : p < (sE T 39 o).length := by omega
      have hL : ∀ (c : Nat) (hc : c = 38 ∨ c = 39) (hl : p < (sE T c o).length), ∃ y : Nat, (sE T c o)[p]? = some (y : Int) := by
        intro c hc hl
        refine ⟨((sE T c o)[p]).toNat, ?_⟩
        have hat' : hat gh (mRelN T o p) c o (gh c o) := ⟨by rw [mRel_sn]; rcases hc with rfl | rfl <;> assumption, rfl⟩
        obtain ⟨r, cap, f, q1, q2, _⟩ := H1.lst hat' (by rcases hc with rfl | rfl <;> decide) (by rcases hc with rfl | rfl <;> decide)
        have h0 := (q2 p ((sE T c o)[p]) (by rw [mRel_sE]; exact List.getElem?_eq_getElem hl)).1
        rw [List.getElem?_eq_getElem hl, Int.toNat_of_nonneg h0]
      obtain ⟨x, hx⟩ := hL 38 (Or.inl rfl) hlt
      obtain ⟨j, hj⟩ := hL 39 (Or.inr rfl) hlt2
      have hz : (mZs T o)[p]? = some ((x : Int), (j : Int)) := by
        unfold mZs
        rw [List.getElem?_zip_eq_some]
        exact ⟨hx, hj⟩
      have hgk := hG p _ hz
      simp only [Int.toNat_natCast] at hgk
      have hnx : mRelN T o (p + 1) = mRelStep o (mRelN T o p) ((x : Int), (j : Int)) := by
        unfold mRelN
        rw [take_snoc hz, List.foldl_append]
        rfl
      have e19 : sT (mRelN T o p) 19 0 j = sT T 19 0 j := mRel_sT (by omega) (by omega)
      refine zW_p 2 rfl ?_
      refine hW_getr (j := o) H1 rfl hb' rfl rfl rfl (by rw [mRel_sT (by omega) (by omega)]; exact o6) (fun b1 hb1 => ?_)
      refine hW_size H1 rfl rfl rfl hb1 rfl rfl rfl (by omega) ?_
      rw [mRel_sE]
      refine zW_f rfl rfl (fun e => by have := (I_le ⟨by omega, by omega⟩ ⟨by omega, by omega⟩).mp e; omega) ?_
      refine zW_p 1 rfl ?_
      refine hW_getr (j := o) H1 rfl hb' rfl rfl rfl (by rw [mRel_sT (by omega) (by omega)]; exact o6) (fun b2 hb2 => ?_)
      refine zW_p 1 rfl ?_
      refine hW_lget (y := x) H1 rfl rfl rfl hb2 rfl rfl rfl (by rw [mRel_sE]; exact hx) rfl (by omega) (fun b3 hb3 => ?_)
      refine hW_cast H1 rfl hb3 rfl rfl rfl ?_
      refine zW_p 1 rfl ?_
      refine hW_get H1 rfl hb3 rfl rfl rfl ?_
      refine zW_p 1 rfl ?_
      refine hW_getr (j := o) H1 rfl hb' rfl rfl rfl (by rw [mRel_sT (by omega) (by omega)]; exact o7) (fun b4 hb4 => ?_)
      refine zW_p 1 rfl ?_
      refine hW_lget (y := j) H1 rfl rfl rfl hb4 rfl rfl rfl (by rw [mRel_sE]; exact hj) rfl (by omega) (fun b5 hb5 => ?_)
      refine hW_cast H1 rfl hb5 rfl rfl rfl ?_
      refine hW_intVal H1 rfl rfl rfl hb5 rfl (by omega) ?_
      refine zW_p 1 rfl ?_
      rw [I_sub]
      refine hW_put (v := sT (mRelN T o p) 14 3 x - sT (mRelN T o p) 19 0 j) H1 rfl hb3 rfl rfl rfl (Or.inl rfl) rfl rfl rfl alv0 (fun e => absurd e (by decide)) (fun σ2 H2 e2 => ?_)
      have H2' : hRep g w0 σ2 gh (mUnres (mRelN T o p) ((x : Int), (j : Int))) J := H2
      have tU : ∀ c k i, ¬ (c = 14 ∧ k = 3) → sT (mUnres (mRelN T o p) ((x : Int), (j : Int))) c k i = sT (mRelN T o p) c k i := fun c k i h => by
        unfold mUnres
        rw [sT_set, if_neg (fun e => h ⟨e.1, e.2.1⟩)]
      have hbU : hat gh (mUnres (mRelN T o p) ((x : Int), (j : Int))) 15 o b := hb'
      refine zW_p 2 rfl ?_
      refine hW_get H2' rfl hbU rfl rfl rfl ?_
      rw [tU 15 11 o (by omega)]
      refine zW_p 1 rfl ?_
      refine hW_getr (j := o) H2' rfl hbU rfl rfl rfl (by rw [tU _ _ _ (by omega), mRel_sT (by omega) (by omega)]; exact o6) (fun b6 hb6 => ?_)
      refine zW_p 1 rfl ?_
      have eU38 : ∀ c, sE (mUnres (mRelN T o p) ((x : Int), (j : Int))) c o = sE T c o := fun c => by
        show sE (mRelN T o p) c o = _
        exact mRel_sE
      refine hW_lget (y := x) H2' rfl rfl rfl hb6 rfl rfl rfl (by rw [eU38]; exact hx) rfl (by omega) (fun b7 hb7 => ?_)
      refine hW_cast H2' rfl hb7 rfl rfl rfl ?_
      refine zW_p 1 rfl ?_
      refine hW_getr (j := o) H2' rfl hbU rfl rfl rfl (by rw [tU _ _ _ (by omega), mRel_sT (by omega) (by omega)]; exact o7) (fun b8 hb8 => ?_)
      refine zW_p 1 rfl ?_
      refine hW_lget (y := j) H2' rfl rfl rfl hb8 rfl rfl rfl (by rw [eU38]; exact hj) rfl (by omega) (fun b9 hb9 => ?_)
      refine hW_cast H2' rfl hb9 rfl rfl rfl ?_
      refine hW_intVal H2' rfl rfl rfl hb9 rfl (by omega) ?_
      rw [tU 19 0 j (by omega), e19]
      obtain ⟨σ3, g3, H3, e3⟩ := M_take (p := sT T 19 0 j) H2' hb7 hgk
      refine wS rfl rfl rfl rfl rfl rfl rfl rfl rfl g3 (by omega) ?_
      refine zW_p 1 rfl ?_
      rw [L_add]
      refine hW_put (v := sT (mRelN T o p) 15 11 o + mCost (mUnres (mRelN T o p) ((x : Int), (j : Int))) x (sT T 19 0 j)) H3 rfl (show hat gh _ 15 o b from hb') rfl rfl rfl (Or.inl rfl) rfl rfl rfl alv1 (fun e => absurd e (by decide)) (fun σ4 H4 e4 => ?_)
      have H4' : hRep g w0 σ4 gh (mRelN T o (p + 1)) J := by
        rw [hnx]
        unfold mRelStep
        simp only [Int.toNat_natCast]
        rw [e19]
        exact H4
      refine zW_p 1 rfl ?_
      rw [I_add]
      refine zW_p 1 rfl ?_
      refine zW_lv [(0, .ref a), (2, .ref b), (3, iv ((p + 1 : Nat) : Int))] rfl ⟨rfl, rfl, rfl, trivial⟩ ?_
      exact ih (p + 1) σ4 (by omega) H4' (e4.trans (e3.trans (e2.trans hs)))
  refine zW_p 2 rfl ?_
  refine zW_lv [(0, .ref a), (2, .ref b), (3, iv (0 : Nat))] rfl ⟨rfl, rfl, rfl, trivial⟩ ?_
  exact loop (sE T 38 o).length 0 σ (by omega) H rfl
end ZMRX
