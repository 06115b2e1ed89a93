/-! THE ROOM: while nothing was put on hold, no made lot is held -/
set_option maxRecDepth 100000
/-- what holds while no lot was held or measured -/
def i7 (X : hS) : Prop := (∀ l : Nat, l < sn X 6 → (sT X 6 1 l).toNat % 2 = 0 → sT X 6 7 l = 0) ∧ ∀ o : Nat, o < sn X 8 → ∀ e ∈ fTl X o, hldF X e.1.toNat = false
section ZF9
variable {z : Nat → Nat} {k k2 o l : Nat} {X Y S S2 T G : hS}
theorem hld_gW (g : gW z X Y) (hk : hkR X Y) (hI : iAll z k X) (hl : l < sn X 6) : hldF Y l = hldF X l := by
  unfold hldF
  refine tHeld_cg (N := sn X 6) (fun i hi => ?_) (fun i hi => ?_) hI.chlt 100 l hl
  · unfold fh
    rw [hk.2.1 i hi]
  · have e3 : sT Y 6 3 i = sT X 6 3 i := g.1.2 3 i hi (by decide)
    have e26 := g.2.2.2.2.2.2.2.2.2.2 i hi
    unfold fch
    rw [e3, e26]
    refine List.map_congr_left (fun t ht => ?_)
    have h3 := (hI.lo i hi).2.2.2.1
    have := hI.tk.1 (sT X 6 3 i).toNat (by omega) t ht
    rw [g.2.1.2 0 t.toNat (by omega) (by decide)]
theorem i7_of (g : gW z X Y) (hk : hkR X Y) (hI : iAll z k X) (H : ∀ o : Nat, o < sn Y 8 → ∀ e ∈ fTl Y o, (o < sn X 8 ∧ e ∈ fTl X o) ∨ (e.1.toNat < sn X 6 ∧ hldF X e.1.toNat = false)) (h : i7 X) : i7 Y := by
  obtain ⟨h1, h2⟩ := h
  refine ⟨fun l hl hm => ?_, fun o ho e he => ?_⟩
  · by_cases h6 : l < sn X 6
    · rw [hk.2.1 l h6]
      rw [g.1.2 1 l h6 (by decide)] at hm
      exact h1 l h6 hm
    · exact hk.2.2 l (by omega) hl hm
  · rcases H o ho e he with ⟨a, b⟩ | ⟨a, b⟩
    · have := fTl_at hI a e b
      rw [hld_gW g hk hI (by omega)]
      exact h2 o a e b
    · rw [hld_gW g hk hI a]
      exact b
/-- made lots are free -/
theorem i7.made (h : i7 X) (hI : iAll z k X) (hL : iLt z X) (hl : l < sn X 6) (hm : (sT X 6 1 l).toNat % 2 = 0) : hldF X l = false := by
  obtain ⟨h1, h2⟩ := h
  have h0 := h1 l hl hm
  rcases hL l hl with ⟨w, -⟩ | ⟨-, -, o, w3, w4, w5, -⟩
  · omega
  · have e : fch X l = ofs (fTl X o) := by
      unfold fch ofs fTl fOL
      rw [w5, List.map_map]
      rfl
    unfold hldF
    have e100 : tHeld (fh X) (fch X) 100 l = (fh X l || (fch X l).any (tHeld (fh X) (fch X) 99)) := rfl
    rw [e100]
    have hf : fh X l = false := by
      unfold fh
      rw [h0]; rfl
    rw [hf, Bool.false_or, List.any_eq_false]
    intro y hy
    have hyl := hI.chl l hl y hy
    rw [e] at hy
    obtain ⟨en, hen, rfl⟩ := List.mem_map.mp hy
    have h3 := h2 o w3 en hen
    unfold hldF at h3
    have h100 := hI.n100
    have hfu : ∀ n m i : Nat, i < sn X 6 → i < n → i < m → tHeld (fh X) (fch X) n i = tHeld (fh X) (fch X) m i := by
      intro n
      induction n with
      | zero => intro m i _ h; omega
      | succ n ih =>
        intro m i hi hn hm
        cases m with
        | zero => omega
        | succ m =>
          unfold tHeld
          rw [any_cg (fun y hy => by
            have := hI.chl i hi y hy
            exact ih m y (by omega) (by omega) (by omega))]
    rw [hfu 99 100 _ (by omega) (by omega) (by omega), h3]
    exact Bool.false_ne_true
/-- lists stay, or no new ones -/
theorem i7.q (h : i7 S) (g : gW z S S2) (hk : hkR S S2) (hI : iAll z k S) (e26 : ∀ q : Nat, q < sn S 8 → fTl S2 q = fTl S q) (hn : ∀ q : Nat, sn S 8 ≤ q → q < sn S2 8 → fTl S2 q = []) : i7 S2 :=
  i7_of g hk hI (fun o ho e he => by
    by_cases h8 : o < sn S 8
    · rw [e26 o h8] at he
      exact Or.inl ⟨h8, he⟩
    · rw [hn o (by omega) ho] at he
      exact absurd he List.not_mem_nil) h
/-- lists by index the same -/
theorem i7.list (h : i7 S) (g : gW z S S2) (hk : hkR S S2) (hI : iAll z k S) (hl : lQ S S2) : i7 S2 :=
  h.q g hk hI (fun q hq => fTl_gW g hI hq (hl.2 _).1) (fun q h1 h2 => by have := hl.1; omega)
/-- lots, orders and lists not touched by Foundrymark's part of a call -/
theorem i7.cq (h : i7 S) (g : gW z S S2) (hI : iAll z k S) (c6 : ceq S T 6) (c8 : ceq S T 8) (c26 : ceq S T 26) (c27 : ceq S T 27) (hf : ffr T S2) : i7 S2 :=
  h.list g ((hkR.cq c6).trans (.ff hf) (fun l _ => hf.2.1 6 1 l (by decide))) hI ((show lQ S T from ⟨c8.1, fun i => ⟨c26.2.2 i, c27.2.2 i⟩⟩).trans (.ff hf))
theorem i7.ff (h : i7 S) (g : gW z S S2) (hI : iAll z k S) (hf : ffr S S2) : i7 S2 := h.list g (.ff hf) hI (.ff hf)
theorem q7AM {p q r t : Int} (hI : iAll z k S) (hI2 : iAll z k2 S2) (hR : iRn z S) (h : pAM S S2 p q r t) (h7 : i7 S) : i7 S2 := by
  have g := (stAM hI hI2 hR h).1
  rcases h with ⟨v, rfl⟩ | ⟨-, -, rfl⟩
  · exact h7.ff g hI ffr.mt
  · exact h7.cq g hI (fAM_ceq (by decide) (by decide) (by decide)) (fAM_ceq (by decide) (by decide) (by decide)) (fAM_ceq (by decide) (by decide) (by decide)) (fAM_ceq (by decide) (by decide) (by decide)) mAM_ffr
theorem q7AO {p q r t : Int} (hI : iAll z k S) (hI2 : iAll z k2 S2) (hR : iRn z S) (h : pcAO S S2 p q r t) (h7 : i7 S) : i7 S2 := by
  have g := (stAO hI hI2 hR h).1
  rcases h with ⟨v, rfl⟩ | ⟨-, rfl⟩
  · exact h7.ff g hI ffr.mt
  · exact h7.cq g hI (fAO_ceq (by decide) (by decide)) (fAO_ceq (by decide) (by decide)) (fAO_ceq (by decide) (by decide)) (fAO_ceq (by decide) (by decide)) cAO_ffr
theorem chF.cq {c i : Nat} (h : chF X Y c i) (hc : c = 2 ∨ c = 3) (d : Nat) (h2 : d ≠ 2) (h3 : d ≠ 3) : ceq X Y d := h.1 d (by omega)
theorem q7SC {p x w : Int} (hI : iAll z k S) (hI2 : iAll z k2 S2) (hR : iRn z S) (h : pSC S S2 p x w) (h7 : i7 S) : i7 S2 := by
  have g := (stSC hI hI2 hR h).1
  rcases h with ⟨v, rfl⟩ | ⟨-, rfl⟩
  · exact h7.ff g hI ffr.mt
  · have key : ∀ (c i : Nat) (T : hS), chF S T c i → (c = 2 ∨ c = 3) → ffr T _ → i7 _ := fun c i T hc h23 hf => h7.cq g hI (hc.cq h23 6 (by decide) (by decide)) (hc.cq h23 8 (by decide) (by decide)) (hc.cq h23 26 (by decide) (by decide)) (hc.cq h23 27 (by decide) (by decide)) hf
    refine key _ _ _ chartS_chF ?_ chartS_chM.fr
    show 2 + _ % 2 = 2 ∨ 2 + _ % 2 = 3
    omega
theorem q7AP {c : Bool} {f : Int} (hI : iAll z k S) (hI2 : iAll z k2 S2) (hR : iRn z S) (h : pAP S S2 c f) (h7 : i7 S) : i7 S2 := by
  have g := (stAP hI hI2 hR h).1
  rcases h with ⟨v, rfl⟩ | ⟨-, -, rfl⟩
  · exact h7.ff g hI ffr.mt
  · have u := fun (d : Nat) (h : d = 6 ∨ d = 8 ∨ d = 26 ∨ d = 27) => (fAP_ceq (by omega) (by omega) (by omega) (by omega) (by omega) : ceq S (fAddPart S c f) d)
    exact h7.cq g hI (u 6 (by decide)) (u 8 (by decide)) (u 26 (by decide)) (u 27 (by decide)) mAP_ffr
theorem q7AC {p q r t : Int} (hI : iAll z k S) (hI2 : iAll z k2 S2) (hR : iRn z S) (h : pcAC S S2 p q r t) (h7 : i7 S) : i7 S2 := by
  have g := (stAC hI hI2 hR h).1
  rcases h with ⟨v, rfl⟩ | ⟨-, rfl⟩
  · exact h7.ff g hI ffr.mt
  · have u := fun (d : Nat) (h : d = 6 ∨ d = 8 ∨ d = 26 ∨ d = 27) => (fAC_ceq (by omega) (by omega) : ceq S (fAddComponent S p q r t) d)
    exact h7.cq g hI (u 6 (by decide)) (u 8 (by decide)) (u 26 (by decide)) (u 27 (by decide)) cAC_ffr
theorem q7Sc {v n : Int} (hz : zInj z) (hI : iAll z k S) (hI2 : iAll z k2 S2) (hR : iRn z S) (h : psSc z S S2 v n) (h7 : i7 S) : i7 S2 := by
  have g := (stSc hz hI hI2 hR h).1
  rcases h with ⟨v, rfl⟩ | ⟨-, -, rfl⟩
  · exact h7.ff g hI ffr.mt
  · refine h7.list g ((show hkR S (sset S 8 8 v.toNat (sT S 8 8 v.toNat - n)) from ⟨Nat.le_refl _, fun l _ => by rw [sT_set, if_neg (by omega)], fun l a b => absurd b (by show ¬ l < sn S 6; omega)⟩).trans (.ff ((ffr.mt (v := 0)).set (by decide))) (fun l _ => ((ffr.mt (v := 0)).set (by decide) : ffr _ _).2.1 6 1 l (by decide))) hI ((show lQ S (sset S 8 8 v.toNat (sT S 8 8 v.toNat - n)) from ⟨rfl, fun _ => ⟨rfl, rfl⟩⟩).trans (.ff ((ffr.mt (v := 0)).set (by decide))))
theorem q7Ad {e : Nat} (hz : zInj z) (hI : iAll z k S) (hI2 : iAll z k2 S2) (hR : iRn z S) (h : pAd z S S2 e) (h7 : i7 S) : i7 S2 := by
  have g := (stAd hz hI hI2 hR h).1
  rcases h with ⟨⟨v, rfl⟩, -⟩ | ⟨h1, -, -⟩
  · exact h7.ff g hI ffr.mt
  · exact h7.list g (h1.hk hR.2.2).1 hI (h1.lQ hR.2.2)
theorem q7Or {p qq o d : Int} (hI : iAll z k S) (hI2 : iAll z k2 S2) (hR : iRn z S) (h : pOr z S S2 p qq o d) (h7 : i7 S) : i7 S2 := by
  have g := (stOr hI hI2 hR h).1
  rcases h with ⟨v, rfl⟩ | ⟨-, rfl⟩
  · exact h7.ff g hI ffr.mt
  · have hf : ffr (fOrderS z S p qq o d) (mOrderS (fOrderS z S p qq o d) p qq o d) := mO_ffr
    refine h7.q g ((hkR.cq (fO_ceq (by decide))).trans (.ff hf) (fun l _ => hf.2.1 6 1 l (by decide))) hI (fun q hq => fTl_gW g hI hq ?_) (fun q h1 h2 => ?_)
    · have h5 := (hI.or q hq).2.2.2.2.2.1
      rw [hf.2.2 26 _ (by decide), fO_26, if_neg (by unfold fOL; omega)]
    · rw [hf.1 8 (by decide), fO_n8] at h2
      have e : q = sn S 8 := by omega
      subst e
      unfold fTl fOL
      rw [hf.2.1 8 5 _ (by decide), hf.2.2 26 _ (by decide), fO_new (j := 5) (by decide)]
      show (sE _ 26 ((sn S 26 : Nat) : Int).toNat).map _ = []
      rw [Int.toNat_natCast, fO_26, if_pos rfl]
      rfl
end ZF9
