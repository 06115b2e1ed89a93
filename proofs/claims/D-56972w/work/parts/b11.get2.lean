/-! THE SIMULATION: both sides walk the same trees -/
set_option maxRecDepth 100000
theorem tWs_cg {p q : Nat → Bool} {v w : Nat → Nat} : ∀ {L : List Nat}, (∀ y ∈ L, p y = q y ∧ v y = w y) → tWs p v L = tWs q w L
  | [], _ => rfl
  | y :: t, h => by
    unfold tWs
    rw [(h y List.mem_cons_self).1, (h y List.mem_cons_self).2, tWs_cg (fun x hx => h x (List.mem_cons_of_mem _ hx))]
theorem tWalk_cg {ch ch' : Nat → List Nat} {N : Nat} (hc : ∀ i : Nat, i < N → ch' i = ch i) (hlt : ∀ i : Nat, i < N → ∀ y ∈ ch i, y < N) : ∀ n x i : Nat, i < N → tWalk ch' n x i = tWalk ch n x i := by
  intro n
  induction n with
  | zero => intro x i _; rfl
  | succ n ih =>
    intro x i hi
    unfold tWalk
    rw [hc i hi, tWs_cg (fun y hy => ⟨by rw [tHas_cg hc hlt n x y (hlt i hi y hy)], by rw [ih x y (hlt i hi y hy)]⟩)]
section ZBT2
variable {z : Nat → Nat} {k : Nat} {X Y : hS}
theorem iAll.chlt (hI : iAll z k X) : ∀ i : Nat, i < sn X 6 → ∀ y ∈ fch X i, y < sn X 6 := by
  intro i hi y hy
  obtain ⟨t, ht, rfl⟩ := List.mem_map.mp hy
  have := (hI.W i hi).2.2 t ht
  omega
theorem rR.eh (hR : rR z X Y) : ∀ i : Nat, i < sn X 6 → mh Y i = fh X i := by
  intro i hi
  unfold mh fh
  rw [(hR.L.2 i hi).2.2.2.2.1]
theorem rR.ec (hR : rR z X Y) : ∀ i : Nat, i < sn X 6 → mch Y i = fch X i := fun i hi => (hR.L.2 i hi).2.2.2.2.2
theorem rR.held (hR : rR z X Y) (hI : iAll z k X) (n : Nat) {i : Nat} (hi : i < sn X 6) : tHeld (mh Y) (mch Y) n i = tHeld (fh X) (fch X) n i := tHeld_cg hR.eh hR.ec hI.chlt n i hi
theorem rR.nodes (hR : rR z X Y) (hI : iAll z k X) (n : Nat) {i : Nat} (hi : i < sn X 6) : tN (mch Y) n i = tN (fch X) n i := tN_cg hR.ec hI.chlt n i hi
theorem rR.has (hR : rR z X Y) (hI : iAll z k X) (n x : Nat) {i : Nat} (hi : i < sn X 6) : tHas (mch Y) n x i = tHas (fch X) n x i := tHas_cg hR.ec hI.chlt n x i hi
theorem rR.walk (hR : rR z X Y) (hI : iAll z k X) (n x : Nat) {i : Nat} (hi : i < sn X 6) : tWalk (mch Y) n x i = tWalk (fch X) n x i := tWalk_cg hR.ec hI.chlt n x i hi
theorem fold_cg {α β : Type} {f g : β → α → β} : ∀ {L : List α} {s : β}, (∀ s : β, ∀ x ∈ L, f s x = g s x) → L.foldl f s = L.foldl g s
  | [], _, _ => rfl
  | a :: t, s, h => by
    rw [List.foldl_cons, List.foldl_cons, h s a List.mem_cons_self, fold_cg (fun s x hx => h s x (List.mem_cons_of_mem _ hx))]
theorem cntP_cg {f g : Nat → Bool × Nat} : ∀ {n : Nat}, (∀ i : Nat, i < n → f i = g i) → cntP f n = cntP g n := by
  intro n h
  unfold cntP
  exact fold_cg (fun s x hx => by rw [h x (List.mem_range.mp hx)])
/-- the delivered lots of an order -/
theorem iAll.dlv (hI : iAll z k X) {o : Nat} (ho : o < sn X 8) : ∀ t ∈ sE X 27 (fDelL X o), 0 ≤ sT X 7 0 t.toNat ∧ sT X 7 0 t.toNat < sn X 6 := by
  intro t ht
  have h6 := (hI.or o ho).2.2.2.2.2.2.1
  have h1 := hI.tk.2.1 (fDelL X o) (by unfold fDelL; omega) t ht
  exact (hI.tk.2.2 t.toNat (by omega)).1
theorem rR.inO (hR : rR z X Y) (hI : iAll z k X) (x : Nat) {o : Nat} (ho : o < sn X 8) : mInO Y x o = fInO X x o := by
  unfold mInO fInO mInQ fInQ
  rw [List.take_length, List.take_length, ((hR.O.2 o ho).2.2.2).1, List.map_map]
  have e : ((fun t : Int => t.toNat) ∘ fun t : Int => sT X 7 0 t.toNat) = fLotOf X := rfl
  rw [e]
  refine fold_cg (fun s y hy => ?_)
  obtain ⟨t, ht, rfl⟩ := List.mem_map.mp hy
  have hd := hI.dlv ho t ht
  have hl : fLotOf X t < sn X 6 := by unfold fLotOf; omega
  unfold inStep
  rw [hR.has hI 100 x hl, hR.walk hI 100 x hl]
theorem cntP_le {f : Nat → Bool × Nat} : ∀ n : Nat, (cntP f n).1 ≤ n := by
  intro n
  induction n with
  | zero => exact Nat.le_refl _
  | succ n ih =>
    rw [cntP_succ]
    show (cntP f n).1 + _ ≤ n + 1
    split <;> omega
theorem idx {v : Int} {n : Nat} (h : 0 ≤ v ∧ v < n) : ∃ q : Nat, v = q ∧ q < n := ⟨v.toNat, (Int.toNat_of_nonneg h.1).symm, by omega⟩
end ZBT2
section ZBX
variable {g : zG} {w0 : hG} {σ : zS} {gh : Nat → Nat → Nat} {S : hS} {J : zw_W} {a : Nat} {v : Int}
theorem M_isHeldIX (H : hRep g w0 σ gh S J) (hF : mFix S) (ha : hat gh S 11 0 a) (hv : rg v) (hc : ¬ (0 ≤ v ∧ v < sn S 14)) : ∃ σ' : zS, zEnd g 4 217 [.ref a, iv v] σ (.inl (some (iv (bi false)))) σ' ∧ hRep g w0 σ' gh (mt S 1) J ∧ kc σ σ' 0 0 := by
  obtain ⟨σ1, g1, g2, g3⟩ := M_failsLot H hF ha hv
  have main : zW g 4 217 0 (lv_args 0 [.ref a, iv v]) [] σ (fun o σ' => o = .inl (some (iv (bi false))) ∧ hRep g w0 σ' gh (mt S 1) J ∧ kc σ σ' 0 0) := by
    refine zW_p 2 rfl ?_
    refine wV rfl rfl rfl rfl rfl rfl rfl (H.rc ha rfl rfl) g1 (by omega) ?_
    rw [decide_eq_false hc] at g2 ⊢
    refine zW_p 2 rfl ?_
    exact zW_reti rfl rfl rfl ⟨rfl, g2, kc.of g3⟩
  obtain ⟨o, σ', h1, rfl, h2, h3⟩ := main
  exact ⟨σ', h1, h2, h3⟩
end ZBX
theorem fStg_iff {z : Nat → Nat} {X : hS} (hz : zInj z) {o s t : Nat} (hs : s < 6) (ht : t < 6) (h : sT X 8 7 o = (z s : Nat)) : fStg z X o t = true ↔ s = t := by
  unfold fStg
  rw [decide_eq_true_iff, h]
  constructor
  · intro e
    exact hz s t (by omega) (by omega) (by omega)
  · rintro rfl
    rfl
theorem fDone_iff {z : Nat → Nat} {X : hS} (hz : zInj z) {o s : Nat} (hs : s < 6) (h : sT X 8 7 o = (z s : Nat)) : fDone z X o = true ↔ (sT X 8 1 o).toNat % 2 = 0 ∧ 4 ≤ s := by
  unfold fDone
  rw [Bool.and_eq_true, Bool.or_eq_true, decide_eq_true_iff, fStg_iff hz hs (t := 4) (by decide) h, fStg_iff hz hs (t := 5) (by decide) h]
  constructor
  · rintro ⟨h1, h2⟩
    exact ⟨h1, by omega⟩
  · rintro ⟨h1, h2⟩
    exact ⟨h1, by omega⟩
theorem rR.r13 {z : Nat → Nat} {k : Nat} {X Y : hS} (hR : rR z X Y) (hI : iAll z k X) : ∀ o : Nat, o < sn Y 15 → rg (sT Y 15 13 o) := by
  intro o ho
  have ho' : o < sn X 8 := by rw [← hR.O.1]; exact ho
  obtain ⟨⟨s, s6, s7, s8, s9, s10⟩, -⟩ := (hR.O.2 o ho').2.1
  have h12 := (hI.or o ho').2.2.2.2.2.2.2.2.2.2.2.1
  rw [s9]
  split
  · exact ⟨by omega, by omega⟩
  · exact ⟨by decide, by decide⟩
section ZBQ
variable {g : zG} {w0 : hG} {z : Nat → Nat} {a m ol od k scr n i : Nat} {sf : Nat → Int32} {S : hS} {gh : Nat → Nat → Nat} {J : zw_W} {σ : zS} {Q : Option Value ⊕ String → zS → Prop}
/-- a lot's nodes, where v is one -/
def nNd (S : hS) (v : Int) : Nat := if 0 ≤ v ∧ v < sn S 6 then tN (fch S) (v.toNat + 1) v.toNat else 0
theorem tS7 (L : lSt g w0 z a m ol od k S gh J σ) (hs : w0.1 scr = some (.inl (8, n, .inl sf))) (hlt : scr < zg_n g) (hi : i + 5 < n) (hn : n ≤ 1000)
    (hQ : ∀ (v : Int) (J2 : zw_W) (σ2 : zS), lSt g w0 z a m ol od (k + 1) (mt S v) gh J2 σ2 → kc σ σ2 (1 + 2 * nNd S (scw sf i 1)) (6 + 8 * nNd S (scw sf i 1)) → tW g 1600 2441 (tLV scr a m ol od i) [] σ2 Q) : tW g 1600 804 (tLV scr a m ol od i) [] σ Q := by
  have L0 := L
  obtain ⟨H, ⟨f, hf⟩, ⟨fd, hfd⟩, ha, hm, hC, hR, hI, hS, hB⟩ := L
  have hne := ol_ne hf hfd
  have hv : rg (scw sf i 1) := rg_scw
  have hnM : sn S 14 = sn S 6 := hR.L.1
  have h100 := hI.fix.2.2.2.2.2.2.2.2.2.2.1
  unfold nNd at hQ
  obtain ⟨v, hvv⟩ : ∃ v : Int, v = scw sf i 1 := ⟨_, rfl⟩
  by_cases hc : 0 ≤ scw sf i 1 ∧ scw sf i 1 < sn S 6
  · rw [if_pos hc] at hQ
    obtain ⟨q, hq, hq6⟩ := idx hc
    obtain ⟨σ0, r1, H0, k0⟩ := F_isHeldI (i := q) H hI.fix hI.W ha hq6
    rw [← hq] at r1
    obtain ⟨σ1, p1, H1, e1⟩ := Lh_isHeld (d := q + 6) H ha r1 (by omega) H0 hf
    obtain ⟨σ2, p2, H2, e2⟩ := M_isHeldI H1 hS.1 (hR.mW hI hS) hm hv
    have hcM : 0 ≤ scw sf i 1 ∧ scw sf i 1 < sn S 14 := by rw [hnM]; exact hc
    rw [if_pos hcM] at e2
    rw [decide_eq_true hcM, Bool.true_and] at p2
    rw [decide_eq_true hcM] at H2
    rw [hq, Int.toNat_natCast] at p2 e2 hQ
    rw [hR.held hI _ hq6] at p2
    rw [hR.nodes hI _ hq6] at e2
    rw [← hq] at p2
    refine tC7 H hs hlt hi hn p1 (by omega) H1 hm p2 (by omega) (by decide) H2 hm ⟨by decide, by decide⟩ (by rw [sT_set, if_pos ⟨rfl, rfl, rfl⟩]; rfl) (fun _ => ⟨zw_up_same _ _ _, va_up_self _ _ _⟩) ?_
    refine hQ _ _ σ2 (L0.same H2 ⟨_, zw_up_same _ _ _⟩ ⟨fd, (zw_up_ne _ _ hne).trans hfd⟩) ?_
    exact ((k0.trans (kc.of e1)).trans e2).mono (by omega) (by omega)
  · rw [if_neg hc] at hQ
    obtain ⟨σ1, r1, H1, k1⟩ := F_isHeldIX H hI.fix ha hv hc
    have p1 := Lh_isHeldX1 (d := 5) (b := ol) H ha r1 (by omega)
    have hcM : ¬ (0 ≤ scw sf i 1 ∧ scw sf i 1 < sn S 14) := by rw [hnM]; exact hc
    obtain ⟨σ2, p2, H2, e2⟩ := M_isHeldIX H1 hS.1 hm hv hcM
    refine tC7 (f := f) H hs hlt hi hn p1 (by decide) H1 hm p2 (by decide) (by decide) H2 hm ⟨by decide, by decide⟩ (by rw [sT_set, if_pos ⟨rfl, rfl, rfl⟩]) (fun e => absurd e (by decide)) ?_
    refine hQ 1 _ σ2 (L0.same H2 ⟨f, hf⟩ ⟨fd, hfd⟩) ?_
    exact (k1.trans e2).mono (by omega) (by omega)
def nWk (S : hS) (u v : Int) : Nat := if 0 ≤ u ∧ u < sn S 6 ∧ 0 ≤ v ∧ v < sn S 6 then tWalk (fch S) 100 u.toNat v.toNat else 0
theorem tS28 (C : hCon g w0 z) (hz : zInj z) (L : lSt g w0 z a m ol od k S gh J σ) (hs : w0.1 scr = some (.inl (8, n, .inl sf))) (hlt : scr < zg_n g) (hi : i + 5 < n) (hn : n ≤ 1000)
    (hQ : ∀ (v : Int) (J2 : zw_W) (σ2 : zS), lSt g w0 z a m ol od (k + 1) (mt S v) gh J2 σ2 → kc σ σ2 (1 + 2 * nWk S (scw sf i 1) (scw sf i 2)) (6 + 8 * nWk S (scw sf i 1) (scw sf i 2)) → tW g 1600 2441 (tLV scr a m ol od i) [] σ2 Q) : tW g 1600 2055 (tLV scr a m ol od i) [] σ Q := by
  have L0 := L
  obtain ⟨H, ⟨f, hf⟩, ⟨fd, hfd⟩, ha, hm, hC, hR, hI, hS, hB⟩ := L
  have hne := ol_ne hf hfd
  have hv : rg (scw sf i 1) := rg_scw
  have h100 := hI.fix.2.2.2.2.2.2.2.2.2.2.1
  have h30 := hI.fix.2.2.2.2.2.2.2.2.2.2.2.1
  have hn14 : sn S 14 = sn S 6 := hR.L.1
  have hn15 : sn S 15 = sn S 8 := hR.O.1
  have hv2 : rg (scw sf i 2) := rg_scw
  by_cases hc : 0 ≤ scw sf i 1 ∧ scw sf i 1 < sn S 6
  · obtain ⟨x, hx, hx6⟩ := idx hc
    by_cases hc2 : 0 ≤ scw sf i 2 ∧ scw sf i 2 < sn S 6
    · obtain ⟨y, hy, hy6⟩ := idx hc2
      have en : nWk S (scw sf i 1) (scw sf i 2) = tWalk (fch S) 100 x y := by
        unfold nWk
        rw [if_pos ⟨hc.1, hc.2, hc2.1, hc2.2⟩, hx, hy, Int.toNat_natCast, Int.toNat_natCast]
      rw [en] at hQ
      obtain ⟨σ0, r1, H0, k0⟩ := F_isIn H hI.fix hI.W ha hx6 hy6
      rw [← hx, ← hy] at r1
      obtain ⟨σ1, p1, H1, e1⟩ := Lh_isIn (d := 105) H ha r1 (by omega) H0 hf
      obtain ⟨σ2, p2, H2, e2⟩ := M_isIn H1 hS.1 (hR.mW hI hS) hm hv hv2
      have eok : mIsOk S (scw sf i 1) (scw sf i 2) = true := by
        unfold mIsOk
        rw [decide_eq_true (show 0 ≤ scw sf i 1 ∧ scw sf i 1 ≤ (sn S 14 : Int) - 1 by omega), decide_eq_true (show 0 ≤ scw sf i 2 ∧ scw sf i 2 ≤ (sn S 14 : Int) - 1 by omega)]
        rfl
      rw [eok, Bool.true_and] at p2
      rw [eok, if_pos rfl] at H2 e2
      have et : tHas (mch S) 100 (scw sf i 1).toNat (scw sf i 2).toNat = tHas (fch S) 100 x y := by
        rw [hx, hy, Int.toNat_natCast, Int.toNat_natCast, hR.has hI 100 x hy6]
      have ew : tWalk (mch S) 100 (scw sf i 1).toNat (scw sf i 2).toNat = tWalk (fch S) 100 x y := by
        rw [hx, hy, Int.toNat_natCast, Int.toNat_natCast, hR.walk hI 100 x hy6]
      rw [et] at p2
      rw [ew] at e2
      refine tC28 H hs hlt hi hn p1 (by decide) H1 hm p2 (by decide) (by decide) H2 hm ⟨by decide, by decide⟩ (by rw [sT_set, if_pos ⟨rfl, rfl, rfl⟩]) (fun _ => ⟨zw_up_same _ _ _, va_up_self _ _ _⟩) ?_
      refine hQ _ _ σ2 (L0.same H2 ⟨_, zw_up_same _ _ _⟩ ⟨fd, (zw_up_ne _ _ hne).trans hfd⟩) ?_
      exact ((k0.trans (kc.of e1)).trans e2).mono (by omega) (by omega)
    · have en : nWk S (scw sf i 1) (scw sf i 2) = 0 := by
        unfold nWk
        rw [if_neg (fun q => hc2 ⟨q.2.2.1, q.2.2.2⟩)]
      rw [en] at hQ
      obtain ⟨σ1, r1, H1, k1⟩ := F_isInY H hI.fix ha hx6 hv2 hc2
      rw [← hx] at r1
      have p1 := Lh_isInX1 (d := 5) (b := ol) H ha r1 (by omega)
      obtain ⟨σ2, p2, H2, e2⟩ := M_isIn H1 hS.1 (hR.mW hI hS) hm hv hv2
      have eok : mIsOk S (scw sf i 1) (scw sf i 2) = false := by
        unfold mIsOk
        rw [decide_eq_false (show ¬ (0 ≤ scw sf i 2 ∧ scw sf i 2 ≤ (sn S 14 : Int) - 1) by omega), Bool.and_false]
      rw [eok] at p2 H2 e2
      rw [if_neg (by decide)] at H2 e2
      refine tC28 (f := f) H hs hlt hi hn p1 (by decide) H1 hm p2 (by decide) (by decide) H2 hm ⟨by decide, by decide⟩ (by rw [sT_set, if_pos ⟨rfl, rfl, rfl⟩]) (fun e => absurd e (by decide)) ?_
      refine hQ 1 _ σ2 (L0.same H2 ⟨f, hf⟩ ⟨fd, hfd⟩) ?_
      exact (k1.trans e2).mono (by omega) (by omega)
  · have en : nWk S (scw sf i 1) (scw sf i 2) = 0 := by
      unfold nWk
      rw [if_neg (fun q => hc ⟨q.1, q.2.1⟩)]
    rw [en] at hQ
    obtain ⟨σ1, r1, H1, k1⟩ := F_isInX (w := scw sf i 2) H hI.fix ha hv hc
    have p1 := Lh_isInX1 (d := 5) (b := ol) H ha r1 (by omega)
    obtain ⟨σ2, p2, H2, e2⟩ := M_isIn H1 hS.1 (hR.mW hI hS) hm hv hv2
    have eok : mIsOk S (scw sf i 1) (scw sf i 2) = false := by
      unfold mIsOk
      rw [decide_eq_false (show ¬ (0 ≤ scw sf i 1 ∧ scw sf i 1 ≤ (sn S 14 : Int) - 1) by omega), Bool.false_and]
    rw [eok] at p2 H2 e2
    rw [if_neg (by decide)] at H2 e2
    refine tC28 (f := f) H hs hlt hi hn p1 (by decide) H1 hm p2 (by decide) (by decide) H2 hm ⟨by decide, by decide⟩ (by rw [sT_set, if_pos ⟨rfl, rfl, rfl⟩]) (fun e => absurd e (by decide)) ?_
    refine hQ 1 _ σ2 (L0.same H2 ⟨f, hf⟩ ⟨fd, hfd⟩) ?_
    exact (k1.trans e2).mono (by omega) (by omega)
def nTch (S : hS) (v : Int) : Nat := if 0 ≤ v ∧ v < sn S 6 then (cntP (fInO S v.toNat) (sn S 8)).2 else 0
theorem tS29 (C : hCon g w0 z) (hz : zInj z) (L : lSt g w0 z a m ol od k S gh J σ) (hs : w0.1 scr = some (.inl (8, n, .inl sf))) (hlt : scr < zg_n g) (hi : i + 5 < n) (hn : n ≤ 1000)
    (hQ : ∀ (v : Int) (J2 : zw_W) (σ2 : zS), lSt g w0 z a m ol od (k + 1) (mt S v) gh J2 σ2 → kc σ σ2 (1 + 2 * nTch S (scw sf i 1)) (6 + 8 * nTch S (scw sf i 1)) → tW g 1600 2441 (tLV scr a m ol od i) [] σ2 Q) : tW g 1600 2130 (tLV scr a m ol od i) [] σ Q := by
  have L0 := L
  obtain ⟨H, ⟨f, hf⟩, ⟨fd, hfd⟩, ha, hm, hC, hR, hI, hS, hB⟩ := L
  have hne := ol_ne hf hfd
  have hv : rg (scw sf i 1) := rg_scw
  have h100 := hI.fix.2.2.2.2.2.2.2.2.2.2.1
  have h30 := hI.fix.2.2.2.2.2.2.2.2.2.2.2.1
  have hn14 : sn S 14 = sn S 6 := hR.L.1
  have hn15 : sn S 15 = sn S 8 := hR.O.1
  by_cases hc : 0 ≤ scw sf i 1 ∧ scw sf i 1 < sn S 6
  · obtain ⟨x, hx, hx6⟩ := idx hc
    have hcM : 0 ≤ scw sf i 1 ∧ scw sf i 1 < sn S 14 := by omega
    have en : nTch S (scw sf i 1) = (cntP (fInO S x) (sn S 8)).2 := by
      unfold nTch
      rw [if_pos hc, hx, Int.toNat_natCast]
    rw [en] at hQ
    obtain ⟨σ0, r1, H0, k0⟩ := F_touched H hI.fix hI.W hI.Tk hI.Ord ha hx6
    rw [← hx] at r1
    have hle := cntP_le (f := fInO S x) (sn S 8)
    obtain ⟨σ1, p1, H1, e1⟩ := Lh_touched (d := 107) H ha r1 (by omega) H0 hf ⟨by omega, by omega⟩
    obtain ⟨σ2, p2, H2, e2⟩ := M_touched H1 hS.1 (hR.mW hI hS) (hR.mOrd2 hI hS) hm hv
    have em : mTouch S (scw sf i 1) = cntP (fInO S x) (sn S 8) := by
      unfold mTouch
      rw [if_pos hcM, hx, Int.toNat_natCast, hn15]
      exact cntP_cg (fun o ho => hR.inO hI x ho)
    rw [em] at p2 e2
    rw [if_pos hcM] at H2
    refine tC29 H hs hlt hi hn p1 (by decide) H1 hm p2 (by decide) (by decide) H2 hm ⟨by decide, by decide⟩ ⟨by omega, by omega⟩ (by rw [sT_set, if_pos ⟨rfl, rfl, rfl⟩]) (fun _ => ⟨zw_up_same _ _ _, va_up_self _ _ _⟩) ?_
    refine hQ _ _ σ2 (L0.same H2 ⟨_, zw_up_same _ _ _⟩ ⟨fd, (zw_up_ne _ _ hne).trans hfd⟩) ?_
    exact ((k0.trans (kc.of e1)).trans e2).mono (by omega) (by omega)
  · have hcM : ¬ (0 ≤ scw sf i 1 ∧ scw sf i 1 < sn S 14) := by omega
    have en : nTch S (scw sf i 1) = 0 := by
      unfold nTch
      rw [if_neg hc]
    rw [en] at hQ
    obtain ⟨σ1, r1, H1, k1⟩ := F_touchedX H hI.fix ha hv hc
    have p1 := Lh_touchedX1 (d := 5) (b := ol) H ha r1 (by omega)
    obtain ⟨σ2, p2, H2, e2⟩ := M_touched H1 hS.1 (hR.mW hI hS) (hR.mOrd2 hI hS) hm hv
    have em : mTouch S (scw sf i 1) = (0, 0) := by
      unfold mTouch
      rw [if_neg hcM]
    rw [em] at p2 e2
    rw [if_neg hcM] at H2
    refine tC29 (f := f) H hs hlt hi hn p1 (by decide) H1 hm p2 (by decide) (by decide) H2 hm ⟨by decide, by decide⟩ ⟨by decide, by decide⟩ (by rw [sT_set, if_pos ⟨rfl, rfl, rfl⟩]) (fun e => absurd e (by decide)) ?_
    refine hQ 1 _ σ2 (L0.same H2 ⟨f, hf⟩ ⟨fd, hfd⟩) ?_
    exact (k1.trans e2).mono (by omega) (by omega)
theorem tS5 (C : hCon g w0 z) (hz : zInj z) (L : lSt g w0 z a m ol od k S gh J σ) (hs : w0.1 scr = some (.inl (8, n, .inl sf))) (hlt : scr < zg_n g) (hi : i + 5 < n) (hn : n ≤ 1000)
    (hQ : ∀ (v : Int) (J2 : zw_W) (σ2 : zS), lSt g w0 z a m ol od (k + 1) (mt S v) gh J2 σ2 → kc σ σ2 1 6 → tW g 1600 2441 (tLV scr a m ol od i) [] σ2 Q) : tW g 1600 664 (tLV scr a m ol od i) [] σ Q := by
  have L0 := L
  obtain ⟨H, ⟨f, hf⟩, ⟨fd, hfd⟩, ha, hm, hC, hR, hI, hS, hB⟩ := L
  have hne := ol_ne hf hfd
  have hv : rg (scw sf i 1) := rg_scw
  have h100 := hI.fix.2.2.2.2.2.2.2.2.2.2.1
  have h30 := hI.fix.2.2.2.2.2.2.2.2.2.2.2.1
  have hn14 : sn S 14 = sn S 6 := hR.L.1
  have hn15 : sn S 15 = sn S 8 := hR.O.1
  have hU := hR.mSup hI
  have hFU : fSup z S := ⟨hI.su.1, hI.su.2.1, fun x hx => by
    obtain ⟨u1, u2, u3⟩ := hI.su.2.2 x hx
    have h1 := hI.cn.2.2.2.2 x hx
    have h2 := hI.cn.2.1
    exact ⟨u1, u2, u3, by omega⟩⟩
  by_cases hc : 0 ≤ scw sf i 1 ∧ scw sf i 1 ≤ 3
  · obtain ⟨x, hx, hx4⟩ := idx (n := 4) (v := scw sf i 1) (by omega)
    have r1 := F_rule H C hI.fix hFU ha hx4
    rw [← hx] at r1
    have hrl : rlL (fRl z S x) = 110 ∨ rlL (fRl z S x) = 116 ∨ rlL (fRl z S x) = 114 := by
      unfold fRl rNo
      split
      · exact Or.inl rfl
      · split
        · exact Or.inr (Or.inl rfl)
        · exact Or.inr (Or.inr rfl)
    obtain ⟨σ1, p1, H1, e1⟩ := Lh_rule (d := 5) H ha r1 (by omega) H hf ⟨by omega, by omega⟩
    obtain ⟨σ2, p2, H2, e2⟩ := M_rule H1 hS.1 hU hm hv
    rw [if_pos hc] at p2 H2
    have em : mRl S (scw sf i 1).toNat = rlL (fRl z S x) := by
      unfold mRl
      rw [hx, Int.toNat_natCast, List.getD_eq_getElem?_getD, (hR.S.2.2.2 x hx4).2]
      rfl
    rw [em] at p2
    refine tC5 H hs hlt hi hn p1 (by decide) H1 hm p2 (by decide) (by decide) H2 hm ⟨by decide, by decide⟩ ⟨by omega, by omega⟩ (by rw [sT_set, if_pos ⟨rfl, rfl, rfl⟩]) (fun _ => ⟨zw_up_same _ _ _, va_up_self _ _ _⟩) ?_
    refine hQ _ _ σ2 (L0.same H2 ⟨_, zw_up_same _ _ _⟩ ⟨fd, (zw_up_ne _ _ hne).trans hfd⟩) ?_
    exact ((kc.of e1).trans (kc.of e2)).mono (by omega) (by omega)
  · obtain ⟨σ1, r1, H1, k1⟩ := F_ruleX (a := a) H hv hc
    have p1 := Lh_ruleX1 (d := 5) (b := ol) H ha r1 (by omega)
    obtain ⟨σ2, p2, H2, e2⟩ := M_rule H1 hS.1 hU hm hv
    rw [if_neg hc] at p2 H2
    refine tC5 (f := f) H hs hlt hi hn p1 (by decide) H1 hm p2 (by decide) (by decide) H2 hm ⟨by decide, by decide⟩ ⟨by decide, by decide⟩ (by rw [sT_set, if_pos ⟨rfl, rfl, rfl⟩]) (fun e => absurd e (by decide)) ?_
    refine hQ 1 _ σ2 (L0.same H2 ⟨f, hf⟩ ⟨fd, hfd⟩) ?_
    exact (k1.trans (kc.of e2)).mono (by omega) (by omega)
theorem tS10 (L : lSt g w0 z a m ol od k S gh J σ)
    (hQ : ∀ (v : Int) (J2 : zw_W) (σ2 : zS), lSt g w0 z a m ol od (k + 1) (mt S v) gh J2 σ2 → kc σ σ2 0 0 → tW g 1600 2441 (tLV scr a m ol od i) [] σ2 Q) : tW g 1600 1022 (tLV scr a m ol od i) [] σ Q := by
  have L0 := L
  obtain ⟨H, ⟨f, hf⟩, ⟨fd, hfd⟩, ha, hm, hC, hR, hI, hS, hB⟩ := L
  have r1 := F_lots H hI.fix ha
  obtain ⟨σ2, p2, H2, e2⟩ := M_lots H hS.1 hm
  rw [hR.L.1] at p2
  refine tC10 H ha r1 (by decide) H hm p2 (by decide) ?_
  exact hQ _ _ σ2 (L0.same H2 ⟨f, hf⟩ ⟨fd, hfd⟩) (kc.of e2)
theorem tS23 (C : hCon g w0 z) (hz : zInj z) (L : lSt g w0 z a m ol od k S gh J σ) (hs : w0.1 scr = some (.inl (8, n, .inl sf))) (hlt : scr < zg_n g) (hi : i + 5 < n) (hn : n ≤ 1000)
    (hQ : ∀ (v : Int) (J2 : zw_W) (σ2 : zS), lSt g w0 z a m ol od (k + 1) (mt S v) gh J2 σ2 → kc σ σ2 1 6 → tW g 1600 2441 (tLV scr a m ol od i) [] σ2 Q) : tW g 1600 1775 (tLV scr a m ol od i) [] σ Q := by
  have L0 := L
  obtain ⟨H, ⟨f, hf⟩, ⟨fd, hfd⟩, ha, hm, hC, hR, hI, hS, hB⟩ := L
  have hne := ol_ne hf hfd
  have hv : rg (scw sf i 1) := rg_scw
  have h100 := hI.fix.2.2.2.2.2.2.2.2.2.2.1
  have h30 := hI.fix.2.2.2.2.2.2.2.2.2.2.2.1
  have hn14 : sn S 14 = sn S 6 := hR.L.1
  have hn15 : sn S 15 = sn S 8 := hR.O.1
  by_cases hc : 0 ≤ scw sf i 1 ∧ scw sf i 1 < sn S 8
  · obtain ⟨q, hx, hx8⟩ := idx hc
    have hcM : 0 ≤ scw sf i 1 ∧ scw sf i 1 < sn S 15 := by omega
    have hq15 : q < sn S 15 := by omega
    obtain ⟨⟨s, s6, s7, s8, s9, s10⟩, b2, b3, b4, b5⟩ := (hR.O.2 q hx8).2.1
    obtain ⟨oa1, oa2, oa3, oa4, oa5, oa6, oa7, oa8, oa9, oa10, oa11, oa12, oa13, oa14, oa15, oa16, oa17⟩ := hI.or q hx8
    have ceq : 0 ≤ sT S 15 12 q ↔ 0 ≤ sT S 8 13 q := by rw [b5]
    obtain ⟨σ0, r1, H0, k0⟩ := F_lotOf H hI.fix ha hx8
    rw [← hx] at r1
    by_cases hd : 0 ≤ sT S 8 13 q
    · have hdM : 0 ≤ sT S 15 12 q := ceq.mpr hd
      rw [if_pos hd] at r1
      have hl := (hI.lo (sT S 8 13 q).toNat (by omega)).1
      have ve : sT S 14 0 (sT S 15 12 q).toNat = sT S 6 0 (sT S 8 13 q).toNat := by
        rw [b5, hl]
        exact (hS.2.2.1 _ (by omega)).1
      obtain ⟨σ1, p1, H1, e1⟩ := Lh_lotOf (d := 5) H ha r1 (by omega) H0 hf ⟨by omega, by omega⟩
      obtain ⟨σ2, p2, H2, e2⟩ := M_lotOf H1 hS.1 hm hv
      have ec : mC2 S (scw sf i 1) (decide (0 ≤ sT S 15 12 (scw sf i 1).toNat)) = 0 := by
        unfold mC2
        rw [if_neg (fun w => w hcM), hx, Int.toNat_natCast, decide_eq_true hdM, if_pos rfl]
      rw [ec] at p2 H2
      rw [if_pos rfl] at p2
      rw [hx, Int.toNat_natCast] at p2
      rw [ve, ← hx] at p2
      refine tC23 H hs hlt hi hn p1 (by decide) H1 hm p2 (by decide) (by decide) H2 hm ⟨by decide, by decide⟩ ⟨by omega, by omega⟩ (by rw [sT_set, if_pos ⟨rfl, rfl, rfl⟩]) (fun _ => ⟨zw_up_same _ _ _, va_up_self _ _ _⟩) ?_
      refine hQ _ _ σ2 (L0.same H2 ⟨_, zw_up_same _ _ _⟩ ⟨fd, (zw_up_ne _ _ hne).trans hfd⟩) ?_
      exact ((k0.trans (kc.of e1)).trans e2).mono (by omega) (by omega)
    · have hdM : ¬ 0 ≤ sT S 15 12 q := fun w => hd (ceq.mp w)
      rw [if_neg hd] at r1
      have p1 := Lh_lotOfX2 (d := 5) (b := ol) H ha r1 (by omega)
      obtain ⟨σ2, p2, H2, e2⟩ := M_lotOf H0 hS.1 hm hv
      have ec : mC2 S (scw sf i 1) (decide (0 ≤ sT S 15 12 (scw sf i 1).toNat)) = 2 := by
        unfold mC2
        rw [if_neg (fun w => w hcM), hx, Int.toNat_natCast, decide_eq_false hdM, if_neg (by decide)]
      rw [ec] at p2 H2
      rw [if_neg (by decide)] at p2
      refine tC23 (f := f) H hs hlt hi hn p1 (by decide) H0 hm p2 (by decide) (by decide) H2 hm ⟨by decide, by decide⟩ ⟨by decide, by decide⟩ (by rw [sT_set, if_pos ⟨rfl, rfl, rfl⟩]) (fun e => absurd e (by decide)) ?_
      refine hQ 2 _ σ2 (L0.same H2 ⟨f, hf⟩ ⟨fd, hfd⟩) ?_
      exact (k0.trans e2).mono (by omega) (by omega)
  · have hcM : ¬ (0 ≤ scw sf i 1 ∧ scw sf i 1 < sn S 15) := by omega
    obtain ⟨σ1, r1, H1, k1⟩ := F_lotOfX H hI.fix ha hv hc
    have p1 := Lh_lotOfX1 (d := 5) (b := ol) H ha r1 (by omega)
    obtain ⟨σ2, p2, H2, e2⟩ := M_lotOf H1 hS.1 hm hv
    have ec : mC2 S (scw sf i 1) (decide (0 ≤ sT S 15 12 (scw sf i 1).toNat)) = 1 := by
      unfold mC2
      rw [if_pos hcM]
    rw [ec] at p2 H2
    rw [if_neg (by decide)] at p2
    refine tC23 (f := f) H hs hlt hi hn p1 (by decide) H1 hm p2 (by decide) (by decide) H2 hm ⟨by decide, by decide⟩ ⟨by decide, by decide⟩ (by rw [sT_set, if_pos ⟨rfl, rfl, rfl⟩]) (fun e => absurd e (by decide)) ?_
    refine hQ 1 _ σ2 (L0.same H2 ⟨f, hf⟩ ⟨fd, hfd⟩) ?_
    exact (k1.trans e2).mono (by omega) (by omega)
theorem tS24 (C : hCon g w0 z) (hz : zInj z) (L : lSt g w0 z a m ol od k S gh J σ) (hs : w0.1 scr = some (.inl (8, n, .inl sf))) (hlt : scr < zg_n g) (hi : i + 5 < n) (hn : n ≤ 1000)
    (hQ : ∀ (v : Int) (J2 : zw_W) (σ2 : zS), lSt g w0 z a m ol od (k + 1) (mt S v) gh J2 σ2 → kc σ σ2 1 6 → tW g 1600 2441 (tLV scr a m ol od i) [] σ2 Q) : tW g 1600 1831 (tLV scr a m ol od i) [] σ Q := by
  have L0 := L
  obtain ⟨H, ⟨f, hf⟩, ⟨fd, hfd⟩, ha, hm, hC, hR, hI, hS, hB⟩ := L
  have hne := ol_ne hf hfd
  have hv : rg (scw sf i 1) := rg_scw
  have h100 := hI.fix.2.2.2.2.2.2.2.2.2.2.1
  have h30 := hI.fix.2.2.2.2.2.2.2.2.2.2.2.1
  have hn14 : sn S 14 = sn S 6 := hR.L.1
  have hn15 : sn S 15 = sn S 8 := hR.O.1
  by_cases hc : 0 ≤ scw sf i 1 ∧ scw sf i 1 < sn S 8
  · obtain ⟨q, hx, hx8⟩ := idx hc
    have hcM : 0 ≤ scw sf i 1 ∧ scw sf i 1 < sn S 15 := by omega
    have hq15 : q < sn S 15 := by omega
    obtain ⟨⟨s, s6, s7, s8, s9, s10⟩, b2, b3, b4, b5⟩ := (hR.O.2 q hx8).2.1
    obtain ⟨oa1, oa2, oa3, oa4, oa5, oa6, oa7, oa8, oa9, oa10, oa11, oa12, oa13, oa14, oa15, oa16, oa17⟩ := hI.or q hx8
    have cd : fDone z S q = true ↔ (sT S 8 1 q).toNat % 2 = 0 ∧ 4 ≤ s := fDone_iff hz s6 s7
    have ceq : 0 ≤ sT S 15 13 q ↔ fDone z S q = true := by
      rw [cd, s9]
      by_cases w : (sT S 8 1 q).toNat % 2 = 0 ∧ 4 ≤ s
      · rw [if_pos w]
        exact ⟨fun _ => w, fun _ => oa12.1⟩
      · rw [if_neg w]
        exact ⟨fun w2 => absurd w2 (by decide), fun w2 => absurd w2 w⟩
    obtain ⟨σ0, r1, H0, k0⟩ := F_finishedAt H C hI.fix hI.Ord ha hx8
    rw [← hx] at r1
    by_cases hd : fDone z S q = true
    · have hdM : 0 ≤ sT S 15 13 q := ceq.mpr hd
      rw [if_pos hd] at r1
      have ve : sT S 15 13 q = sT S 8 11 q := by
        rw [s9, if_pos (cd.mp hd)]
      obtain ⟨σ1, p1, H1, e1⟩ := Lh_finishedAt (d := 5) H ha r1 (by omega) H0 hf ⟨by omega, by omega⟩
      obtain ⟨σ2, p2, H2, e2⟩ := M_finishedAt H1 hS.1 (hR.r13 hI) hm hv
      have ec : mC2 S (scw sf i 1) (decide (0 ≤ sT S 15 13 (scw sf i 1).toNat)) = 0 := by
        unfold mC2
        rw [if_neg (fun w => w hcM), hx, Int.toNat_natCast, decide_eq_true hdM, if_pos rfl]
      rw [ec, if_pos rfl] at p2 H2
      rw [hx, Int.toNat_natCast] at p2
      rw [ve, ← hx] at p2
      refine tC24 H hs hlt hi hn p1 (by decide) H1 hm p2 (by decide) (by decide) H2 hm ⟨by decide, by decide⟩ ⟨by omega, by omega⟩ (by rw [sT_set, if_pos ⟨rfl, rfl, rfl⟩]) (fun _ => ⟨zw_up_same _ _ _, va_up_self _ _ _⟩) ?_
      refine hQ _ _ σ2 (L0.same H2 ⟨_, zw_up_same _ _ _⟩ ⟨fd, (zw_up_ne _ _ hne).trans hfd⟩) ?_
      exact ((k0.trans (kc.of e1)).trans e2).mono (by omega) (by omega)
    · have hdM : ¬ 0 ≤ sT S 15 13 q := fun w => hd (ceq.mp w)
      rw [if_neg hd] at r1
      have p1 := Lh_finishedAtX2 (d := 5) (b := ol) H ha r1 (by omega)
      obtain ⟨σ2, p2, H2, e2⟩ := M_finishedAt H0 hS.1 (hR.r13 hI) hm hv
      have ec : mC2 S (scw sf i 1) (decide (0 ≤ sT S 15 13 (scw sf i 1).toNat)) = 2 := by
        unfold mC2
        rw [if_neg (fun w => w hcM), hx, Int.toNat_natCast, decide_eq_false hdM, if_neg (by decide)]
      rw [ec, if_neg (by decide)] at p2 H2
      refine tC24 (f := f) H hs hlt hi hn p1 (by decide) H0 hm p2 (by decide) (by decide) H2 hm ⟨by decide, by decide⟩ ⟨by decide, by decide⟩ (by rw [sT_set, if_pos ⟨rfl, rfl, rfl⟩]) (fun e => absurd e (by decide)) ?_
      refine hQ 2 _ σ2 (L0.same H2 ⟨f, hf⟩ ⟨fd, hfd⟩) ?_
      exact (k0.trans e2).mono (by omega) (by omega)
  · have hcM : ¬ (0 ≤ scw sf i 1 ∧ scw sf i 1 < sn S 15) := by omega
    obtain ⟨σ1, r1, H1, k1⟩ := F_finishedAtX H hI.fix ha hv hc
    have p1 := Lh_finishedAtX1 (d := 5) (b := ol) H ha r1 (by omega)
    obtain ⟨σ2, p2, H2, e2⟩ := M_finishedAt H1 hS.1 (hR.r13 hI) hm hv
    have ec : mC2 S (scw sf i 1) (decide (0 ≤ sT S 15 13 (scw sf i 1).toNat)) = 1 := by
      unfold mC2
      rw [if_pos hcM]
    rw [ec, if_neg (by decide)] at p2 H2
    refine tC24 (f := f) H hs hlt hi hn p1 (by decide) H1 hm p2 (by decide) (by decide) H2 hm ⟨by decide, by decide⟩ ⟨by decide, by decide⟩ (by rw [sT_set, if_pos ⟨rfl, rfl, rfl⟩]) (fun e => absurd e (by decide)) ?_
    refine hQ 1 _ σ2 (L0.same H2 ⟨f, hf⟩ ⟨fd, hfd⟩) ?_
    exact (k1.trans e2).mono (by omega) (by omega)
theorem tS31 (C : hCon g w0 z) (hz : zInj z) (L : lSt g w0 z a m ol od k S gh J σ) (hs : w0.1 scr = some (.inl (8, n, .inl sf))) (hlt : scr < zg_n g) (hi : i + 5 < n) (hn : n ≤ 1000)
    (hQ : ∀ (v : Int) (J2 : zw_W) (σ2 : zS), lSt g w0 z a m ol od (k + 1) (mt S v) gh J2 σ2 → kc σ σ2 1 6 → tW g 1600 2441 (tLV scr a m ol od i) [] σ2 Q) : tW g 1600 2242 (tLV scr a m ol od i) [] σ Q := by
  have L0 := L
  obtain ⟨H, ⟨f, hf⟩, ⟨fd, hfd⟩, ha, hm, hC, hR, hI, hS, hB⟩ := L
  have hne := ol_ne hf hfd
  have hv : rg (scw sf i 1) := rg_scw
  have h100 := hI.fix.2.2.2.2.2.2.2.2.2.2.1
  have h30 := hI.fix.2.2.2.2.2.2.2.2.2.2.2.1
  have hn14 : sn S 14 = sn S 6 := hR.L.1
  have hn15 : sn S 15 = sn S 8 := hR.O.1
  by_cases hc : 0 ≤ scw sf i 1 ∧ scw sf i 1 < sn S 8
  · obtain ⟨q, hx, hx8⟩ := idx hc
    have hcM : 0 ≤ scw sf i 1 ∧ scw sf i 1 < sn S 15 := by omega
    have hq15 : q < sn S 15 := by omega
    obtain ⟨⟨s, s6, s7, s8, s9, s10⟩, b2, b3, b4, b5⟩ := (hR.O.2 q hx8).2.1
    obtain ⟨oa1, oa2, oa3, oa4, oa5, oa6, oa7, oa8, oa9, oa10, oa11, oa12, oa13, oa14, oa15, oa16, oa17⟩ := hI.or q hx8
    have ceq : sT S 15 5 q = 100 ↔ fStg z S q 5 = true := by
      unfold fStg
      rw [decide_eq_true_iff]
      exact hR.stIff hz hx8 (s := 5) (by decide)
    obtain ⟨σ0, r1, H0, k0⟩ := F_deliveredCost H C hI.fix hI.Ord ha hx8
    rw [← hx] at r1
    by_cases hd : fStg z S q 5 = true
    · have hdM : sT S 15 5 q = 100 := ceq.mpr hd
      rw [if_pos hd] at r1
      have ve : sT S 15 15 q = ((sE S 27 (fDelL S q)).map (fun t => sT S 7 2 t.toNat)).sum := by
        rw [(hR.O.2 q hx8).2.2.2.2]
        unfold fDelSum
        rw [List.take_length]
      obtain ⟨σ1, p1, H1, e1⟩ := Lh_deliveredCost (d := 5) H ha r1 (by omega) H0 hf
      obtain ⟨σ2, p2, H2, e2⟩ := M_deliveredCost H1 hS.1 (hR.mOrd hS) hm hv
      have ec : mC2 S (scw sf i 1) (decide (sT S 15 5 (scw sf i 1).toNat = 100)) = 0 := by
        unfold mC2
        rw [if_neg (fun w => w hcM), hx, Int.toNat_natCast, decide_eq_true hdM, if_pos rfl]
      rw [ec, if_pos rfl] at p2 H2
      rw [hx, Int.toNat_natCast] at p2
      rw [ve, ← hx] at p2
      refine tC31 H hs hlt hi hn p1 (by decide) H1 hm p2 (by decide) (by decide) H2 hm ⟨by decide, by decide⟩ (by rw [sT_set, if_pos ⟨rfl, rfl, rfl⟩]) (fun _ => ⟨zw_up_same _ _ _, va_up_self _ _ _⟩) ?_
      refine hQ _ _ σ2 (L0.same H2 ⟨_, zw_up_same _ _ _⟩ ⟨fd, (zw_up_ne _ _ hne).trans hfd⟩) ?_
      exact ((k0.trans (kc.of e1)).trans e2).mono (by omega) (by omega)
    · have hdM : ¬ sT S 15 5 q = 100 := fun w => hd (ceq.mp w)
      rw [if_neg hd] at r1
      have p1 := Lh_deliveredCostX2 (d := 5) (b := ol) H ha r1 (by omega)
      obtain ⟨σ2, p2, H2, e2⟩ := M_deliveredCost H0 hS.1 (hR.mOrd hS) hm hv
      have ec : mC2 S (scw sf i 1) (decide (sT S 15 5 (scw sf i 1).toNat = 100)) = 2 := by
        unfold mC2
        rw [if_neg (fun w => w hcM), hx, Int.toNat_natCast, decide_eq_false hdM, if_neg (by decide)]
      rw [ec, if_neg (by decide)] at p2 H2
      refine tC31 (f := f) H hs hlt hi hn p1 (by decide) H0 hm p2 (by decide) (by decide) H2 hm ⟨by decide, by decide⟩ (by rw [sT_set, if_pos ⟨rfl, rfl, rfl⟩]) (fun e => absurd e (by decide)) ?_
      refine hQ 2 _ σ2 (L0.same H2 ⟨f, hf⟩ ⟨fd, hfd⟩) ?_
      exact (k0.trans e2).mono (by omega) (by omega)
  · have hcM : ¬ (0 ≤ scw sf i 1 ∧ scw sf i 1 < sn S 15) := by omega
    obtain ⟨σ1, r1, H1, k1⟩ := F_deliveredCostX H hI.fix ha hv hc
    have p1 := Lh_deliveredCostX1 (d := 5) (b := ol) H ha r1 (by omega)
    obtain ⟨σ2, p2, H2, e2⟩ := M_deliveredCost H1 hS.1 (hR.mOrd hS) hm hv
    have ec : mC2 S (scw sf i 1) (decide (sT S 15 5 (scw sf i 1).toNat = 100)) = 1 := by
      unfold mC2
      rw [if_pos hcM]
    rw [ec, if_neg (by decide)] at p2 H2
    refine tC31 (f := f) H hs hlt hi hn p1 (by decide) H1 hm p2 (by decide) (by decide) H2 hm ⟨by decide, by decide⟩ (by rw [sT_set, if_pos ⟨rfl, rfl, rfl⟩]) (fun e => absurd e (by decide)) ?_
    refine hQ 1 _ σ2 (L0.same H2 ⟨f, hf⟩ ⟨fd, hfd⟩) ?_
    exact (k1.trans e2).mono (by omega) (by omega)
end ZBQ
