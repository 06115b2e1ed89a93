/-! THE SIMULATION: parts by their codes; who waits -/
set_option maxRecDepth 100000
section ZBW
variable {z : Nat → Nat} {k : Nat} {S X Y : hS}
theorem pcInj (hI : iAll z k X) {p q : Nat} (hp : p < np X) (hq : q < np X) (h : fPc X p = fPc X q) : p = q := by
  have h1 := (hI.pt.1 p hp).2.2
  have h2 := (hI.pt.1 q hq).2.2
  unfold pcl pix at h1 h2
  rw [h] at h1
  omega
theorem len_perm {L : List Int} {n : Nat} {P : Nat → Bool} (hn : L.Nodup) (h : ∀ x : Int, x ∈ L ↔ 0 ≤ x ∧ x < n ∧ P x.toNat = true) : ((List.range n).filter P).length = L.length := by
  have h1 : (L.map Int.toNat).Nodup := by
    rw [List.nodup_iff_pairwise_ne, List.pairwise_map]
    refine List.Pairwise.imp_of_mem ?_ (List.nodup_iff_pairwise_ne.mp hn)
    intro a b ha hb hab
    have := (h a).mp ha
    have := (h b).mp hb
    omega
  have h2 : ((List.range n).filter P).Nodup := List.Pairwise.filter _ List.nodup_range
  have e1 := List.Nodup.length_le_of_subset h1 (l₂ := (List.range n).filter P) (fun x hx => by
    obtain ⟨y, hy, rfl⟩ := List.mem_map.mp hx
    have := (h y).mp hy
    exact List.mem_filter.mpr ⟨List.mem_range.mpr (by omega), this.2.2⟩)
  have e2 := List.Nodup.length_le_of_subset h2 (l₂ := L.map Int.toNat) (fun x hx => by
    obtain ⟨q1, q2⟩ := List.mem_filter.mp hx
    have q1 := List.mem_range.mp q1
    exact List.mem_map.mpr ⟨(x : Int), (h x).mpr ⟨by omega, by omega, by rw [Int.toNat_natCast]; exact q2⟩, Int.toNat_natCast x⟩)
  rw [List.length_map] at e1 e2
  omega
theorem wait_eq (hR : rR z X Y) (hI : iAll z k X) {q : Nat} (hq : q < sn X 1) : mWc Y ((q : Nat) : Int) (sn Y 15) = (fQ X q).length := by
  have e : fQ X q = sE X 45 q := by
    unfold fQ
    rw [(hI.mc.2.2 q hq).1, Int.toNat_natCast]
  rw [e]
  unfold mWc
  obtain ⟨g1, g2⟩ := hR.Q q hq
  refine len_perm g1 (fun x => (g2 x).trans ?_)
  rw [hR.O.1]
  unfold mWt
  constructor
  · rintro ⟨a1, a2, a3, a4⟩
    refine ⟨a1, a2, ?_⟩
    simp [a3, a4]
  · rintro ⟨a1, a2, a3⟩
    simp at a3
    exact ⟨a1, a2, a3.1, a3.2⟩
end ZBW
/-! calls that only ask (printed by tools/gen10.py) -/
section ZBQ
variable {g : zG} {w0 : hG} {z : Nat → Nat} {a m ol od k scr n i : Nat} {sf : Nat → Int32} {S : hS} {gh : Nat → Nat → Nat} {J : zw_W} {σ : zS} {Q : Option Value ⊕ String → zS → Prop}
theorem tS11 (C : hCon g w0 z) (hz : zInj z) (L : lSt g w0 z a m ol od k S gh J σ) (hs : w0.1 scr = some (.inl (8, n, .inl sf))) (hlt : scr < zg_n g) (hi : i + 5 < n) (hn : n ≤ 1000)
    (hQ : ∀ (v : Int) (J2 : zw_W) (σ2 : zS), lSt g w0 z a m ol od (k + 1) (mt S v) gh J2 σ2 → kc σ σ2 1 6 → tW g 1600 2441 (tLV scr a m ol od i) [] σ2 Q) : tW g 1600 1035 (tLV scr a m ol od i) [] σ Q := by
  have L0 := L
  obtain ⟨H, ⟨f, hf⟩, ⟨fd, hfd⟩, ha, hm, hC, hR, hI, hS, hB⟩ := L
  have hne := ol_ne hf hfd
  have hv : rg (scw sf i 1) := rg_scw
  have hnM : sn S 14 = sn S 6 := hR.L.1
  have h100 := hI.fix.2.2.2.2.2.2.2.2.2.2.1
  have h30 := hI.fix.2.2.2.2.2.2.2.2.2.2.2.1
  have h5 := hI.fix.2.2.2.2.2.2.2.2.2.1
  by_cases hc : 0 ≤ scw sf i 1 ∧ scw sf i 1 < sn S 6
  · obtain ⟨q, hq⟩ : ∃ q : Nat, scw sf i 1 = q := ⟨_, (Int.toNat_of_nonneg hc.1).symm⟩
    have hq6 : q < sn S 6 := by omega
    have hqM : q < sn S 14 := by omega
    obtain ⟨⟨pp, pp1, pp2, pp3⟩, g1, g2, g3, g4, g5⟩ := hR.L.2 q hq6
    have hav := hI.Av q hq6
    have r1 := F_partOf (i := q) H hI.fix ha hq6 hav.2.2.2.1
    rw [← hq] at r1
    have hnp := np_le hI
    obtain ⟨pq, pq1, pq2, pq3⟩ := hI.lo.pnum hI.pt hq6
    have q1 : sT S 14 1 q = fPnum S q := by
      have e := pcInj hI pp1 pq1 (by omega)
      rw [pp2, pq3, e]
    obtain ⟨σ1, p1, H1, e1⟩ := Lh_partOf (d := 5) H ha r1 (by omega) H hf ⟨by omega, by omega⟩
    obtain ⟨σ2, p2, H2, e2⟩ := M_partOf H1 hS.1 hm hv
    have eb : (if 0 ≤ scw sf i 1 ∧ scw sf i 1 < sn S 14 then sT S 14 1 (scw sf i 1).toNat else 0) = fPnum S q := by
      rw [if_pos (by rw [hnM]; exact hc), hq, Int.toNat_natCast, q1]
    have et : (bi (!decide (0 ≤ scw sf i 1 ∧ scw sf i 1 < sn S 14))) = 0 := by
      rw [hnM, decide_eq_true hc]
      rfl
    rw [eb] at p2
    rw [et] at H2
    refine tC11 H hs hlt hi hn p1 (by decide) H1 hm p2 (by decide) (by decide) H2 hm ⟨by decide, by decide⟩ ⟨by omega, by omega⟩ (by rw [sT_set, if_pos ⟨rfl, rfl, rfl⟩]) (fun _ => ⟨zw_up_same _ _ _, va_up_self _ _ _⟩) ?_
    refine hQ 0 _ σ2 (L0.same H2 ⟨_, zw_up_same _ _ _⟩ ⟨fd, (zw_up_ne _ _ hne).trans hfd⟩) ?_
    exact ((kc.of e1).trans (kc.of e2)).mono (by omega) (by omega)
  · obtain ⟨σ1, r1, H1, k1⟩ := F_partOfX H hI.fix ha hv hc
    have p1 := Lh_partOfX1 (d := 5) (b := ol) H ha r1 (by omega)
    obtain ⟨σ2, p2, H2, e2⟩ := M_partOf H1 hS.1 hm hv
    have eb : (if 0 ≤ scw sf i 1 ∧ scw sf i 1 < sn S 14 then sT S 14 1 (scw sf i 1).toNat else 0) = 0 := by
      rw [if_neg (by rw [hnM]; exact hc)]
    have et : (bi (!decide (0 ≤ scw sf i 1 ∧ scw sf i 1 < sn S 14))) = 1 := by
      rw [hnM, decide_eq_false hc]
      rfl
    rw [eb] at p2
    rw [et] at H2
    refine tC11 (f := f) H hs hlt hi hn p1 (by decide) H1 hm p2 (by decide) (by decide) H2 hm ⟨by decide, by decide⟩ ⟨by decide, by decide⟩ (by rw [sT_set, if_pos ⟨rfl, rfl, rfl⟩]) (fun e => absurd e (by decide)) ?_
    refine hQ 1 _ σ2 (L0.same H2 ⟨f, hf⟩ ⟨fd, hfd⟩) ?_
    exact (k1.trans (kc.of e2)).mono (by omega) (by omega)
theorem tS12 (C : hCon g w0 z) (hz : zInj z) (L : lSt g w0 z a m ol od k S gh J σ) (hs : w0.1 scr = some (.inl (8, n, .inl sf))) (hlt : scr < zg_n g) (hi : i + 5 < n) (hn : n ≤ 1000)
    (hQ : ∀ (v : Int) (J2 : zw_W) (σ2 : zS), lSt g w0 z a m ol od (k + 1) (mt S v) gh J2 σ2 → kc σ σ2 1 6 → tW g 1600 2441 (tLV scr a m ol od i) [] σ2 Q) : tW g 1600 1091 (tLV scr a m ol od i) [] σ Q := by
  have L0 := L
  obtain ⟨H, ⟨f, hf⟩, ⟨fd, hfd⟩, ha, hm, hC, hR, hI, hS, hB⟩ := L
  have hne := ol_ne hf hfd
  have hv : rg (scw sf i 1) := rg_scw
  have hnM : sn S 14 = sn S 6 := hR.L.1
  have h100 := hI.fix.2.2.2.2.2.2.2.2.2.2.1
  have h30 := hI.fix.2.2.2.2.2.2.2.2.2.2.2.1
  have h5 := hI.fix.2.2.2.2.2.2.2.2.2.1
  by_cases hc : 0 ≤ scw sf i 1 ∧ scw sf i 1 < sn S 6
  · obtain ⟨q, hq⟩ : ∃ q : Nat, scw sf i 1 = q := ⟨_, (Int.toNat_of_nonneg hc.1).symm⟩
    have hq6 : q < sn S 6 := by omega
    have hqM : q < sn S 14 := by omega
    obtain ⟨⟨pp, pp1, pp2, pp3⟩, g1, g2, g3, g4, g5⟩ := hR.L.2 q hq6
    have hav := hI.Av q hq6
    have r1 := F_rest (i := q) H hI.fix ha hq6
    rw [← hq] at r1
    have q1 := g1
    obtain ⟨σ1, p1, H1, e1⟩ := Lh_rest (d := 5) H ha r1 (by omega) H hf ⟨by omega, by omega⟩
    obtain ⟨σ2, p2, H2, e2⟩ := M_rest H1 hS.1 hm hv
    have eb : (if 0 ≤ scw sf i 1 ∧ scw sf i 1 < sn S 14 then sT S 14 2 (scw sf i 1).toNat else 0) = sT S 6 4 q := by
      rw [if_pos (by rw [hnM]; exact hc), hq, Int.toNat_natCast, q1]
    have et : (bi (!decide (0 ≤ scw sf i 1 ∧ scw sf i 1 < sn S 14))) = 0 := by
      rw [hnM, decide_eq_true hc]
      rfl
    rw [eb] at p2
    rw [et] at H2
    refine tC12 H hs hlt hi hn p1 (by decide) H1 hm p2 (by decide) (by decide) H2 hm ⟨by decide, by decide⟩ ⟨by omega, by omega⟩ (by rw [sT_set, if_pos ⟨rfl, rfl, rfl⟩]) (fun _ => ⟨zw_up_same _ _ _, va_up_self _ _ _⟩) ?_
    refine hQ 0 _ σ2 (L0.same H2 ⟨_, zw_up_same _ _ _⟩ ⟨fd, (zw_up_ne _ _ hne).trans hfd⟩) ?_
    exact ((kc.of e1).trans (kc.of e2)).mono (by omega) (by omega)
  · obtain ⟨σ1, r1, H1, k1⟩ := F_restX H hI.fix ha hv hc
    have p1 := Lh_restX1 (d := 5) (b := ol) H ha r1 (by omega)
    obtain ⟨σ2, p2, H2, e2⟩ := M_rest H1 hS.1 hm hv
    have eb : (if 0 ≤ scw sf i 1 ∧ scw sf i 1 < sn S 14 then sT S 14 2 (scw sf i 1).toNat else 0) = 0 := by
      rw [if_neg (by rw [hnM]; exact hc)]
    have et : (bi (!decide (0 ≤ scw sf i 1 ∧ scw sf i 1 < sn S 14))) = 1 := by
      rw [hnM, decide_eq_false hc]
      rfl
    rw [eb] at p2
    rw [et] at H2
    refine tC12 (f := f) H hs hlt hi hn p1 (by decide) H1 hm p2 (by decide) (by decide) H2 hm ⟨by decide, by decide⟩ ⟨by decide, by decide⟩ (by rw [sT_set, if_pos ⟨rfl, rfl, rfl⟩]) (fun e => absurd e (by decide)) ?_
    refine hQ 1 _ σ2 (L0.same H2 ⟨f, hf⟩ ⟨fd, hfd⟩) ?_
    exact (k1.trans (kc.of e2)).mono (by omega) (by omega)
theorem tS13 (C : hCon g w0 z) (hz : zInj z) (L : lSt g w0 z a m ol od k S gh J σ) (hs : w0.1 scr = some (.inl (8, n, .inl sf))) (hlt : scr < zg_n g) (hi : i + 5 < n) (hn : n ≤ 1000)
    (hQ : ∀ (v : Int) (J2 : zw_W) (σ2 : zS), lSt g w0 z a m ol od (k + 1) (mt S v) gh J2 σ2 → kc σ σ2 1 6 → tW g 1600 2441 (tLV scr a m ol od i) [] σ2 Q) : tW g 1600 1147 (tLV scr a m ol od i) [] σ Q := by
  have L0 := L
  obtain ⟨H, ⟨f, hf⟩, ⟨fd, hfd⟩, ha, hm, hC, hR, hI, hS, hB⟩ := L
  have hne := ol_ne hf hfd
  have hv : rg (scw sf i 1) := rg_scw
  have hnM : sn S 14 = sn S 6 := hR.L.1
  have h100 := hI.fix.2.2.2.2.2.2.2.2.2.2.1
  have h30 := hI.fix.2.2.2.2.2.2.2.2.2.2.2.1
  have h5 := hI.fix.2.2.2.2.2.2.2.2.2.1
  by_cases hc : 0 ≤ scw sf i 1 ∧ scw sf i 1 < sn S 6
  · obtain ⟨q, hq⟩ : ∃ q : Nat, scw sf i 1 = q := ⟨_, (Int.toNat_of_nonneg hc.1).symm⟩
    have hq6 : q < sn S 6 := by omega
    have hqM : q < sn S 14 := by omega
    obtain ⟨⟨pp, pp1, pp2, pp3⟩, g1, g2, g3, g4, g5⟩ := hR.L.2 q hq6
    have hav := hI.Av q hq6
    have r1 := F_reserved (i := q) H hI.fix ha hq6
    rw [← hq] at r1
    have q1 := g2
    obtain ⟨σ1, p1, H1, e1⟩ := Lh_reserved (d := 5) H ha r1 (by omega) H hf ⟨by omega, by omega⟩
    obtain ⟨σ2, p2, H2, e2⟩ := M_reserved H1 hS.1 hm hv
    have eb : (if 0 ≤ scw sf i 1 ∧ scw sf i 1 < sn S 14 then sT S 14 3 (scw sf i 1).toNat else 0) = sT S 6 5 q := by
      rw [if_pos (by rw [hnM]; exact hc), hq, Int.toNat_natCast, q1]
    have et : (bi (!decide (0 ≤ scw sf i 1 ∧ scw sf i 1 < sn S 14))) = 0 := by
      rw [hnM, decide_eq_true hc]
      rfl
    rw [eb] at p2
    rw [et] at H2
    refine tC13 H hs hlt hi hn p1 (by decide) H1 hm p2 (by decide) (by decide) H2 hm ⟨by decide, by decide⟩ ⟨by omega, by omega⟩ (by rw [sT_set, if_pos ⟨rfl, rfl, rfl⟩]) (fun _ => ⟨zw_up_same _ _ _, va_up_self _ _ _⟩) ?_
    refine hQ 0 _ σ2 (L0.same H2 ⟨_, zw_up_same _ _ _⟩ ⟨fd, (zw_up_ne _ _ hne).trans hfd⟩) ?_
    exact ((kc.of e1).trans (kc.of e2)).mono (by omega) (by omega)
  · obtain ⟨σ1, r1, H1, k1⟩ := F_reservedX H hI.fix ha hv hc
    have p1 := Lh_reservedX1 (d := 5) (b := ol) H ha r1 (by omega)
    obtain ⟨σ2, p2, H2, e2⟩ := M_reserved H1 hS.1 hm hv
    have eb : (if 0 ≤ scw sf i 1 ∧ scw sf i 1 < sn S 14 then sT S 14 3 (scw sf i 1).toNat else 0) = 0 := by
      rw [if_neg (by rw [hnM]; exact hc)]
    have et : (bi (!decide (0 ≤ scw sf i 1 ∧ scw sf i 1 < sn S 14))) = 1 := by
      rw [hnM, decide_eq_false hc]
      rfl
    rw [eb] at p2
    rw [et] at H2
    refine tC13 (f := f) H hs hlt hi hn p1 (by decide) H1 hm p2 (by decide) (by decide) H2 hm ⟨by decide, by decide⟩ ⟨by decide, by decide⟩ (by rw [sT_set, if_pos ⟨rfl, rfl, rfl⟩]) (fun e => absurd e (by decide)) ?_
    refine hQ 1 _ σ2 (L0.same H2 ⟨f, hf⟩ ⟨fd, hfd⟩) ?_
    exact (k1.trans (kc.of e2)).mono (by omega) (by omega)
theorem tS14 (C : hCon g w0 z) (hz : zInj z) (L : lSt g w0 z a m ol od k S gh J σ) (hs : w0.1 scr = some (.inl (8, n, .inl sf))) (hlt : scr < zg_n g) (hi : i + 5 < n) (hn : n ≤ 1000)
    (hQ : ∀ (v : Int) (J2 : zw_W) (σ2 : zS), lSt g w0 z a m ol od (k + 1) (mt S v) gh J2 σ2 → kc σ σ2 1 6 → tW g 1600 2441 (tLV scr a m ol od i) [] σ2 Q) : tW g 1600 1203 (tLV scr a m ol od i) [] σ Q := by
  have L0 := L
  obtain ⟨H, ⟨f, hf⟩, ⟨fd, hfd⟩, ha, hm, hC, hR, hI, hS, hB⟩ := L
  have hne := ol_ne hf hfd
  have hv : rg (scw sf i 1) := rg_scw
  have hnM : sn S 14 = sn S 6 := hR.L.1
  have h100 := hI.fix.2.2.2.2.2.2.2.2.2.2.1
  have h30 := hI.fix.2.2.2.2.2.2.2.2.2.2.2.1
  have h5 := hI.fix.2.2.2.2.2.2.2.2.2.1
  by_cases hc : 0 ≤ scw sf i 1 ∧ scw sf i 1 < sn S 6
  · obtain ⟨q, hq⟩ : ∃ q : Nat, scw sf i 1 = q := ⟨_, (Int.toNat_of_nonneg hc.1).symm⟩
    have hq6 : q < sn S 6 := by omega
    have hqM : q < sn S 14 := by omega
    obtain ⟨⟨pp, pp1, pp2, pp3⟩, g1, g2, g3, g4, g5⟩ := hR.L.2 q hq6
    have hav := hI.Av q hq6
    have r1 := F_costOfLot (i := q) H hI.fix ha hq6
    rw [← hq] at r1
    have q1 := g3
    obtain ⟨σ1, p1, H1, e1⟩ := Lh_costOf (d := 5) H ha r1 (by omega) H hf
    obtain ⟨σ2, p2, H2, e2⟩ := M_costOf H1 hS.1 hm hv
    have eb : (if 0 ≤ scw sf i 1 ∧ scw sf i 1 < sn S 14 then sT S 14 4 (scw sf i 1).toNat else 0) = sT S 6 6 q := by
      rw [if_pos (by rw [hnM]; exact hc), hq, Int.toNat_natCast, q1]
    have et : (bi (!decide (0 ≤ scw sf i 1 ∧ scw sf i 1 < sn S 14))) = 0 := by
      rw [hnM, decide_eq_true hc]
      rfl
    rw [eb] at p2
    rw [et] at H2
    refine tC14 H hs hlt hi hn p1 (by decide) H1 hm p2 (by decide) (by decide) H2 hm ⟨by decide, by decide⟩ (by rw [sT_set, if_pos ⟨rfl, rfl, rfl⟩]) (fun _ => ⟨zw_up_same _ _ _, va_up_self _ _ _⟩) ?_
    refine hQ 0 _ σ2 (L0.same H2 ⟨_, zw_up_same _ _ _⟩ ⟨fd, (zw_up_ne _ _ hne).trans hfd⟩) ?_
    exact ((kc.of e1).trans (kc.of e2)).mono (by omega) (by omega)
  · obtain ⟨σ1, r1, H1, k1⟩ := F_costOfLotX H hI.fix ha hv hc
    have p1 := Lh_costOfX1 (d := 5) (b := ol) H ha r1 (by omega)
    obtain ⟨σ2, p2, H2, e2⟩ := M_costOf H1 hS.1 hm hv
    have eb : (if 0 ≤ scw sf i 1 ∧ scw sf i 1 < sn S 14 then sT S 14 4 (scw sf i 1).toNat else 0) = 0 := by
      rw [if_neg (by rw [hnM]; exact hc)]
    have et : (bi (!decide (0 ≤ scw sf i 1 ∧ scw sf i 1 < sn S 14))) = 1 := by
      rw [hnM, decide_eq_false hc]
      rfl
    rw [eb] at p2
    rw [et] at H2
    refine tC14 (f := f) H hs hlt hi hn p1 (by decide) H1 hm p2 (by decide) (by decide) H2 hm ⟨by decide, by decide⟩ (by rw [sT_set, if_pos ⟨rfl, rfl, rfl⟩]) (fun e => absurd e (by decide)) ?_
    refine hQ 1 _ σ2 (L0.same H2 ⟨f, hf⟩ ⟨fd, hfd⟩) ?_
    exact (k1.trans (kc.of e2)).mono (by omega) (by omega)
theorem tS26 (C : hCon g w0 z) (hz : zInj z) (L : lSt g w0 z a m ol od k S gh J σ) (hs : w0.1 scr = some (.inl (8, n, .inl sf))) (hlt : scr < zg_n g) (hi : i + 5 < n) (hn : n ≤ 1000)
    (hQ : ∀ (v : Int) (J2 : zw_W) (σ2 : zS), lSt g w0 z a m ol od (k + 1) (mt S v) gh J2 σ2 → kc σ σ2 1 6 → tW g 1600 2441 (tLV scr a m ol od i) [] σ2 Q) : tW g 1600 1943 (tLV scr a m ol od i) [] σ Q := by
  have L0 := L
  obtain ⟨H, ⟨f, hf⟩, ⟨fd, hfd⟩, ha, hm, hC, hR, hI, hS, hB⟩ := L
  have hne := ol_ne hf hfd
  have hv : rg (scw sf i 1) := rg_scw
  have hnM : sn S 12 = sn S 1 := hR.M.1
  have h100 := hI.fix.2.2.2.2.2.2.2.2.2.2.1
  have h30 := hI.fix.2.2.2.2.2.2.2.2.2.2.2.1
  have h5 := hI.fix.2.2.2.2.2.2.2.2.2.1
  by_cases hc : 0 ≤ scw sf i 1 ∧ scw sf i 1 < sn S 1
  · obtain ⟨q, hq⟩ : ∃ q : Nat, scw sf i 1 = q := ⟨_, (Int.toNat_of_nonneg hc.1).symm⟩
    have hq6 : q < sn S 1 := by omega
    have hqM : q < sn S 12 := by omega
    obtain ⟨g1, g2, g3, g4, g5⟩ := hR.M.2 q hq6
    obtain ⟨c1, c2, c3, c4, c5, c6⟩ := hI.mc.2.2 q hq6
    have r1 := F_wear (i := q) H hI.fix ha hq6
    rw [← hq] at r1
    have q1 := g3
    obtain ⟨σ1, p1, H1, e1⟩ := Lh_wear (d := 5) H ha r1 (by omega) H hf ⟨by omega, by omega⟩
    obtain ⟨σ2, p2, H2, e2⟩ := M_wear H1 hS.1 hm hv
    have eb : (if 0 ≤ scw sf i 1 ∧ scw sf i 1 < sn S 12 then sT S 12 5 (scw sf i 1).toNat else 0) = sT S 1 6 q := by
      rw [if_pos (by rw [hnM]; exact hc), hq, Int.toNat_natCast, q1]
    have et : (bi (!decide (0 ≤ scw sf i 1 ∧ scw sf i 1 < sn S 12))) = 0 := by
      rw [hnM, decide_eq_true hc]
      rfl
    rw [eb] at p2
    rw [et] at H2
    refine tC26 H hs hlt hi hn p1 (by decide) H1 hm p2 (by decide) (by decide) H2 hm ⟨by decide, by decide⟩ ⟨by omega, by omega⟩ (by rw [sT_set, if_pos ⟨rfl, rfl, rfl⟩]) (fun _ => ⟨zw_up_same _ _ _, va_up_self _ _ _⟩) ?_
    refine hQ 0 _ σ2 (L0.same H2 ⟨_, zw_up_same _ _ _⟩ ⟨fd, (zw_up_ne _ _ hne).trans hfd⟩) ?_
    exact ((kc.of e1).trans (kc.of e2)).mono (by omega) (by omega)
  · obtain ⟨σ1, r1, H1, k1⟩ := F_wearX H hI.fix ha hv hc
    have p1 := Lh_wearX1 (d := 5) (b := ol) H ha r1 (by omega)
    obtain ⟨σ2, p2, H2, e2⟩ := M_wear H1 hS.1 hm hv
    have eb : (if 0 ≤ scw sf i 1 ∧ scw sf i 1 < sn S 12 then sT S 12 5 (scw sf i 1).toNat else 0) = 0 := by
      rw [if_neg (by rw [hnM]; exact hc)]
    have et : (bi (!decide (0 ≤ scw sf i 1 ∧ scw sf i 1 < sn S 12))) = 1 := by
      rw [hnM, decide_eq_false hc]
      rfl
    rw [eb] at p2
    rw [et] at H2
    refine tC26 (f := f) H hs hlt hi hn p1 (by decide) H1 hm p2 (by decide) (by decide) H2 hm ⟨by decide, by decide⟩ ⟨by decide, by decide⟩ (by rw [sT_set, if_pos ⟨rfl, rfl, rfl⟩]) (fun e => absurd e (by decide)) ?_
    refine hQ 1 _ σ2 (L0.same H2 ⟨f, hf⟩ ⟨fd, hfd⟩) ?_
    exact (k1.trans (kc.of e2)).mono (by omega) (by omega)
theorem tS25 (C : hCon g w0 z) (hz : zInj z) (L : lSt g w0 z a m ol od k S gh J σ) (hs : w0.1 scr = some (.inl (8, n, .inl sf))) (hlt : scr < zg_n g) (hi : i + 5 < n) (hn : n ≤ 1000)
    (hQ : ∀ (v : Int) (J2 : zw_W) (σ2 : zS), lSt g w0 z a m ol od (k + 1) (mt S v) gh J2 σ2 → kc σ σ2 1 6 → tW g 1600 2441 (tLV scr a m ol od i) [] σ2 Q) : tW g 1600 1887 (tLV scr a m ol od i) [] σ Q := by
  have L0 := L
  obtain ⟨H, ⟨f, hf⟩, ⟨fd, hfd⟩, ha, hm, hC, hR, hI, hS, hB⟩ := L
  have hne := ol_ne hf hfd
  have hv : rg (scw sf i 1) := rg_scw
  have hnM : sn S 12 = sn S 1 := hR.M.1
  have h100 := hI.fix.2.2.2.2.2.2.2.2.2.2.1
  have h30 := hI.fix.2.2.2.2.2.2.2.2.2.2.2.1
  have h5 := hI.fix.2.2.2.2.2.2.2.2.2.1
  by_cases hc : 0 ≤ scw sf i 1 ∧ scw sf i 1 < sn S 1
  · obtain ⟨q, hq⟩ : ∃ q : Nat, scw sf i 1 = q := ⟨_, (Int.toNat_of_nonneg hc.1).symm⟩
    have hq6 : q < sn S 1 := by omega
    have hqM : q < sn S 12 := by omega
    obtain ⟨g1, g2, g3, g4, g5⟩ := hR.M.2 q hq6
    obtain ⟨c1, c2, c3, c4, c5, c6⟩ := hI.mc.2.2 q hq6
    have r1 := F_machineIs (i := q) H hI.fix (hI.Mach hR.Q) ha hq6
    rw [← hq] at r1
    have q1 := g4
    have hst : fState S q = 98 ∨ fState S q = 45 ∨ fState S q = 111 := by
      have w := hR.mMach q hqM
      rw [g4] at w
      omega
    obtain ⟨σ1, p1, H1, e1⟩ := Lh_machineIs (d := 5) H ha r1 (by omega) H hf ⟨by omega, by omega⟩
    obtain ⟨σ2, p2, H2, e2⟩ := M_machineIs H1 hS.1 hR.mMach hm hv
    have eb : (if 0 ≤ scw sf i 1 ∧ scw sf i 1 < sn S 12 then sT S 12 6 (scw sf i 1).toNat else 0) = fState S q := by
      rw [if_pos (by rw [hnM]; exact hc), hq, Int.toNat_natCast, q1]
    have et : (bi (!decide (0 ≤ scw sf i 1 ∧ scw sf i 1 < sn S 12))) = 0 := by
      rw [hnM, decide_eq_true hc]
      rfl
    rw [eb] at p2
    rw [et] at H2
    refine tC25 H hs hlt hi hn p1 (by decide) H1 hm p2 (by decide) (by decide) H2 hm ⟨by decide, by decide⟩ ⟨by omega, by omega⟩ (by rw [sT_set, if_pos ⟨rfl, rfl, rfl⟩]) (fun _ => ⟨zw_up_same _ _ _, va_up_self _ _ _⟩) ?_
    refine hQ 0 _ σ2 (L0.same H2 ⟨_, zw_up_same _ _ _⟩ ⟨fd, (zw_up_ne _ _ hne).trans hfd⟩) ?_
    exact ((kc.of e1).trans e2).mono (by omega) (by omega)
  · obtain ⟨σ1, r1, H1, k1⟩ := F_machineIsX H hI.fix ha hv hc
    have p1 := Lh_machineIsX1 (d := 5) (b := ol) H ha r1 (by omega)
    obtain ⟨σ2, p2, H2, e2⟩ := M_machineIs H1 hS.1 hR.mMach hm hv
    have eb : (if 0 ≤ scw sf i 1 ∧ scw sf i 1 < sn S 12 then sT S 12 6 (scw sf i 1).toNat else 0) = 0 := by
      rw [if_neg (by rw [hnM]; exact hc)]
    have et : (bi (!decide (0 ≤ scw sf i 1 ∧ scw sf i 1 < sn S 12))) = 1 := by
      rw [hnM, decide_eq_false hc]
      rfl
    rw [eb] at p2
    rw [et] at H2
    refine tC25 (f := f) H hs hlt hi hn p1 (by decide) H1 hm p2 (by decide) (by decide) H2 hm ⟨by decide, by decide⟩ ⟨by decide, by decide⟩ (by rw [sT_set, if_pos ⟨rfl, rfl, rfl⟩]) (fun e => absurd e (by decide)) ?_
    refine hQ 1 _ σ2 (L0.same H2 ⟨f, hf⟩ ⟨fd, hfd⟩) ?_
    exact (k1.trans e2).mono (by omega) (by omega)
theorem tS27 (C : hCon g w0 z) (hz : zInj z) (L : lSt g w0 z a m ol od k S gh J σ) (hs : w0.1 scr = some (.inl (8, n, .inl sf))) (hlt : scr < zg_n g) (hi : i + 5 < n) (hn : n ≤ 1000)
    (hQ : ∀ (v : Int) (J2 : zw_W) (σ2 : zS), lSt g w0 z a m ol od (k + 1) (mt S v) gh J2 σ2 → kc σ σ2 2 10 → tW g 1600 2441 (tLV scr a m ol od i) [] σ2 Q) : tW g 1600 1999 (tLV scr a m ol od i) [] σ Q := by
  have L0 := L
  obtain ⟨H, ⟨f, hf⟩, ⟨fd, hfd⟩, ha, hm, hC, hR, hI, hS, hB⟩ := L
  have hne := ol_ne hf hfd
  have hv : rg (scw sf i 1) := rg_scw
  have hnM : sn S 12 = sn S 1 := hR.M.1
  have h100 := hI.fix.2.2.2.2.2.2.2.2.2.2.1
  have h30 := hI.fix.2.2.2.2.2.2.2.2.2.2.2.1
  have h5 := hI.fix.2.2.2.2.2.2.2.2.2.1
  by_cases hc : 0 ≤ scw sf i 1 ∧ scw sf i 1 < sn S 1
  · obtain ⟨q, hq⟩ : ∃ q : Nat, scw sf i 1 = q := ⟨_, (Int.toNat_of_nonneg hc.1).symm⟩
    have hq6 : q < sn S 1 := by omega
    have hqM : q < sn S 12 := by omega
    obtain ⟨g1, g2, g3, g4, g5⟩ := hR.M.2 q hq6
    obtain ⟨c1, c2, c3, c4, c5, c6⟩ := hI.mc.2.2 q hq6
    have r1 := F_waiting (i := q) H hI.fix (hI.Mach hR.Q) ha hq6
    rw [← hq] at r1
    have q1 : mWc S ((q : Nat) : Int) (sn S 15) = (fQ S q).length := wait_eq hR hI hq6
    have hql := ((hI.Mach hR.Q) q hq6).2.2
    have hql2 : (fQ S q).length ≤ 30 := hql
    obtain ⟨σ1, p1, H1, e1⟩ := Lh_waiting (d := 5) H ha r1 (by omega) H hf ⟨by omega, by omega⟩
    obtain ⟨σ2, p2, H2, e2⟩ := M_waiting H1 hS.1 (hR.mOrd hS) hm hv
    have eb : (if 0 ≤ scw sf i 1 ∧ scw sf i 1 < sn S 12 then ((mWc S (scw sf i 1) (sn S 15) : Nat) : Int) else 0) = (((fQ S q).length : Nat) : Int) := by
      rw [if_pos (by rw [hnM]; exact hc), hq, q1]
    have et : (bi (!decide (0 ≤ scw sf i 1 ∧ scw sf i 1 < sn S 12))) = 0 := by
      rw [hnM, decide_eq_true hc]
      rfl
    rw [eb] at p2
    rw [et] at H2
    refine tC27 H hs hlt hi hn p1 (by decide) H1 hm p2 (by decide) (by decide) H2 hm ⟨by decide, by decide⟩ ⟨by omega, by omega⟩ (by rw [sT_set, if_pos ⟨rfl, rfl, rfl⟩]) (fun _ => ⟨zw_up_same _ _ _, va_up_self _ _ _⟩) ?_
    refine hQ 0 _ σ2 (L0.same H2 ⟨_, zw_up_same _ _ _⟩ ⟨fd, (zw_up_ne _ _ hne).trans hfd⟩) ?_
    exact ((kc.of e1).trans e2).mono (by omega) (by omega)
  · obtain ⟨σ1, r1, H1, k1⟩ := F_waitingX H hI.fix ha hv hc
    have p1 := Lh_waitingX1 (d := 5) (b := ol) H ha r1 (by omega)
    obtain ⟨σ2, p2, H2, e2⟩ := M_waiting H1 hS.1 (hR.mOrd hS) hm hv
    have eb : (if 0 ≤ scw sf i 1 ∧ scw sf i 1 < sn S 12 then ((mWc S (scw sf i 1) (sn S 15) : Nat) : Int) else 0) = 0 := by
      rw [if_neg (by rw [hnM]; exact hc)]
    have et : (bi (!decide (0 ≤ scw sf i 1 ∧ scw sf i 1 < sn S 12))) = 1 := by
      rw [hnM, decide_eq_false hc]
      rfl
    rw [eb] at p2
    rw [et] at H2
    refine tC27 (f := f) H hs hlt hi hn p1 (by decide) H1 hm p2 (by decide) (by decide) H2 hm ⟨by decide, by decide⟩ ⟨by decide, by decide⟩ (by rw [sT_set, if_pos ⟨rfl, rfl, rfl⟩]) (fun e => absurd e (by decide)) ?_
    refine hQ 1 _ σ2 (L0.same H2 ⟨f, hf⟩ ⟨fd, hfd⟩) ?_
    exact (k1.trans e2).mono (by omega) (by omega)
theorem tS22 (C : hCon g w0 z) (hz : zInj z) (L : lSt g w0 z a m ol od k S gh J σ) (hs : w0.1 scr = some (.inl (8, n, .inl sf))) (hlt : scr < zg_n g) (hi : i + 5 < n) (hn : n ≤ 1000)
    (hQ : ∀ (v : Int) (J2 : zw_W) (σ2 : zS), lSt g w0 z a m ol od (k + 1) (mt S v) gh J2 σ2 → kc σ σ2 1 6 → tW g 1600 2441 (tLV scr a m ol od i) [] σ2 Q) : tW g 1600 1719 (tLV scr a m ol od i) [] σ Q := by
  have L0 := L
  obtain ⟨H, ⟨f, hf⟩, ⟨fd, hfd⟩, ha, hm, hC, hR, hI, hS, hB⟩ := L
  have hne := ol_ne hf hfd
  have hv : rg (scw sf i 1) := rg_scw
  have hnM : sn S 15 = sn S 8 := hR.O.1
  have h100 := hI.fix.2.2.2.2.2.2.2.2.2.2.1
  have h30 := hI.fix.2.2.2.2.2.2.2.2.2.2.2.1
  have h5 := hI.fix.2.2.2.2.2.2.2.2.2.1
  by_cases hc : 0 ≤ scw sf i 1 ∧ scw sf i 1 < sn S 8
  · obtain ⟨q, hq⟩ : ∃ q : Nat, scw sf i 1 = q := ⟨_, (Int.toNat_of_nonneg hc.1).symm⟩
    have hq6 : q < sn S 8 := by omega
    have hqM : q < sn S 15 := by omega
    obtain ⟨s, s6, hs7, r1⟩ := F_stateOf (o := q) H C hI.fix hI.Ord ha hq6
    rw [← hq] at r1
    have q1 : sT S 15 5 q = stL s := (hR.stIff hz hq6 s6).mpr hs7
    have hst := stL_cases s6
    obtain ⟨σ1, p1, H1, e1⟩ := Lh_stateOf (d := 5) H ha r1 (by omega) H hf ⟨by omega, by omega⟩
    obtain ⟨σ2, p2, H2, e2⟩ := M_stateOf H1 hS.1 (hR.mOrd hS) hm hv
    have eb : (if 0 ≤ scw sf i 1 ∧ scw sf i 1 < sn S 15 then sT S 15 5 (scw sf i 1).toNat else 0) = stL s := by
      rw [if_pos (by rw [hnM]; exact hc), hq, Int.toNat_natCast, q1]
    have et : (if 0 ≤ scw sf i 1 ∧ scw sf i 1 < sn S 15 then (0 : Int) else 1) = 0 := if_pos (by rw [hnM]; exact hc)
    rw [eb] at p2
    rw [et] at H2
    refine tC22 H hs hlt hi hn p1 (by decide) H1 hm p2 (by decide) (by decide) H2 hm ⟨by decide, by decide⟩ ⟨by omega, by omega⟩ (by rw [sT_set, if_pos ⟨rfl, rfl, rfl⟩]) (fun _ => ⟨zw_up_same _ _ _, va_up_self _ _ _⟩) ?_
    refine hQ 0 _ σ2 (L0.same H2 ⟨_, zw_up_same _ _ _⟩ ⟨fd, (zw_up_ne _ _ hne).trans hfd⟩) ?_
    exact ((kc.of e1).trans e2).mono (by omega) (by omega)
  · obtain ⟨σ1, r1, H1, k1⟩ := F_stateOfX H hI.fix ha hv hc
    have p1 := Lh_stateOfX1 (d := 5) (b := ol) H ha r1 (by omega)
    obtain ⟨σ2, p2, H2, e2⟩ := M_stateOf H1 hS.1 (hR.mOrd hS) hm hv
    have eb : (if 0 ≤ scw sf i 1 ∧ scw sf i 1 < sn S 15 then sT S 15 5 (scw sf i 1).toNat else 0) = 0 := by
      rw [if_neg (by rw [hnM]; exact hc)]
    have et : (if 0 ≤ scw sf i 1 ∧ scw sf i 1 < sn S 15 then (0 : Int) else 1) = 1 := if_neg (by rw [hnM]; exact hc)
    rw [eb] at p2
    rw [et] at H2
    refine tC22 (f := f) H hs hlt hi hn p1 (by decide) H1 hm p2 (by decide) (by decide) H2 hm ⟨by decide, by decide⟩ ⟨by decide, by decide⟩ (by rw [sT_set, if_pos ⟨rfl, rfl, rfl⟩]) (fun e => absurd e (by decide)) ?_
    refine hQ 1 _ σ2 (L0.same H2 ⟨f, hf⟩ ⟨fd, hfd⟩) ?_
    exact (k1.trans e2).mono (by omega) (by omega)
end ZBQ
