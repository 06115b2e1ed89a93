/-! REACH: one call of the law (tools/gen_g01.py) -/
set_option maxRecDepth 100000
/-- a call: the states ahead and behind, its cells and slots -/
noncomputable def Ev (z : Nat → Nat) (S S2 : hS) (x s : Nat) : Prop :=
  (ffr S S2 ∧ x ≤ 4 ∧ s ≤ 20) ∨
  (ffr S S2 ∧ ∃ v : Int, x = 1 + 2 * nNd S v ∧ s = 6 + 8 * nNd S v) ∨
  (ffr S S2 ∧ ∃ u v : Int, x = 1 + 2 * nWk S u v ∧ s = 6 + 8 * nWk S u v) ∨
  (ffr S S2 ∧ ∃ v : Int, x = 1 + 2 * nTch S v ∧ s = 6 + 8 * nTch S v) ∨
  (ffr S S2 ∧ ∃ v : Int, x = 2 + nLin S v ∧ s = 110 + 4 * nLin S v) ∨
  (ffr S S2 ∧ x = 6 + nSnd S ∧ s = 3130 + 4 * nSnd S) ∨
  ((∃ p q r t : Int, pAM S S2 p q r t) ∧ x = 8 ∧ s = 120) ∨
  ((∃ (c : Bool) (f : Int), pAP S S2 c f) ∧ x = 8 ∧ s = 120) ∨
  ((∃ p q r t : Int, pcAC S S2 p q r t) ∧ x = 4 ∧ s = 80) ∨
  ((∃ p q r t : Int, pcAO S S2 p q r t) ∧ x = 4 ∧ s = 80) ∨
  ((∃ p q c u v : Int, pRc z S S2 p q c u v) ∧ x = 8 ∧ s = 1000) ∨
  (∃ (v : Int) (on : Bool), pHo z S S2 v on ∧ x = 1 + 2 * nHo z S v on ∧ s = 6 + 8 * nHo z S v on) ∨
  ((∃ p y w : Int, pSC S S2 p y w) ∧ x = 1 ∧ s = 6) ∨
  (∃ v w : Int, pMe z S S2 v w ∧ x = 1 + 2 * nMe z S v w ∧ s = 6 + 8 * nMe z S v w) ∨
  ((∃ p q o d : Int, pOr z S S2 p q o d) ∧ x = 9 ∧ s = 400) ∨
  (∃ v : Int, pPr z S S2 v ∧ x = 1 + (nPr z S v).1 ∧ s = 6 + (nPr z S v).2) ∨
  ((∃ v : Int, pWd z S S2 v) ∧ x = 2 ∧ s = 8) ∨
  (∃ v : Int, pRl z S S2 v ∧ x = 20 + (nRl z S v).1 ∧ s = 2000 + (nRl z S v).2) ∨
  ((∃ v n : Int, psSc z S S2 v n) ∧ x = 1 ∧ s = 6) ∨
  (∃ e : Nat, pAd z S S2 e ∧ x = 4010 + 7 * e ∧ s = 16010 + 1820 * e) ∨
  (∃ v : Int, pDl z S S2 v ∧ x = 10 + (nDl z S v).1 ∧ s = 500 + (nDl z S v).2)
section ZG1
variable {g : zG} {w0 : hG} {z : Nat → Nat} {a m ol od k k2 scr n i : Nat} {sf : Nat → Int32} {S S2 : hS} {gh : Nat → Nat → Nat} {J : zw_W} {σ : zS} {Q : Option Value ⊕ String → zS → Prop} {x s : Nat}
theorem Ev.st (hz : zInj z) (hr : rR z S S) (hI : iAll z k S) (hS : mShape S) (hB : mBox S) (hI2 : iAll z k2 S2) (hR : iRn z S) (hk : k ≤ 1000) (h : Ev z S S2 x s) : gRn z S S2 := by
  rcases h with h | h | h | h | h | h | h | h | h | h | h | h | h | h | h | h | h | h | h | h | h
  · exact hI.same (ffr.sameW h.1) hR
  · exact hI.same (ffr.sameW h.1) hR
  · exact hI.same (ffr.sameW h.1) hR
  · exact hI.same (ffr.sameW h.1) hR
  · exact hI.same (ffr.sameW h.1) hR
  · exact hI.same (ffr.sameW h.1) hR
  · obtain ⟨⟨p, q, r, t, h⟩, -⟩ := h
    exact stAM hI hI2 hR h
  · obtain ⟨⟨c, f, h⟩, -⟩ := h
    exact stAP hI hI2 hR h
  · obtain ⟨⟨p, q, r, t, h⟩, -⟩ := h
    exact stAC hI hI2 hR h
  · obtain ⟨⟨p, q, r, t, h⟩, -⟩ := h
    exact stAO hI hI2 hR h
  · obtain ⟨⟨p, q, c, u, v, h⟩, -⟩ := h
    exact stRc hI hI2 hR h
  · obtain ⟨v, on, h, -⟩ := h
    exact stHo hz hr hI hS hB hI2 hR h
  · obtain ⟨⟨p, y, w, h⟩, -⟩ := h
    exact stSC hI hI2 hR h
  · obtain ⟨v, w, h, -⟩ := h
    exact stMe hz hr hI hS hB hI2 hR h
  · obtain ⟨⟨p, q, o, d, h⟩, -⟩ := h
    exact stOr hI hI2 hR h
  · obtain ⟨v, h, -⟩ := h
    exact stPr hz hr hI hS hB hI2 hR h
  · obtain ⟨⟨v, h⟩, -⟩ := h
    exact stWd hz hI hI2 hR h
  · obtain ⟨v, h, -⟩ := h
    exact stRl hz hr hI hS hB hI2 hR hk h
  · obtain ⟨⟨v, n, h⟩, -⟩ := h
    exact stSc hz hI hI2 hR h
  · obtain ⟨e, h, -⟩ := h
    exact stAd hz hI hI2 hR h
  · obtain ⟨v, h, -⟩ := h
    exact stDl hz hr hI hS hB hI2 hR h
/-- from a case's start to the loop's tail -/
theorem tEv (C : hCon g w0 z) (hz : zInj z) (L : lSt g w0 z a m ol od k S gh J σ) (hR : iRn z S) (hk : k ≤ 1000) (hs : w0.1 scr = some (.inl (8, n, .inl sf))) (hlt : scr < zg_n g) (hi : i + 5 < n) (hn : n ≤ 1000) (op : Int)
    (hQ : ∀ (S2 : hS) (gh2 : Nat → Nat → Nat) (J2 : zw_W) (σ2 : zS) (x s : Nat), Ev z S S2 x s → lSt g w0 z a m ol od (k + 1) S2 gh2 J2 σ2 → kc σ σ2 x s → tW g 1600 2441 (tLV scr a m ol od i) [] σ2 Q) : tW g 1600 (tsc op) (tLV scr a m ol od i) [] σ Q := by
  by_cases hop : op < 0 ∨ 34 < op
  · have e : tsc op = 2441 := by unfold tsc; rw [if_pos hop]
    rw [e]
    refine hQ S gh J σ 0 0 (Or.inl ⟨ffr.refl, Nat.zero_le _, Nat.zero_le _⟩) ?_ kc.rfl'
    obtain ⟨H, j1, j2, ha, hm, hC, hr, hI, hS, hB⟩ := L
    exact ⟨H, j1, j2, ha, hm, hC, hr, hI.mono (Nat.le_succ k), hS, hB⟩
  have e : op = 0 ∨ op = 1 ∨ op = 2 ∨ op = 3 ∨ op = 4 ∨ op = 5 ∨ op = 6 ∨ op = 7 ∨ op = 8 ∨ op = 9 ∨ op = 10 ∨ op = 11 ∨ op = 12 ∨ op = 13 ∨ op = 14 ∨ op = 15 ∨ op = 16 ∨ op = 17 ∨ op = 18 ∨ op = 19 ∨ op = 20 ∨ op = 21 ∨ op = 22 ∨ op = 23 ∨ op = 24 ∨ op = 25 ∨ op = 26 ∨ op = 27 ∨ op = 28 ∨ op = 29 ∨ op = 30 ∨ op = 31 ∨ op = 32 ∨ op = 33 ∨ op = 34 := by omega
  rcases e with rfl | rfl | rfl | rfl | rfl | rfl | rfl | rfl | rfl | rfl | rfl | rfl | rfl | rfl | rfl | rfl | rfl | rfl | rfl | rfl | rfl | rfl | rfl | rfl | rfl | rfl | rfl | rfl | rfl | rfl | rfl | rfl | rfl | rfl | rfl
  · exact tS0 L hs hlt hi hn (fun S2 gh2 J2 σ2 p L2 h2 => hQ S2 gh2 J2 σ2 _ _ (Or.inr (Or.inr (Or.inr (Or.inr (Or.inr (Or.inr (Or.inl ⟨⟨_, _, _, _, p⟩, rfl, rfl⟩))))))) L2 h2)
  · exact tS1 L hs hlt hi hn (fun S2 gh2 J2 σ2 p L2 h2 => hQ S2 gh2 J2 σ2 _ _ (Or.inr (Or.inr (Or.inr (Or.inr (Or.inr (Or.inr (Or.inr (Or.inl ⟨⟨_, _, p⟩, rfl, rfl⟩)))))))) L2 h2)
  · exact tS2 L hs hlt hi hn (fun S2 gh2 J2 σ2 p L2 h2 => hQ S2 gh2 J2 σ2 _ _ (Or.inr (Or.inr (Or.inr (Or.inr (Or.inr (Or.inr (Or.inr (Or.inr (Or.inl ⟨⟨_, _, _, _, p⟩, rfl, rfl⟩))))))))) L2 h2)
  · exact tS3 L hs hlt hi hn (fun S2 gh2 J2 σ2 p L2 h2 => hQ S2 gh2 J2 σ2 _ _ (Or.inr (Or.inr (Or.inr (Or.inr (Or.inr (Or.inr (Or.inr (Or.inr (Or.inr (Or.inl ⟨⟨_, _, _, _, p⟩, rfl, rfl⟩)))))))))) L2 h2)
  · exact tS4 C hz L hs hlt hi hn (fun S2 gh2 J2 σ2 p L2 h2 => hQ S2 gh2 J2 σ2 _ _ (Or.inr (Or.inr (Or.inr (Or.inr (Or.inr (Or.inr (Or.inr (Or.inr (Or.inr (Or.inr (Or.inl ⟨⟨_, _, _, _, _, p⟩, rfl, rfl⟩))))))))))) L2 h2)
  · exact tS5 C hz L hs hlt hi hn (fun v J2 σ2 L2 h2 => hQ _ gh J2 σ2 _ _ (Or.inl ⟨ffr.mt, by decide, by decide⟩) L2 h2)
  · exact tS6 C hz L hs hlt hi hn (fun S2 gh2 J2 σ2 p L2 h2 => hQ S2 gh2 J2 σ2 _ _ (Or.inr (Or.inr (Or.inr (Or.inr (Or.inr (Or.inr (Or.inr (Or.inr (Or.inr (Or.inr (Or.inr (Or.inl ⟨_, _, p, rfl, rfl⟩)))))))))))) L2 h2)
  · exact tS7 L hs hlt hi hn (fun v J2 σ2 L2 h2 => hQ _ gh J2 σ2 _ _ (Or.inr (Or.inl ⟨ffr.mt, _, rfl, rfl⟩)) L2 h2)
  · exact tS8 L hs hlt hi hn (by omega) (fun S2 gh2 J2 σ2 p L2 h2 => hQ S2 gh2 J2 σ2 _ _ (Or.inr (Or.inr (Or.inr (Or.inr (Or.inr (Or.inr (Or.inr (Or.inr (Or.inr (Or.inr (Or.inr (Or.inr (Or.inl ⟨⟨_, _, _, p⟩, rfl, rfl⟩))))))))))))) L2 h2)
  · exact tS9 C hz L hk hs hlt hi hn (fun S2 gh2 J2 σ2 p L2 h2 => hQ S2 gh2 J2 σ2 _ _ (Or.inr (Or.inr (Or.inr (Or.inr (Or.inr (Or.inr (Or.inr (Or.inr (Or.inr (Or.inr (Or.inr (Or.inr (Or.inr (Or.inl ⟨_, _, p, rfl, rfl⟩)))))))))))))) L2 h2)
  · exact tS10 L (fun v J2 σ2 L2 h2 => hQ _ gh J2 σ2 _ _ (Or.inl ⟨ffr.mt, by decide, by decide⟩) L2 h2)
  · exact tS11 C hz L hs hlt hi hn (fun v J2 σ2 L2 h2 => hQ _ gh J2 σ2 _ _ (Or.inl ⟨ffr.mt, by decide, by decide⟩) L2 h2)
  · exact tS12 C hz L hs hlt hi hn (fun v J2 σ2 L2 h2 => hQ _ gh J2 σ2 _ _ (Or.inl ⟨ffr.mt, by decide, by decide⟩) L2 h2)
  · exact tS13 C hz L hs hlt hi hn (fun v J2 σ2 L2 h2 => hQ _ gh J2 σ2 _ _ (Or.inl ⟨ffr.mt, by decide, by decide⟩) L2 h2)
  · exact tS14 C hz L hs hlt hi hn (fun v J2 σ2 L2 h2 => hQ _ gh J2 σ2 _ _ (Or.inl ⟨ffr.mt, by decide, by decide⟩) L2 h2)
  · exact tS15 C hz L hs hlt hi hn (fun S2 gh2 J2 σ2 p L2 h2 => hQ S2 gh2 J2 σ2 _ _ (Or.inr (Or.inr (Or.inr (Or.inr (Or.inr (Or.inr (Or.inr (Or.inr (Or.inr (Or.inr (Or.inr (Or.inr (Or.inr (Or.inr (Or.inl ⟨⟨_, _, _, _, p⟩, rfl, rfl⟩))))))))))))))) L2 h2)
  · exact tS16 C hz L hs hlt hi hn (fun S2 gh2 J2 σ2 p L2 h2 => hQ S2 gh2 J2 σ2 _ _ (Or.inr (Or.inr (Or.inr (Or.inr (Or.inr (Or.inr (Or.inr (Or.inr (Or.inr (Or.inr (Or.inr (Or.inr (Or.inr (Or.inr (Or.inr (Or.inl ⟨_, p, rfl, rfl⟩)))))))))))))))) L2 h2)
  · exact tS17 C hz L hs hlt hi hn (fun S2 gh2 J2 σ2 p L2 h2 => hQ S2 gh2 J2 σ2 _ _ (Or.inr (Or.inr (Or.inr (Or.inr (Or.inr (Or.inr (Or.inr (Or.inr (Or.inr (Or.inr (Or.inr (Or.inr (Or.inr (Or.inr (Or.inr (Or.inr (Or.inl ⟨⟨_, p⟩, rfl, rfl⟩))))))))))))))))) L2 h2)
  · exact tS18 C hz L hR.1.1 hk hs hlt hi hn (fun S2 gh2 J2 σ2 p L2 h2 => hQ S2 gh2 J2 σ2 _ _ (Or.inr (Or.inr (Or.inr (Or.inr (Or.inr (Or.inr (Or.inr (Or.inr (Or.inr (Or.inr (Or.inr (Or.inr (Or.inr (Or.inr (Or.inr (Or.inr (Or.inr (Or.inl ⟨_, p, rfl, rfl⟩)))))))))))))))))) L2 h2)
  · exact tS19 C hz L hs hlt hi hn (fun S2 gh2 J2 σ2 p L2 h2 => hQ S2 gh2 J2 σ2 _ _ (Or.inr (Or.inr (Or.inr (Or.inr (Or.inr (Or.inr (Or.inr (Or.inr (Or.inr (Or.inr (Or.inr (Or.inr (Or.inr (Or.inr (Or.inr (Or.inr (Or.inr (Or.inr (Or.inl ⟨⟨_, _, p⟩, rfl, rfl⟩))))))))))))))))))) L2 h2)
  · exact tS20 C hz L hs hlt hi hn (fun S2 gh2 J2 σ2 e p L2 h2 => hQ S2 gh2 J2 σ2 _ _ (Or.inr (Or.inr (Or.inr (Or.inr (Or.inr (Or.inr (Or.inr (Or.inr (Or.inr (Or.inr (Or.inr (Or.inr (Or.inr (Or.inr (Or.inr (Or.inr (Or.inr (Or.inr (Or.inr (Or.inl ⟨e, p, rfl, rfl⟩)))))))))))))))))))) L2 h2)
  · exact tS21 C hz L hk hs hlt hi hn (fun S2 gh2 J2 σ2 p L2 h2 => hQ S2 gh2 J2 σ2 _ _ (Or.inr (Or.inr (Or.inr (Or.inr (Or.inr (Or.inr (Or.inr (Or.inr (Or.inr (Or.inr (Or.inr (Or.inr (Or.inr (Or.inr (Or.inr (Or.inr (Or.inr (Or.inr (Or.inr (Or.inr ⟨_, p, rfl, rfl⟩)))))))))))))))))))) L2 h2)
  · exact tS22 C hz L hs hlt hi hn (fun v J2 σ2 L2 h2 => hQ _ gh J2 σ2 _ _ (Or.inl ⟨ffr.mt, by decide, by decide⟩) L2 h2)
  · exact tS23 C hz L hs hlt hi hn (fun v J2 σ2 L2 h2 => hQ _ gh J2 σ2 _ _ (Or.inl ⟨ffr.mt, by decide, by decide⟩) L2 h2)
  · exact tS24 C hz L hs hlt hi hn (fun v J2 σ2 L2 h2 => hQ _ gh J2 σ2 _ _ (Or.inl ⟨ffr.mt, by decide, by decide⟩) L2 h2)
  · exact tS25 C hz L hs hlt hi hn (fun v J2 σ2 L2 h2 => hQ _ gh J2 σ2 _ _ (Or.inl ⟨ffr.mt, by decide, by decide⟩) L2 h2)
  · exact tS26 C hz L hs hlt hi hn (fun v J2 σ2 L2 h2 => hQ _ gh J2 σ2 _ _ (Or.inl ⟨ffr.mt, by decide, by decide⟩) L2 h2)
  · exact tS27 C hz L hs hlt hi hn (fun v J2 σ2 L2 h2 => hQ _ gh J2 σ2 _ _ (Or.inl ⟨ffr.mt, by decide, by decide⟩) L2 h2)
  · exact tS28 C hz L hs hlt hi hn (fun v J2 σ2 L2 h2 => hQ _ gh J2 σ2 _ _ (Or.inr (Or.inr (Or.inl ⟨ffr.mt, _, _, rfl, rfl⟩))) L2 h2)
  · exact tS29 C hz L hs hlt hi hn (fun v J2 σ2 L2 h2 => hQ _ gh J2 σ2 _ _ (Or.inr (Or.inr (Or.inr (Or.inl ⟨ffr.mt, _, rfl, rfl⟩)))) L2 h2)
  · exact tS30 C L hs hlt hi hn (fun v S1 gh1 J2 σ2 hf hm L2 h2 => hQ _ gh1 J2 σ2 _ _ (Or.inr (Or.inr (Or.inr (Or.inr (Or.inl ⟨hf.trans ffr.mt, _, rfl, rfl⟩))))) L2 h2)
  · exact tS31 C hz L hs hlt hi hn (fun v J2 σ2 L2 h2 => hQ _ gh J2 σ2 _ _ (Or.inl ⟨ffr.mt, by decide, by decide⟩) L2 h2)
  · exact tS32 C hz L hs hlt hi hn (fun v J2 σ2 L2 h2 => hQ _ gh J2 σ2 _ _ (Or.inl ⟨ffr.mt, by decide, by decide⟩) L2 h2)
  · exact tS33 C L hs hlt hi hn (fun v J2 σ2 L2 h2 => hQ _ gh J2 σ2 _ _ (Or.inl ⟨ffr.mt, by decide, by decide⟩) L2 h2)
  · exact tS34 C L (fun v S1 gh1 J2 σ2 hf hm L2 h2 => hQ _ gh1 J2 σ2 _ _ (Or.inr (Or.inr (Or.inr (Or.inr (Or.inr (Or.inl ⟨hf.trans ffr.mt, rfl, rfl⟩)))))) L2 h2)
end ZG1
