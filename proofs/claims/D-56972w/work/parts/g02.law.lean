/-! REACH: the law's run out of a bound of the room over all chains of calls -/
set_option maxRecDepth 100000
/-- what holds of a state between two calls -/
def gd (z : Nat → Nat) (k : Nat) (S : hS) : Prop := rR z S S ∧ iAll z k S ∧ mShape S ∧ mBox S ∧ iRn z S
/-- k calls lead to S, with T cells and U slots at most -/
def Ch (z : Nat → Nat) : Nat → hS → Nat → Nat → Prop
  | 0, S, T, U => S = X0 (z 6) ∧ T = 0 ∧ U = 0
  | k + 1, S2, T2, U2 => ∃ (S : hS) (T U x s : Nat), Ch z k S T U ∧ gd z k S ∧ gd z (k + 1) S2 ∧ Ev z S S2 x s ∧ gRn z S S2 ∧ T2 = T + x ∧ U2 = U + s
/-- the room is enough for every chain of at most 64 calls -/
def Room : Prop := ∀ z : Nat → Nat, zInj z → ∀ (k : Nat) (S : hS) (T U : Nat), k ≤ 64 → Ch z k S T U → gd z k S → T + 31 ≤ 1137720 ∧ U + 200 ≤ 5566210
section ZG2
theorem zLaw_of (hroom : Room) : zLaw := by
  intro g w0 z ci b L xs hL hF C hCa hb hci hs hlt
  have hz : zInj z := fun i j hi hj h => C.inj hi hj h
  have H := hStart hF hb ci hci 0
  have hZ : zt_val (zg_s g) ("Foundrymark$Rule", "NORMAL", "LFoundrymark$Rule;") = some (.ref (z 6)) := (C.2.1 6 (by decide) (by decide)).1
  refine tStart H hZ (by decide) ?_
  intro σ1 gh1 a m ol od f fd hx ha hm H1 hne hk1
  have L0 : lSt g w0 z a m ol od 0 (X0 (z 6)) gh1 (zw_up (zw_up (fun _ => none) ol (wLA f)) od (wDA fd)) σ1 :=
    ⟨H1, ⟨f, (zw_up_ne _ _ hne).trans (zw_up_same _ _ _)⟩, ⟨fd, zw_up_same _ _ _⟩, ha, hm, hCa.ext hx (Nat.le_refl 256) (fun j hj => rfl), X0_r hz, X0_all hz, X0_shape, X0_box⟩
  refine tLoop (P := fun i σ => ∃ (k : Nat) (S : hS) (gh : Nat → Nat → Nat) (J : zw_W) (T U : Nat), i = 6 * k ∧ lSt g w0 z a m ol od k S gh J σ ∧ iRn z S ∧ Ch z k S T U ∧ kc (w0.1, zg_n g, 0) σ (31 + T) (200 + U)) ?_ hs hlt (by omega) ?_ ?_ L 0 σ1 (by omega) (Nat.zero_le _) ?_
  · rintro i σ ⟨k, S, gh, J, T, U, -, h, -⟩
    exact ⟨gh, S, J, h.1⟩
  · rintro i σ hi ⟨k, S, gh, J, T, U, e, h, hR, hc, hk⟩ hT
    have hgd : gd z k S := ⟨h.2.2.2.2.2.2.1, h.2.2.2.2.2.2.2.1, h.2.2.2.2.2.2.2.2.1, h.2.2.2.2.2.2.2.2.2, hR⟩
    refine tEv C hz h hR (by omega) hs hlt (by omega) (by omega) _ ?_
    intro S2 gh2 J2 σ2 x s he h2 hk2
    have hst := he.st hz hgd.1 hgd.2.1 hgd.2.2.1 hgd.2.2.2.1 h2.2.2.2.2.2.2.2.1 hR (by omega)
    have hgd2 : gd z (k + 1) S2 := ⟨h2.2.2.2.2.2.2.1, h2.2.2.2.2.2.2.2.1, h2.2.2.2.2.2.2.2.2.1, h2.2.2.2.2.2.2.2.2.2, hst.2⟩
    refine hT σ2 ⟨k + 1, S2, gh2, J2, T + x, U + s, by omega, h2, hst.2, ⟨S, T, U, x, s, hc, hgd, hgd2, he, hst, rfl, rfl⟩, ?_⟩
    exact (hk.trans hk2).mono (by omega) (by omega)
  · rintro i σ ⟨k, S, gh, J, T, U, e, h, hR, hc, hk⟩ h1 h2
    have hgd : gd z k S := ⟨h.2.2.2.2.2.2.1, h.2.2.2.2.2.2.2.1, h.2.2.2.2.2.2.2.2.1, h.2.2.2.2.2.2.2.2.2, hR⟩
    obtain ⟨r1, r2⟩ := hroom z hz k S T U (by omega) hc hgd
    obtain ⟨k1, k2, k3, k4⟩ := hk
    have k2 : σ.2.1 ≤ zg_n g + (31 + T) := k2
    have k4 : σ.2.2 ≤ 0 + (200 + U) := k4
    exact ⟨rfl, by omega, by omega⟩
  · exact ⟨0, X0 (z 6), gh1, _, 0, 0, rfl, L0, X0_rn hz, ⟨rfl, rfl, rfl⟩, hk1⟩
end ZG2
