/-! THE SIMULATION: what holds between two calls of the law's loop; calls that change nothing -/
set_option maxRecDepth 100000
def lSt (g : zG) (w0 : hG) (z : Nat → Nat) (a m ol od k : Nat) (S : hS) (gh : Nat → Nat → Nat) (J : zw_W) (σ : zS) : Prop :=
  hRep g w0 σ gh S J ∧ (∃ f, J ol = some (wLA f)) ∧ (∃ fd, J od = some (wDA fd)) ∧ hat gh S 0 0 a ∧ hat gh S 11 0 m ∧ hCache g w0 gh S ∧ rR z S S ∧ iAll z k S ∧ mShape S ∧ mBox S
section ZBL
variable {g : zG} {w0 : hG} {z : Nat → Nat} {a m ol od k : Nat} {S S' : hS} {gh gh' : Nat → Nat → Nat} {J J' : zw_W} {σ σ' : zS}
theorem iAll.mono {k' : Nat} (h : iAll z k S) (hk : k ≤ k') : iAll z k' S := by
  obtain ⟨i1, i2, i3, i4, i5, i6, i7, i8, i9, i10, i11, i12, i13, i14⟩ := h
  refine ⟨i1, ?_, i3, i4, i5, i6, i7, i8, i9, ?_, i11, i12, ?_, i14⟩
  · obtain ⟨a1, a2, a3, a4, a5, a6, a7, a8, a9⟩ := i2
    refine ⟨a1, a2, a3, a4, fun c i hc hi => ?_, a6, a7, a8, a9⟩
    have := a5 c i hc hi
    omega
  · obtain ⟨a1, a2, a3, a4, a5, a6⟩ := i10
    exact ⟨a1, a2, a3, a4, a5, by omega⟩
  · obtain ⟨a1, a2, a3, a4, a5⟩ := i13
    exact ⟨a1, a2, by omega, a4, a5⟩
theorem ol_ne {f : Nat → Int64} {fd : Nat → UInt64} (h1 : J ol = some (wLA f)) (h2 : J od = some (wDA fd)) : od ≠ ol := by
  rintro rfl
  rw [h1] at h2
  cases h2
/-- nothing changed but what was thrown -/
theorem lSt.same {v : Int} {σ0 : zS} {J0 : zw_W} (L : lSt g w0 z a m ol od k S gh J0 σ0) (H : hRep g w0 σ' gh (mt S v) J') (j1 : ∃ f, J' ol = some (wLA f)) (j2 : ∃ fd, J' od = some (wDA fd)) : lSt g w0 z a m ol od (k + 1) (mt S v) gh J' σ' := by
  obtain ⟨-, -, -, ha, hm, hC, hR, hI, hS, hB⟩ := L
  exact ⟨H, j1, j2, ha, hm, hC.ext (gext_rfl (S := S)) (Nat.le_refl _) (fun j hj => by rw [sT_set, if_neg (by omega)]), (hR.frY hS hB mfr.mt).frX hI ffr.mt, (hI.fr ffr.mt).mono (Nat.le_succ _), hS.fr mfr.mt, hB.fr mfr.mt⟩
end ZBL
