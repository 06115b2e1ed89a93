/-! Foundrymark.partOf -/
set_option maxRecDepth 100000
section ZPO
variable {g : zG} {w0 : hG} {σ : zS} {gh : Nat → Nat → Nat} {S : hS} {J : zw_W} {a : Nat}
theorem F_partOf {i : Nat} (H : hRep g w0 σ gh S J) (hF : fFix S) (ha : hat gh S 0 0 a) (hi : i < sn S 6) (hp : 0 ≤ sT S 6 1 i) : zEnd g 4 99 [.ref a, iv i] σ (.inl (some (iv (fPnum S i)))) σ := by
  obtain ⟨b, hb, g1⟩ := F_lot H hF ha hi
  refine zEnd_of ?_
  refine zW_p 2 rfl ?_
  refine wV rfl rfl rfl rfl rfl rfl rfl (H.rc ha rfl rfl) g1 (by omega) ?_
  have hy : sT S 6 1 i = (fLp S i : Nat) := (Int.toNat_of_nonneg hp).symm
  refine hW_getp H rfl hb rfl rfl rfl hy (fun b2 hb2 => ?_)
  unfold fPnum
  rcases (show fLp S i % 2 = 0 ∨ fLp S i % 2 = 1 by omega) with e | e
  · rw [e] at hb2 ⊢
    refine hW_get (c := 2) H rfl hb2 rfl rfl rfl ?_
    exact zW_reti rfl rfl rfl ⟨rfl, rfl⟩
  · rw [e] at hb2 ⊢
    refine hW_get (c := 3) H rfl hb2 rfl rfl rfl ?_
    exact zW_reti rfl rfl rfl ⟨rfl, rfl⟩
end ZPO
