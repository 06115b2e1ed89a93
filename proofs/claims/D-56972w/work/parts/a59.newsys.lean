/-! Foundrymark.<init> (0) and FoundrymarkModel.<init> (194) -/
set_option maxRecDepth 100000
section ZUT
variable {g : zG} {w0 : hG} {σ : zS} {gh : Nat → Nat → Nat} {S : hS} {J : zw_W} {d i a : Nat} {Q : Option Value ⊕ String → zS → Prop}
def kSup (S : hS) (q j z : Nat) : hS := ssA (kFSupplier (snw S 9 []) (sn S 9) z) 48 q ((sE S 48 q).set j ((sn S 9 : Nat) : Int))
theorem sn_kSup {q j z c : Nat} : sn S c ≤ sn (kSup S q j z) c := Nat.le_trans (sn_w_le (xs := []) (c := 9)) (sn_w_le (xs := []) (c := 28))
/-- the private constructor of a nest mate -/
theorem wI46 {k pc d1 b : Nat} {lv : zp_L} {st rest : List Value} {o : Option Value} {σ1 : zS} {μ' : zMt} (hx : r_i k pc = some (.invokespecial 46, 3)) (hk : r_o k = 0) (hm : zck 4 false = some μ') (hst : st = .ref b :: rest) (h6 : zc6 rest = true) (hl : Nat.ble (lg_sl [.ref b]).length μ'.2.2.1 = true)
    (hrun : zEnd g d1 4 [.ref b] σ (.inl o) σ1) (hd : d1 < d) (hr : zW g d k (pc + 3) lv (o.toList ++ rest) σ1 Q) : zW g d k pc lv st σ Q := by
  refine wcall (Y := (4, [.ref b], rest, 3)) hx rfl ?_ rfl ?_ hm h6 hl hrun hd hr
  · exact zheap_spec (by rw [hk]; rfl) st
  · unfold zcall
    simp only
    rw [hk, show zcI_at 0 46 = none from rfl, hst]
    simp only
    rw [if_pos ⟨trivial, trivial⟩]
theorem F_supStep {m q j z : Nat} (hj : j < 4) (H : hRep g w0 σ gh S J) (ha : hat gh S 0 m a) (hf : sT S 0 4 m = (q : Nat)) (hlen : (sE S 48 q).length = 4) (hZ : zt_val (zg_s g) ("Foundrymark$Rule", "NORMAL", "LFoundrymark$Rule;") = some (.ref z))
    (hr : ∀ (σ' : zS) (ghx : Nat → Nat → Nat), gext S gh ghx → hRep g w0 σ' ghx (kSup S q j z) J → hat ghx (kSup S q j z) 0 m a → kc σ σ' 2 5 → zW g 7 0 58 [(0, .ref a), (1, iv ((j + 1 : Nat) : Int))] [] σ' Q) : zW g 7 0 63 [(0, .ref a), (1, iv ((j : Nat) : Int))] [] σ Q := by
  refine zW_p 1 rfl ?_
  refine hW_getr (n := 48) (j := q) H rfl ha rfl rfl rfl hf (fun b1 hb1 => ?_)
  refine zW_p 1 rfl ?_
  refine hW_new H rfl rfl rfl rfl rfl rfl (fun σ2 b2 H2 hb2 k2 => ?_)
  refine zW_p 1 rfl ?_
  obtain ⟨σ3, g3, ghx, x3, H3, k3⟩ := F_newSupplier H2 hb2 hZ
  refine wI46 rfl rfl rfl rfl rfl rfl g3 (by omega) ?_
  have le2 : ∀ c, sn (snw S 9 []) c ≤ sn (kFSupplier (snw S 9 []) (sn S 9) z) c := fun c => sn_w_le (xs := []) (c := 28)
  have hbx : hat ghx (kFSupplier (snw S 9 []) (sn S 9) z) 9 (sn S 9) b2 := x3.hat le2 hb2
  have hb1x : hat ghx (kFSupplier (snw S 9 []) (sn S 9) z) 48 q b1 := x3.hat le2 hb1.old
  have hax : hat ghx (kFSupplier (snw S 9 []) (sn S 9) z) 0 m a := x3.hat le2 ha.old
  have eL : sE (kFSupplier (snw S 9 []) (sn S 9) z) 48 q = sE S 48 q := rfl
  refine hW_aastS H3 rfl hb1x hbx (by rw [eL, hlen]; exact hj) (by rw [eL, hlen]; omega) (fun σ4 H4 e4 => ?_)
  refine zW_p 2 rfl ?_
  refine zW_lv [(0, .ref a), (1, iv ((j + 1 : Nat) : Int))] rfl ⟨rfl, ?_, trivial⟩ ?_
  · show some (Value.int (Int32.ofInt ((j : Nat) : Int) + Int32.ofInt 1)) = some (Value.int (Int32.ofInt ((j + 1 : Nat) : Int)))
    rw [I_add]
    rfl
  exact hr σ4 ghx (gext.trans (gext_w gext_rfl (fun _ => Nat.le_refl _)) x3 (fun _ => sn_w_le)) H4 hax (((k2.trans k3).trans (kc.of e4)).mono (by omega) (by omega))
def kF0a (S : hS) (m : Nat) : hS := kL (kL (kL (kL S 0 0 m 20) 0 1 m 21) 0 2 m 22) 0 3 m 23
def kF0b (S : hS) (m : Nat) : hS := sset (snw (kF0a S m) 48 (List.replicate 4 (-1))) 0 4 m ((sn (kF0a S m) 48 : Nat) : Int)
def kF0 (S : hS) (m z : Nat) : hS := kSup (kSup (kSup (kSup (kF0b S m) (sn S 48) 0 z) (sn S 48) 1 z) (sn S 48) 2 z) (sn S 48) 3 z
theorem F_newSys {m z : Nat} (H : hRep g w0 σ gh S J) (ha : hat gh S 0 m a) (hZ : zt_val (zg_s g) ("Foundrymark$Rule", "NORMAL", "LFoundrymark$Rule;") = some (.ref z)) : ∃ σ' : zS, zEnd g 7 0 [.ref a] σ (.inl none) σ' ∧ ∃ ghx, gext S gh ghx ∧ hRep g w0 σ' ghx (kF0 S m z) J ∧ kc σ σ' 13 36 := by
  have main : zW g 7 0 0 (lv_args 0 [.ref a]) [] σ (fun o σ' => o = .inl none ∧ ∃ ghx, gext S gh ghx ∧ hRep g w0 σ' ghx (kF0 S m z) J ∧ kc σ σ' 13 36) := by
    refine zW_p 1 rfl ?_
    refine aW_oinit rfl rfl (Nat.le_of_ble_eq_true rfl) ?_
    refine zW_p 1 rfl ?_
    refine hW_newPut 20 H ha rfl rfl rfl rfl rfl rfl rfl rfl rfl (fun _ => rfl) (by omega) rfl rfl rfl rfl (Or.inr ⟨rfl, rfl⟩) (fun _ => rfl) (fun _ => rfl) (by omega) (fun σ1 g1 x1 H1 ha1 k1 => ?_)
    refine zW_p 1 rfl ?_
    refine hW_newPut 21 H1 ha1 rfl rfl rfl rfl rfl rfl rfl rfl rfl (fun _ => rfl) (by omega) rfl rfl rfl rfl (Or.inr ⟨rfl, rfl⟩) (fun _ => rfl) (fun _ => rfl) (by omega) (fun σ2 g2 x2 H2 ha2 k2 => ?_)
    refine zW_p 1 rfl ?_
    refine hW_newPut 22 H2 ha2 rfl rfl rfl rfl rfl rfl rfl rfl rfl (fun _ => rfl) (by omega) rfl rfl rfl rfl (Or.inr ⟨rfl, rfl⟩) (fun _ => rfl) (fun _ => rfl) (by omega) (fun σ3 g3 x3 H3 ha3 k3 => ?_)
    refine zW_p 1 rfl ?_
    refine hW_newPut 23 H3 ha3 rfl rfl rfl rfl rfl rfl rfl rfl rfl (fun _ => rfl) (by omega) rfl rfl rfl rfl (Or.inr ⟨rfl, rfl⟩) (fun _ => rfl) (fun _ => rfl) (by omega) (fun σ4 g4 x4 H4 ha4 k4 => ?_)
    have X4 : gext S gh g4 := ((x1.trans x2 (fun _ => sn_kL)).trans x3 (fun _ => Nat.le_trans sn_kL sn_kL)).trans x4 (fun _ => Nat.le_trans sn_kL (Nat.le_trans sn_kL sn_kL))
    refine zW_p 2 rfl ?_
    refine hW_newS (n := 4) H4 rfl (by omega) rfl (fun σ5 b5 H5 hb5 k5 => ?_)
    refine hW_put H5 rfl (ha4.old) rfl rfl rfl (Or.inr ⟨rfl, rfl⟩) rfl rfl (convR hb5) (alvR hb5.1) (fun e => absurd e (by decide)) (fun σ6 H6 e6 => ?_)
    have X6 : gext S gh (ghw g4 (kF0a S m) 48 b5) := gext_w X4 (fun _ => Nat.le_trans sn_kL (Nat.le_trans sn_kL (Nat.le_trans sn_kL sn_kL)))
    have ha6 : hat (ghw g4 (kF0a S m) 48 b5) (kF0b S m) 0 m a := hat.set ha4.old
    have H6 : hRep g w0 σ6 (ghw g4 (kF0a S m) 48 b5) (kF0b S m) J := H6
    have K6 : kc σ σ6 5 16 := (((((k1.trans k2).trans k3).trans k4).trans k5).trans (kc.of e6)).mono (by omega) (by omega)
    have L6 : ∀ c, sn S c ≤ sn (kF0b S m) c := fun c => Nat.le_trans (Nat.le_trans sn_kL (Nat.le_trans sn_kL (Nat.le_trans sn_kL sn_kL))) (sn_w_le (S := kF0a S m) (c := 48) (xs := List.replicate 4 (-1)))
    have e48 : sn (kF0a S m) 48 = sn S 48 := rfl
    have hf : sT (kF0b S m) 0 4 m = ((sn S 48 : Nat) : Int) := by
      unfold kF0b
      rw [sT_set, if_pos ⟨rfl, rfl, rfl⟩, e48]
    have hl : sE (kF0b S m) 48 (sn S 48) = List.replicate 4 (-1) := by
      unfold kF0b
      rw [sE_set, sE_w, if_pos ⟨rfl, e48.symm⟩]
    have hSu : ∀ {S' : hS} {q j z : Nat}, sE (kSup S' q j z) 48 q = (sE S' 48 q).set j ((sn S' 9 : Nat) : Int) := fun {S' q j z} => by
      unfold kSup
      rw [sE_ssA, if_pos ⟨rfl, rfl⟩]
    have hT : ∀ {S' : hS} {q j z : Nat}, sT (kSup S' q j z) 0 4 m = sT S' 0 4 m := fun {S' q j z} => rfl
    have eF : kF0 S m z = kSup (kSup (kSup (kSup (kF0b S m) (sn S 48) 0 z) (sn S 48) 1 z) (sn S 48) 2 z) (sn S 48) 3 z := rfl
    generalize hB : kF0b S m = B at *
    clear hB X4 H5 H4 H3 H2 H1 ha1 ha2 ha3 ha4
    refine zW_p 5 rfl ?_
    refine zW_lv [(0, .ref a), (1, iv ((0 : Nat) : Int))] rfl ⟨rfl, rfl, trivial⟩ ?_
    refine F_supStep (q := sn S 48) (by omega) H6 ha6 hf (by rw [hl]; rfl) hZ (fun σ7 g7 x7 H7 ha7 k7 => ?_)
    refine zW_p 3 rfl ?_
    refine zW_lv [(0, .ref a), (1, iv ((1 : Nat) : Int))] rfl ⟨rfl, rfl, trivial⟩ ?_
    refine F_supStep (q := sn S 48) (by omega) H7 ha7 (hT.trans hf) (by rw [hSu, List.length_set, hl]; rfl) hZ (fun σ8 g8 x8 H8 ha8 k8 => ?_)
    refine zW_p 3 rfl ?_
    refine zW_lv [(0, .ref a), (1, iv ((2 : Nat) : Int))] rfl ⟨rfl, rfl, trivial⟩ ?_
    refine F_supStep (q := sn S 48) (by omega) H8 ha8 (hT.trans (hT.trans hf)) (by rw [hSu, List.length_set, hSu, List.length_set, hl]; rfl) hZ (fun σ9 g9 x9 H9 ha9 k9 => ?_)
    refine zW_p 3 rfl ?_
    refine zW_lv [(0, .ref a), (1, iv ((3 : Nat) : Int))] rfl ⟨rfl, rfl, trivial⟩ ?_
    refine F_supStep (q := sn S 48) (by omega) H9 ha9 (hT.trans (hT.trans (hT.trans hf))) (by rw [hSu, List.length_set, hSu, List.length_set, hSu, List.length_set, hl]; rfl) hZ (fun σ10 g10 x10 H10 ha10 k10 => ?_)
    refine zW_p 3 rfl ?_
    exact wW_ret rfl rfl rfl rfl ⟨rfl, g10, (((X6.trans x7 L6).trans x8 (fun c => Nat.le_trans (L6 c) sn_kSup)).trans x9 (fun c => Nat.le_trans (L6 c) (Nat.le_trans sn_kSup sn_kSup))).trans x10 (fun c => Nat.le_trans (L6 c) (Nat.le_trans sn_kSup (Nat.le_trans sn_kSup sn_kSup))), by rw [eF]; exact H10, ((((K6.trans k7).trans k8).trans k9).trans k10).mono (by omega) (by omega)⟩
  obtain ⟨o, σ', h1, rfl, h2⟩ := main
  exact ⟨σ', h1, h2⟩
end ZUT
