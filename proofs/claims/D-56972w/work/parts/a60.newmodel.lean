/-! FoundrymarkModel.<init> (194) -/
set_option maxRecDepth 100000
section ZUM
variable {g : zG} {w0 : hG} {σ : zS} {gh : Nat → Nat → Nat} {S : hS} {J : zw_W} {d i a : Nat} {Q : Option Value ⊕ String → zS → Prop}
def kRls (S : hS) (q : Nat) : hS := ssE (snw S 35 []) 34 q (sE S 34 q ++ [((sn S 35 : Nat) : Int)])
theorem sn_kRls {q c : Nat} : sn S c ≤ sn (kRls S q) c := sn_w_le (xs := []) (c := 35)
theorem M_rlStep {m q j : Nat} (hj : j < 4) (H : hRep g w0 σ gh S J) (ha : hat gh S 11 m a) (hf : sT S 11 7 m = (q : Nat)) (hlen : (sE S 34 q).length = j)
    (hr : ∀ (σ' : zS) (ghx : Nat → Nat → Nat), gext S gh ghx → hRep g w0 σ' ghx (kRls S q) J → hat ghx (kRls S q) 11 m a → kc σ σ' 2 21 → zW g 8 194 88 [(0, .ref a), (1, iv ((j + 1 : Nat) : Int))] [] σ' Q) : zW g 8 194 93 [(0, .ref a), (1, iv ((j : Nat) : Int))] [] σ Q := by
  refine zW_p 1 rfl ?_
  refine hW_getr (n := 34) (j := q) H rfl ha rfl rfl rfl hf (fun b1 hb1 => ?_)
  refine hW_newL 35 H rfl rfl rfl rfl rfl rfl rfl rfl rfl (fun _ => rfl) (by omega) (fun σ2 b2 H2 hb2 k2 => ?_)
  have eL : sE (snw S 35 []) 34 q = sE S 34 q := rfl
  refine hW_add (x := ((sn S 35 : Nat) : Int)) H2 rfl rfl rfl hb1.old rfl rfl rfl (elrepR hb2) (alvR hb2.1) (by rw [eL, hlen]; omega) rfl (by omega) (fun σ3 H3 k3 => ?_)
  refine zW_p 3 rfl ?_
  refine zW_lv [(0, .ref a), (1, iv ((j + 1 : Nat) : Int))] rfl ⟨rfl, ?_, trivial⟩ ?_
  · show some (Value.int (Int32.ofInt ((j : Nat) : Int) + Int32.ofInt 1)) = some (Value.int (Int32.ofInt ((j + 1 : Nat) : Int)))
    rw [I_add]
    rfl
  rw [eL, hlen] at k3
  exact hr σ3 _ (gext_w gext_rfl (fun _ => Nat.le_refl _)) H3 (hat.ssE ha.old) ((k2.trans k3).mono (by omega) (by omega))
def kM0a (S : hS) (m : Nat) : hS := kL (kL (kL (kL S 11 1 m 30) 11 2 m 31) 11 3 m 32) 11 4 m 33
def kM0c (S : hS) : hS := ssA (ssA (ssA (ssA (snw S 47 (List.replicate 4 0)) 47 (sn S 47) ((List.replicate 4 0).set 0 110)) 47 (sn S 47) (((List.replicate 4 0).set 0 110).set 1 110)) 47 (sn S 47) ((((List.replicate 4 0).set 0 110).set 1 110).set 2 110)) 47 (sn S 47) (((((List.replicate 4 0).set 0 110).set 1 110).set 2 110).set 3 110)
def kM0b (S : hS) (m : Nat) : hS := kL (sset (kM0c (kM0a S m)) 11 6 m ((sn (kM0a S m) 47 : Nat) : Int)) 11 7 m 34
def kM0 (S : hS) (m : Nat) : hS := kRls (kRls (kRls (kRls (kM0b S m) (sn S 34)) (sn S 34)) (sn S 34)) (sn S 34)
theorem M_newSys {m : Nat} (H : hRep g w0 σ gh S J) (ha : hat gh S 11 m a) : ∃ σ' : zS, zEnd g 8 194 [.ref a] σ (.inl none) σ' ∧ ∃ ghx, gext S gh ghx ∧ hRep g w0 σ' ghx (kM0 S m) J ∧ kc σ σ' 14 103 := by
  have main : zW g 8 194 0 (lv_args 0 [.ref a]) [] σ (fun o σ' => o = .inl none ∧ ∃ ghx, gext S gh ghx ∧ hRep g w0 σ' ghx (kM0 S m) J ∧ kc σ σ' 14 103) := by
    refine zW_p 1 rfl ?_
    refine aW_oinit rfl rfl (Nat.le_of_ble_eq_true rfl) ?_
    refine zW_p 1 rfl ?_
    refine hW_newPut 30 H ha rfl rfl rfl rfl rfl rfl rfl rfl rfl (fun _ => rfl) (by omega) rfl rfl rfl rfl (Or.inr ⟨rfl, rfl⟩) (fun _ => rfl) (fun _ => rfl) (by omega) (fun σ1 g1 x1 H1 ha1 k1 => ?_)
    refine zW_p 1 rfl ?_
    refine hW_newPut 31 H1 ha1 rfl rfl rfl rfl rfl rfl rfl rfl rfl (fun _ => rfl) (by omega) rfl rfl rfl rfl (Or.inr ⟨rfl, rfl⟩) (fun _ => rfl) (fun _ => rfl) (by omega) (fun σ2 g2 x2 H2 ha2 k2 => ?_)
    refine zW_p 1 rfl ?_
    refine hW_newPut 32 H2 ha2 rfl rfl rfl rfl rfl rfl rfl rfl rfl (fun _ => rfl) (by omega) rfl rfl rfl rfl (Or.inr ⟨rfl, rfl⟩) (fun _ => rfl) (fun _ => rfl) (by omega) (fun σ3 g3 x3 H3 ha3 k3 => ?_)
    refine zW_p 1 rfl ?_
    refine hW_newPut 33 H3 ha3 rfl rfl rfl rfl rfl rfl rfl rfl rfl (fun _ => rfl) (by omega) rfl rfl rfl rfl (Or.inr ⟨rfl, rfl⟩) (fun _ => rfl) (fun _ => rfl) (by omega) (fun σ4 g4 x4 H4 ha4 k4 => ?_)
    have X4 : gext S gh g4 := ((x1.trans x2 (fun _ => sn_kL)).trans x3 (fun _ => Nat.le_trans sn_kL sn_kL)).trans x4 (fun _ => Nat.le_trans sn_kL (Nat.le_trans sn_kL sn_kL))
    have H4 : hRep g w0 σ4 g4 (kM0a S m) J := H4
    have ha4 : hat g4 (kM0a S m) 11 m a := ha4
    have K4 : kc σ σ4 4 12 := (((k1.trans k2).trans k3).trans k4).mono (by omega) (by omega)
    have L4 : ∀ c, sn S c ≤ sn (kM0a S m) c := fun c => Nat.le_trans sn_kL (Nat.le_trans sn_kL (Nat.le_trans sn_kL sn_kL))
    have e34 : sn (kM0a S m) 34 = sn S 34 := rfl
    have eF : kM0 S m = kRls (kRls (kRls (kRls (kL (sset (kM0c (kM0a S m)) 11 6 m ((sn (kM0a S m) 47 : Nat) : Int)) 11 7 m 34) (sn S 34)) (sn S 34)) (sn S 34)) (sn S 34) := rfl
    generalize hA : kM0a S m = A at *
    clear hA H1 H2 H3 ha1 ha2 ha3
    refine zW_p 2 rfl ?_
    refine hW_newC (n := 4) H4 rfl (by omega) (fun σ5 b5 H5 hb5 k5 => ?_)
    have e0 : sE (snw A 47 (List.replicate 4 0)) 47 (sn A 47) = List.replicate 4 0 := by rw [sE_w, if_pos ⟨rfl, rfl⟩]
    have e1 : ∀ {S' : hS} {xs : List Int}, sE (ssA S' 47 (sn A 47) xs) 47 (sn A 47) = xs := fun {S' xs} => by rw [sE_ssA, if_pos ⟨rfl, rfl⟩]
    refine zW_p 3 rfl ?_
    refine hW_cast_ (v := 110) (j := 0) H5 rfl hb5 (by rw [e0]; decide) (by rw [e0]; decide) (by decide +kernel) (fun σ6 H6 e6 => ?_)
    rw [e0] at H6
    refine zW_p 3 rfl ?_
    refine hW_cast_ (v := 110) (j := 1) H6 rfl hb5 (by rw [e1]; decide) (by rw [e1]; decide) (by decide +kernel) (fun σ7 H7 e7 => ?_)
    rw [e1] at H7
    refine zW_p 3 rfl ?_
    refine hW_cast_ (v := 110) (j := 2) H7 rfl hb5 (by rw [e1]; decide) (by rw [e1]; decide) (by decide +kernel) (fun σ8 H8 e8 => ?_)
    rw [e1] at H8
    refine zW_p 3 rfl ?_
    refine hW_cast_ (v := 110) (j := 3) H8 rfl hb5 (by rw [e1]; decide) (by rw [e1]; decide) (by decide +kernel) (fun σ9 H9 e9 => ?_)
    rw [e1] at H9
    have H9 : hRep g w0 σ9 (ghw g4 A 47 b5) (kM0c A) J := H9
    have hb9 : hat (ghw g4 A 47 b5) (kM0c A) 47 (sn A 47) b5 := hb5
    have ha9' : hat (ghw g4 A 47 b5) (snw A 47 (List.replicate 4 0)) 11 m a := ha4.old
    have ha9 : hat (ghw g4 A 47 b5) (kM0c A) 11 m a := ha9'
    refine hW_put H9 rfl ha9 rfl rfl rfl (Or.inr ⟨rfl, rfl⟩) rfl rfl (convR hb9) (alvR hb9.1) (fun e => absurd e (by decide)) (fun σ10 H10 e10 => ?_)
    have X10 : gext S gh (ghw g4 A 47 b5) := gext_w X4 L4
    have L10 : ∀ c, sn S c ≤ sn (sset (kM0c A) 11 6 m ((sn A 47 : Nat) : Int)) c := fun c => Nat.le_trans (L4 c) (sn_w_le (S := A) (c := 47) (xs := List.replicate 4 0))
    have K10 : kc σ σ10 5 16 := ((((((K4.trans k5).trans (kc.of e6)).trans (kc.of e7)).trans (kc.of e8)).trans (kc.of e9)).trans (kc.of e10)).mono (by omega) (by omega)
    refine zW_p 1 rfl ?_
    refine hW_newPut 34 H10 (hat.set ha9) rfl rfl rfl rfl rfl rfl rfl rfl rfl (fun _ => rfl) (by omega) rfl rfl rfl rfl (Or.inr ⟨rfl, rfl⟩) (fun _ => rfl) (fun _ => rfl) (by omega) (fun σ11 g11 x11 H11 ha11 k11 => ?_)
    have X11 := X10.trans x11 L10
    have K11 := K10.trans k11
    have L11 : ∀ c, sn S c ≤ sn (kL (sset (kM0c A) 11 6 m ((sn A 47 : Nat) : Int)) 11 7 m 34) c := fun c => Nat.le_trans (L10 c) sn_kL
    have hf : sT (kL (sset (kM0c A) 11 6 m ((sn A 47 : Nat) : Int)) 11 7 m 34) 11 7 m = ((sn S 34 : Nat) : Int) := by
      unfold kL
      rw [sT_set, if_pos ⟨rfl, rfl, rfl⟩, ← e34]
      rfl
    have hl : sE (kL (sset (kM0c A) 11 6 m ((sn A 47 : Nat) : Int)) 11 7 m 34) 34 (sn S 34) = [] := by
      unfold kL
      rw [sE_set, sE_w, if_pos ⟨rfl, e34.symm⟩]
    have hSu : ∀ {S' : hS} {q : Nat}, sE (kRls S' q) 34 q = sE S' 34 q ++ [((sn S' 35 : Nat) : Int)] := fun {S' q} => by
      unfold kRls
      rw [sE_ssE, if_pos ⟨rfl, rfl⟩]
    have hT : ∀ {S' : hS} {q : Nat}, sT (kRls S' q) 11 7 m = sT S' 11 7 m := fun {S' q} => rfl
    generalize hB : kL (sset (kM0c A) 11 6 m ((sn A 47 : Nat) : Int)) 11 7 m 34 = B at *
    clear hB H4 H5 H6 H7 H8 H9 H10 ha9 hb9
    refine zW_p 5 rfl ?_
    refine zW_lv [(0, .ref a), (1, iv ((0 : Nat) : Int))] rfl ⟨rfl, rfl, trivial⟩ ?_
    refine M_rlStep (q := sn S 34) (by omega) H11 ha11 hf (by rw [hl]; rfl) (fun σ12 g12 x12 H12 ha12 k12 => ?_)
    refine zW_p 3 rfl ?_
    refine zW_lv [(0, .ref a), (1, iv ((1 : Nat) : Int))] rfl ⟨rfl, rfl, trivial⟩ ?_
    refine M_rlStep (q := sn S 34) (by omega) H12 ha12 (hT.trans hf) (by rw [hSu, hl]; rfl) (fun σ13 g13 x13 H13 ha13 k13 => ?_)
    refine zW_p 3 rfl ?_
    refine zW_lv [(0, .ref a), (1, iv ((2 : Nat) : Int))] rfl ⟨rfl, rfl, trivial⟩ ?_
    refine M_rlStep (q := sn S 34) (by omega) H13 ha13 (hT.trans (hT.trans hf)) (by rw [hSu, hSu, hl]; rfl) (fun σ14 g14 x14 H14 ha14 k14 => ?_)
    refine zW_p 3 rfl ?_
    refine zW_lv [(0, .ref a), (1, iv ((3 : Nat) : Int))] rfl ⟨rfl, rfl, trivial⟩ ?_
    refine M_rlStep (q := sn S 34) (by omega) H14 ha14 (hT.trans (hT.trans (hT.trans hf))) (by rw [hSu, hSu, hSu, hl]; rfl) (fun σ15 g15 x15 H15 ha15 k15 => ?_)
    refine zW_p 3 rfl ?_
    exact wW_ret rfl rfl rfl rfl ⟨rfl, g15, (((X11.trans x12 L11).trans x13 (fun c => Nat.le_trans (L11 c) sn_kRls)).trans x14 (fun c => Nat.le_trans (L11 c) (Nat.le_trans sn_kRls sn_kRls))).trans x15 (fun c => Nat.le_trans (L11 c) (Nat.le_trans sn_kRls (Nat.le_trans sn_kRls sn_kRls))), by rw [eF]; exact H15, ((((K11.trans k12).trans k13).trans k14).trans k15).mono (by omega) (by omega)⟩
  obtain ⟨o, σ', h1, rfl, h2⟩ := main
  exact ⟨σ', h1, h2⟩
end ZUM
