/-! THE START: the classes' numbers and slots -/
set_option maxRecDepth 100000
theorem zK_cls {args : Array Value} {s : State} (hts : ∀ w ∈ lw_tbl, w.before args s = true) : ∃ (dC : Nat → ClassId) (dI : Nat → Nat → Nat), ∀ (k : Nat) (q : vw_C), zcl[k]? = some q → u_Kn s q.1 q.2.1 q.2.2 (dC k) (dI k) := by
  obtain ⟨c0, i0, h0⟩ := u_known (C := RX1) (T := TX1) (N := 10) (n := 10) hts (fun w h => lw_all_tbl (in_X1 w h)) (hts _ (lw_all_tbl q91))
  obtain ⟨c1, i1, h1⟩ := u_known (C := RX5) (T := TX5) (N := 12) (n := 12) hts (fun w h => lw_all_tbl (in_X5 w h)) (hts _ (lw_all_tbl q445))
  obtain ⟨c2, i2, h2⟩ := u_known (C := RX8) (T := TX8) (N := 9) (n := 9) hts (fun w h => lw_all_tbl (in_X8 w h)) (hts _ (lw_all_tbl q611))
  obtain ⟨c3, i3, h3⟩ := u_known (C := RX9) (T := TX9) (N := 7) (n := 7) hts (fun w h => lw_all_tbl (in_X9 w h)) (hts _ (lw_all_tbl q659))
  obtain ⟨c4, i4, h4⟩ := u_known (C := RX11) (T := TX11) (N := 3) (n := 3) hts (fun w h => lw_all_tbl (in_X11 w h)) (hts _ (lw_all_tbl q737))
  obtain ⟨c5, i5, h5⟩ := u_known (C := RX12) (T := TX12) (N := 3) (n := 3) hts (fun w h => lw_all_tbl (in_X12 w h)) (hts _ (lw_all_tbl q766))
  obtain ⟨c6, i6, h6⟩ := u_known (C := RX13) (T := TX13) (N := 8) (n := 8) hts (fun w h => lw_all_tbl (in_X13 w h)) (hts _ (lw_all_tbl q795))
  obtain ⟨c7, i7, h7⟩ := u_known (C := RX21) (T := TX21) (N := 3) (n := 3) hts (fun w h => lw_all_tbl (in_X21 w h)) (hts _ (lw_all_tbl q1061))
  obtain ⟨c8, i8, h8⟩ := u_known (C := RX19) (T := TX19) (N := 14) (n := 14) hts (fun w h => lw_all_tbl (in_X19 w h)) (hts _ (lw_all_tbl q978))
  obtain ⟨c9, i9, h9⟩ := u_known (C := RX2) (T := TX2) (N := 2) (n := 2) hts (fun w h => lw_all_tbl (in_X2 w h)) (hts _ (lw_all_tbl q129))
  obtain ⟨c10, i10, h10⟩ := u_known (C := RX22) (T := TX22) (N := 6) (n := 6) hts (fun w h => lw_all_tbl (in_X22 w h)) (hts _ (lw_all_tbl q1081))
  obtain ⟨c11, i11, h11⟩ := u_known (C := RX4) (T := TX4) (N := 9) (n := 9) hts (fun w h => lw_all_tbl (in_X4 w h)) (hts _ (lw_all_tbl q1458))
  obtain ⟨c12, i12, h12⟩ := u_known (C := RX6) (T := TX6) (N := 11) (n := 11) hts (fun w h => lw_all_tbl (in_X6 w h)) (hts _ (lw_all_tbl q1512))
  obtain ⟨c13, i13, h13⟩ := u_known (C := RX10) (T := TX10) (N := 9) (n := 9) hts (fun w h => lw_all_tbl (in_X10 w h)) (hts _ (lw_all_tbl q1562))
  obtain ⟨c14, i14, h14⟩ := u_known (C := RX17) (T := TX17) (N := 7) (n := 7) hts (fun w h => lw_all_tbl (in_X17 w h)) (hts _ (lw_all_tbl q1629))
  obtain ⟨c15, i15, h15⟩ := u_known (C := RX20) (T := TX20) (N := 17) (n := 17) hts (fun w h => lw_all_tbl (in_X20 w h)) (hts _ (lw_all_tbl q1751))
  obtain ⟨c16, i16, h16⟩ := u_known (C := RJ2) (T := TJ2) (N := 3) (n := 3) hts (fun w h => lw_all_tbl (in_J2 w h)) (hts _ (lw_all_tbl q99))
  obtain ⟨c17, i17, h17⟩ := u_known (C := RJ21) (T := TJ21) (N := 4) (n := 4) hts (fun w h => lw_all_tbl (in_J21 w h)) (hts _ (lw_all_tbl q194))
  obtain ⟨c18, i18, h18⟩ := u_known (C := RJ13) (T := TJ13) (N := 4) (n := 4) hts (fun w h => lw_all_tbl (in_J13 w h)) (hts _ (lw_all_tbl q451))
  obtain ⟨c19, i19, h19⟩ := u_known (C := RJ24) (T := TJ24) (N := 1) (n := 1) hts (fun w h => lw_all_tbl (in_J24 w h)) (hts _ (lw_all_tbl q1841))
  refine ⟨fun k => [c0, c1, c2, c3, c4, c5, c6, c7, c8, c9, c10, c11, c12, c13, c14, c15, c16, c17, c18, c19].getD k 0, fun k => [i0, i1, i2, i3, i4, i5, i6, i7, i8, i9, i10, i11, i12, i13, i14, i15, i16, i17, i18, i19].getD k (fun _ => 0), ?_⟩
  intro k q hq
  match k, hq with
  | 0, hq => cases hq; exact h0
  | 1, hq => cases hq; exact h1
  | 2, hq => cases hq; exact h2
  | 3, hq => cases hq; exact h3
  | 4, hq => cases hq; exact h4
  | 5, hq => cases hq; exact h5
  | 6, hq => cases hq; exact h6
  | 7, hq => cases hq; exact h7
  | 8, hq => cases hq; exact h8
  | 9, hq => cases hq; exact h9
  | 10, hq => cases hq; exact h10
  | 11, hq => cases hq; exact h11
  | 12, hq => cases hq; exact h12
  | 13, hq => cases hq; exact h13
  | 14, hq => cases hq; exact h14
  | 15, hq => cases hq; exact h15
  | 16, hq => cases hq; exact h16
  | 17, hq => cases hq; exact h17
  | 18, hq => cases hq; exact h18
  | 19, hq => cases hq; exact h19
  | k + 20, hq => simp [zcl] at hq
