/-! CONSTRUCTORS of both classes (printed by tools/ctors.py) -/
set_option maxRecDepth 100000
/-- addresses stay -/
def gext (S : hS) (gh gh' : Nat → Nat → Nat) : Prop := ∀ c i : Nat, i < sn S c → gh' c i = gh c i
theorem gext_rfl {S : hS} {gh : Nat → Nat → Nat} : gext S gh gh := fun _ _ _ => rfl
theorem gext_w {S S1 : hS} {gh gh1 : Nat → Nat → Nat} {c a : Nat} (h : gext S gh gh1) (hl : ∀ c, sn S c ≤ sn S1 c) : gext S gh (ghw gh1 S1 c a) := by
  intro c' i hi
  unfold ghw
  rw [if_neg]
  · exact h c' i hi
  · rintro ⟨rfl, e⟩
    have := hl c'
    omega
theorem gext.trans {S S1 : hS} {gh gh1 gh2 : Nat → Nat → Nat} (h : gext S gh gh1) (h2 : gext S1 gh1 gh2) (hl : ∀ c, sn S c ≤ sn S1 c) : gext S gh gh2 := fun c i hi => (h2 c i (Nat.lt_of_lt_of_le hi (hl c))).trans (h c i hi)
theorem gext.hat {S S1 : hS} {gh gh1 : Nat → Nat → Nat} {c i a : Nat} (h : gext S gh gh1) (hl : ∀ c, sn S c ≤ sn S1 c) (ha : hat gh S c i a) : hat gh1 S1 c i a := ⟨Nat.lt_of_lt_of_le ha.1 (hl c), (h c i ha.1).trans ha.2⟩
theorem le_w {S S1 : hS} {r : Nat} {xs : List Int} (h : ∀ c, sn S c ≤ sn S1 c) : ∀ c, sn S c ≤ sn (snw S1 r xs) c := fun c => Nat.le_trans (h c) sn_w_le
theorem convR {S : hS} {gh : Nat → Nat → Nat} {n j b : Nat} (h : hat gh S n j b) : Value.ref b = conv gh (n + 40) (j : Int) := by
  show _ = arf _ _
  unfold arf
  rw [if_neg (by omega), Int.toNat_natCast, h.2]
theorem convP {S : hS} {gh : Nat → Nat → Nat} {y b : Nat} (h : hat gh S (2 + y % 2) (y / 2) b) : Value.ref b = conv gh 3 (y : Int) := by
  show _ = arf _ _
  unfold arf
  rw [if_neg (by omega), Int.toNat_natCast, h.2]
theorem convC {gh : Nat → Nat → Nat} {x : Nat} : Value.ref x = conv gh 4 (x : Int) := by
  show _ = arf _ _
  unfold arf
  rw [if_neg (by omega), Int.toNat_natCast]
theorem alvP {S : hS} {y b : Nat} {gh : Nat → Nat → Nat} (h : hat gh S (2 + y % 2) (y / 2) b) : alv S 3 (y : Int) := fun _ => ⟨fun _ => (by simpa using h.1), fun n e => (by omega)⟩
section ZCO
variable {g : zG} {w0 : hG} {σ : zS} {gh : Nat → Nat → Nat} {S : hS} {J : zw_W}
def kFTaken (S : hS) (m : Nat) (q : Int) (x : Nat) : hS := (sset (sset S 7 0 m ((x : Nat) : Int)) 7 1 m (q))
theorem F_newTaken {m : Nat} {q : Int} {x : Nat} {a : Nat} {l : Nat} (H : hRep g w0 σ gh S J) (ha : hat gh S 7 m a) (hl : hat gh S 6 x l) : ∃ σ' : zS, zEnd g 5 115 [.ref a, .ref l, iv q] σ (.inl none) σ' ∧ ∃ ghx, gext S gh ghx ∧ hRep g w0 σ' ghx (kFTaken S m q x) J ∧ kc σ σ' 0 0 := by
  have main : zW g 5 115 0 (lv_args 0 [.ref a, .ref l, iv q]) [] σ (fun o σ' => o = .inl none ∧ ∃ ghx, gext S gh ghx ∧ hRep g w0 σ' ghx (kFTaken S m q x) J ∧ kc σ σ' 0 0) := by
    refine zW_p 1 rfl ?_
    refine aW_oinit rfl rfl (Nat.le_of_ble_eq_true rfl) ?_
    refine zW_p 2 rfl ?_
    refine hW_put H rfl ha rfl rfl rfl (Or.inr ⟨rfl, rfl⟩) rfl rfl (convR hl) (alvR hl.1) (fun e => absurd e (by decide)) (fun σ1 H1 e1 => ?_)
    refine zW_p 2 rfl ?_
    refine hW_put H1 rfl (hat.set ha) rfl rfl rfl (Or.inr ⟨rfl, rfl⟩) rfl rfl rfl alv0 (fun e => absurd e (by decide)) (fun σ2 H2 e2 => ?_)
    exact wW_ret rfl rfl rfl rfl ⟨rfl, gh, gext_rfl, H2, ((((kc.of e1)).trans (kc.of e2))).mono (by omega) (by omega)⟩
  obtain ⟨o, σ', h1, rfl, h2⟩ := main
  exact ⟨σ', h1, h2⟩
def kFComponent (S : hS) (m : Nat) (p : Int) (q : Int) (r : Int) : hS := (sset (sset (sset S 4 0 m (p)) 4 1 m (q)) 4 2 m (r))
theorem F_newComponent {m : Nat} {p : Int} {q : Int} {r : Int} {a : Nat} (H : hRep g w0 σ gh S J) (ha : hat gh S 4 m a) : ∃ σ' : zS, zEnd g 5 68 [.ref a, iv p, iv q, iv r] σ (.inl none) σ' ∧ ∃ ghx, gext S gh ghx ∧ hRep g w0 σ' ghx (kFComponent S m p q r) J ∧ kc σ σ' 0 0 := by
  have main : zW g 5 68 0 (lv_args 0 [.ref a, iv p, iv q, iv r]) [] σ (fun o σ' => o = .inl none ∧ ∃ ghx, gext S gh ghx ∧ hRep g w0 σ' ghx (kFComponent S m p q r) J ∧ kc σ σ' 0 0) := by
    refine zW_p 1 rfl ?_
    refine aW_oinit rfl rfl (Nat.le_of_ble_eq_true rfl) ?_
    refine zW_p 2 rfl ?_
    refine hW_put H rfl ha rfl rfl rfl (Or.inr ⟨rfl, rfl⟩) rfl rfl rfl alv0 (fun e => absurd e (by decide)) (fun σ1 H1 e1 => ?_)
    refine zW_p 2 rfl ?_
    refine hW_put H1 rfl (hat.set ha) rfl rfl rfl (Or.inr ⟨rfl, rfl⟩) rfl rfl rfl alv0 (fun e => absurd e (by decide)) (fun σ2 H2 e2 => ?_)
    refine zW_p 2 rfl ?_
    refine hW_put H2 rfl (hat.set (hat.set ha)) rfl rfl rfl (Or.inr ⟨rfl, rfl⟩) rfl rfl rfl alv0 (fun e => absurd e (by decide)) (fun σ3 H3 e3 => ?_)
    exact wW_ret rfl rfl rfl rfl ⟨rfl, gh, gext_rfl, H3, (((((kc.of e1)).trans (kc.of e2)).trans (kc.of e3))).mono (by omega) (by omega)⟩
  obtain ⟨o, σ', h1, rfl, h2⟩ := main
  exact ⟨σ', h1, h2⟩
def kFOperation (S : hS) (m : Nat) (p : Int) (q : Int) (r : Int) : hS := (sset (sset (sset S 5 0 m (p)) 5 1 m (q)) 5 2 m (r))
theorem F_newOperation {m : Nat} {p : Int} {q : Int} {r : Int} {a : Nat} (H : hRep g w0 σ gh S J) (ha : hat gh S 5 m a) : ∃ σ' : zS, zEnd g 5 72 [.ref a, iv p, iv q, iv r] σ (.inl none) σ' ∧ ∃ ghx, gext S gh ghx ∧ hRep g w0 σ' ghx (kFOperation S m p q r) J ∧ kc σ σ' 0 0 := by
  have main : zW g 5 72 0 (lv_args 0 [.ref a, iv p, iv q, iv r]) [] σ (fun o σ' => o = .inl none ∧ ∃ ghx, gext S gh ghx ∧ hRep g w0 σ' ghx (kFOperation S m p q r) J ∧ kc σ σ' 0 0) := by
    refine zW_p 1 rfl ?_
    refine aW_oinit rfl rfl (Nat.le_of_ble_eq_true rfl) ?_
    refine zW_p 2 rfl ?_
    refine hW_put H rfl ha rfl rfl rfl (Or.inr ⟨rfl, rfl⟩) rfl rfl rfl alv0 (fun e => absurd e (by decide)) (fun σ1 H1 e1 => ?_)
    refine zW_p 2 rfl ?_
    refine hW_put H1 rfl (hat.set ha) rfl rfl rfl (Or.inr ⟨rfl, rfl⟩) rfl rfl rfl alv0 (fun e => absurd e (by decide)) (fun σ2 H2 e2 => ?_)
    refine zW_p 2 rfl ?_
    refine hW_put H2 rfl (hat.set (hat.set ha)) rfl rfl rfl (Or.inr ⟨rfl, rfl⟩) rfl rfl rfl alv0 (fun e => absurd e (by decide)) (fun σ3 H3 e3 => ?_)
    exact wW_ret rfl rfl rfl rfl ⟨rfl, gh, gext_rfl, H3, (((((kc.of e1)).trans (kc.of e2)).trans (kc.of e3))).mono (by omega) (by omega)⟩
  obtain ⟨o, σ', h1, rfl, h2⟩ := main
  exact ⟨σ', h1, h2⟩
def kPartInit3 (S : hS) (m : Nat) (p : Int) (q : Int) : hS := (sset (sset (sset (sset S 3 2 m (100)) 3 3 m (10)) 3 0 m (p)) 3 1 m (q))
theorem F_partInit3 {m : Nat} {p : Int} {q : Int} {a : Nat} (H : hRep g w0 σ gh S J) (ha : hat gh S 3 m a) : ∃ σ' : zS, zEnd g 5 56 [.ref a, iv p, iv q] σ (.inl none) σ' ∧ ∃ ghx, ghx = gh ∧ hRep g w0 σ' ghx (kPartInit3 S m p q) J ∧ kc σ σ' 0 0 := by
  have main : zW g 5 56 0 (lv_args 0 [.ref a, iv p, iv q]) [] σ (fun o σ' => o = .inl none ∧ ∃ ghx, ghx = gh ∧ hRep g w0 σ' ghx (kPartInit3 S m p q) J ∧ kc σ σ' 0 0) := by
    refine zW_p 1 rfl ?_
    refine aW_oinit rfl rfl (Nat.le_of_ble_eq_true rfl) ?_
    refine zW_p 2 rfl ?_
    refine hW_put H rfl ha rfl rfl rfl (Or.inl rfl) rfl rfl (show _ = conv _ 0 (100) from rfl) alv0 (fun e => absurd e (by decide)) (fun σ1 H1 e1 => ?_)
    refine zW_p 2 rfl ?_
    refine hW_put H1 rfl (hat.set ha) rfl rfl rfl (Or.inl rfl) rfl rfl (show _ = conv _ 0 (10) from rfl) alv0 (fun e => absurd e (by decide)) (fun σ2 H2 e2 => ?_)
    refine zW_p 2 rfl ?_
    refine hW_put H2 rfl (hat.set (hat.set ha)) rfl rfl rfl (Or.inr ⟨rfl, rfl⟩) rfl rfl rfl alv0 (fun e => absurd e (by decide)) (fun σ3 H3 e3 => ?_)
    refine zW_p 2 rfl ?_
    refine hW_put H3 rfl (hat.set (hat.set (hat.set ha))) rfl rfl rfl (Or.inr ⟨rfl, rfl⟩) rfl rfl rfl alv0 (fun e => absurd e (by decide)) (fun σ4 H4 e4 => ?_)
    exact wW_ret rfl rfl rfl rfl ⟨rfl, gh, rfl, H4, ((((((kc.of e1)).trans (kc.of e2)).trans (kc.of e3)).trans (kc.of e4))).mono (by omega) (by omega)⟩
  obtain ⟨o, σ', h1, rfl, h2⟩ := main
  exact ⟨σ', h1, h2⟩
def kPartInit2 (S : hS) (m : Nat) (p : Int) (q : Int) : hS := (sset (sset (sset (sset S 2 2 m (100)) 2 3 m (10)) 2 0 m (p)) 2 1 m (q))
theorem F_partInit2 {m : Nat} {p : Int} {q : Int} {a : Nat} (H : hRep g w0 σ gh S J) (ha : hat gh S 2 m a) : ∃ σ' : zS, zEnd g 5 56 [.ref a, iv p, iv q] σ (.inl none) σ' ∧ ∃ ghx, ghx = gh ∧ hRep g w0 σ' ghx (kPartInit2 S m p q) J ∧ kc σ σ' 0 0 := by
  have main : zW g 5 56 0 (lv_args 0 [.ref a, iv p, iv q]) [] σ (fun o σ' => o = .inl none ∧ ∃ ghx, ghx = gh ∧ hRep g w0 σ' ghx (kPartInit2 S m p q) J ∧ kc σ σ' 0 0) := by
    refine zW_p 1 rfl ?_
    refine aW_oinit rfl rfl (Nat.le_of_ble_eq_true rfl) ?_
    refine zW_p 2 rfl ?_
    refine hW_put H rfl ha rfl rfl rfl (Or.inl rfl) rfl rfl (show _ = conv _ 0 (100) from rfl) alv0 (fun e => absurd e (by decide)) (fun σ1 H1 e1 => ?_)
    refine zW_p 2 rfl ?_
    refine hW_put H1 rfl (hat.set ha) rfl rfl rfl (Or.inl rfl) rfl rfl (show _ = conv _ 0 (10) from rfl) alv0 (fun e => absurd e (by decide)) (fun σ2 H2 e2 => ?_)
    refine zW_p 2 rfl ?_
    refine hW_put H2 rfl (hat.set (hat.set ha)) rfl rfl rfl (Or.inr ⟨rfl, rfl⟩) rfl rfl rfl alv0 (fun e => absurd e (by decide)) (fun σ3 H3 e3 => ?_)
    refine zW_p 2 rfl ?_
    refine hW_put H3 rfl (hat.set (hat.set (hat.set ha))) rfl rfl rfl (Or.inr ⟨rfl, rfl⟩) rfl rfl rfl alv0 (fun e => absurd e (by decide)) (fun σ4 H4 e4 => ?_)
    exact wW_ret rfl rfl rfl rfl ⟨rfl, gh, rfl, H4, ((((((kc.of e1)).trans (kc.of e2)).trans (kc.of e3)).trans (kc.of e4))).mono (by omega) (by omega)⟩
  obtain ⟨o, σ', h1, rfl, h2⟩ := main
  exact ⟨σ', h1, h2⟩
def kFBought (S : hS) (m : Nat) (p : Int) (q : Int) : hS := (kPartInit3 S m p q)
theorem F_newBought {m : Nat} {p : Int} {q : Int} {a : Nat} (H : hRep g w0 σ gh S J) (ha : hat gh S 3 m a) : ∃ σ' : zS, zEnd g 6 57 [.ref a, iv p, iv q] σ (.inl none) σ' ∧ ∃ ghx, gext S gh ghx ∧ hRep g w0 σ' ghx (kFBought S m p q) J ∧ kc σ σ' 0 0 := by
  have main : zW g 6 57 0 (lv_args 0 [.ref a, iv p, iv q]) [] σ (fun o σ' => o = .inl none ∧ ∃ ghx, gext S gh ghx ∧ hRep g w0 σ' ghx (kFBought S m p q) J ∧ kc σ σ' 0 0) := by
    refine zW_p 3 rfl ?_
    obtain ⟨σ0, g0, ghx, x0, H0, k0⟩ := F_partInit3 (p := p) (q := q) H ha
    refine wI rfl rfl rfl rfl rfl rfl rfl rfl rfl g0 (by omega) ?_
    rw [x0] at H0
    exact wW_ret rfl rfl rfl rfl ⟨rfl, gh, gext_rfl, H0, ((k0)).mono (by omega) (by omega)⟩
  obtain ⟨o, σ', h1, rfl, h2⟩ := main
  exact ⟨σ', h1, h2⟩
def kFMade (S : hS) (m : Nat) (p : Int) (q : Int) : hS := (sset (snw (sset (snw (kPartInit2 S m p q) 24 []) 2 7 m (((sn (kPartInit2 S m p q) 24) : Nat) : Int)) 25 []) 2 8 m (((sn (sset (snw (kPartInit2 S m p q) 24 []) 2 7 m (((sn (kPartInit2 S m p q) 24) : Nat) : Int)) 25) : Nat) : Int))
theorem F_newMade {m : Nat} {p : Int} {q : Int} {a : Nat} (H : hRep g w0 σ gh S J) (ha : hat gh S 2 m a) : ∃ σ' : zS, zEnd g 6 55 [.ref a, iv p, iv q] σ (.inl none) σ' ∧ ∃ ghx, gext S gh ghx ∧ hRep g w0 σ' ghx (kFMade S m p q) J ∧ kc σ σ' 2 6 := by
  have main : zW g 6 55 0 (lv_args 0 [.ref a, iv p, iv q]) [] σ (fun o σ' => o = .inl none ∧ ∃ ghx, gext S gh ghx ∧ hRep g w0 σ' ghx (kFMade S m p q) J ∧ kc σ σ' 2 6) := by
    refine zW_p 3 rfl ?_
    obtain ⟨σ0, g0, ghx, x0, H0, k0⟩ := F_partInit2 (p := p) (q := q) H ha
    refine wI rfl rfl rfl rfl rfl rfl rfl rfl rfl g0 (by omega) ?_
    rw [x0] at H0
    refine zW_p 1 rfl ?_
    refine hW_newL 24 H0 rfl rfl rfl rfl rfl rfl rfl rfl rfl (fun _ => rfl) (by omega) (fun σ2 b2 H2 hb2 k2 => ?_)
    have ha_2 : hat (ghw gh (kPartInit2 S m p q) 24 b2) (snw (kPartInit2 S m p q) 24 []) 2 m a := hat.old (xs := []) ha
    refine hW_put H2 rfl ha_2 rfl rfl rfl (Or.inr ⟨rfl, rfl⟩) rfl rfl (convR hb2) (alvR hb2.1) (fun e => absurd e (by decide)) (fun σ3 H3 e3 => ?_)
    refine zW_p 1 rfl ?_
    refine hW_newL 25 H3 rfl rfl rfl rfl rfl rfl rfl rfl rfl (fun _ => rfl) (by omega) (fun σ4 b4 H4 hb4 k4 => ?_)
    have ha_2_4 : hat (ghw (ghw gh (kPartInit2 S m p q) 24 b2) (sset (snw (kPartInit2 S m p q) 24 []) 2 7 m (((sn (kPartInit2 S m p q) 24) : Nat) : Int)) 25 b4) (snw (sset (snw (kPartInit2 S m p q) 24 []) 2 7 m (((sn (kPartInit2 S m p q) 24) : Nat) : Int)) 25 []) 2 m a := hat.old (xs := []) (hat.set ha_2)
    have hb2_4 : hat (ghw (ghw gh (kPartInit2 S m p q) 24 b2) (sset (snw (kPartInit2 S m p q) 24 []) 2 7 m (((sn (kPartInit2 S m p q) 24) : Nat) : Int)) 25 b4) (snw (sset (snw (kPartInit2 S m p q) 24 []) 2 7 m (((sn (kPartInit2 S m p q) 24) : Nat) : Int)) 25 []) 24 (sn (kPartInit2 S m p q) 24) b2 := hat.old (xs := []) (hat.set hb2)
    refine hW_put H4 rfl ha_2_4 rfl rfl rfl (Or.inr ⟨rfl, rfl⟩) rfl rfl (convR hb4) (alvR hb4.1) (fun e => absurd e (by decide)) (fun σ5 H5 e5 => ?_)
    exact wW_ret rfl rfl rfl rfl ⟨rfl, (ghw (ghw gh (kPartInit2 S m p q) 24 b2) (sset (snw (kPartInit2 S m p q) 24 []) 2 7 m (((sn (kPartInit2 S m p q) 24) : Nat) : Int)) 25 b4), (gext_w (gext_w gext_rfl (fun c1 => (by first | exact Nat.le_refl _ | (simp only [sn_set, sn_w]; repeat' split) <;> (first | omega | (subst_vars; omega)) | (simp only [kPartInit2, sn_set, sn_w]; repeat' split) <;> (first | omega | (subst_vars; omega))))) (fun c1 => (by first | exact Nat.le_refl _ | (simp only [sn_set, sn_w]; repeat' split) <;> (first | omega | (subst_vars; omega)) | (simp only [kPartInit2, sn_set, sn_w]; repeat' split) <;> (first | omega | (subst_vars; omega))))), H5, ((((((k0).trans k2).trans (kc.of e3)).trans k4).trans (kc.of e5))).mono (by omega) (by omega)⟩
  obtain ⟨o, σ', h1, rfl, h2⟩ := main
  exact ⟨σ', h1, h2⟩
def kFMachine (S : hS) (m : Nat) (p : Int) (q : Int) (r : Int) (t : Int) : hS := (sset (sset (sset (sset (sset (sset (snw S 45 []) 1 4 m (((sn S 45) : Nat) : Int)) 1 5 m (-1)) 1 0 m (p)) 1 1 m (q)) 1 2 m (r)) 1 3 m (t))
theorem F_newMachine {m : Nat} {p : Int} {q : Int} {r : Int} {t : Int} {a : Nat} (H : hRep g w0 σ gh S J) (ha : hat gh S 1 m a) : ∃ σ' : zS, zEnd g 5 41 [.ref a, iv p, iv q, iv r, iv t] σ (.inl none) σ' ∧ ∃ ghx, gext S gh ghx ∧ hRep g w0 σ' ghx (kFMachine S m p q r t) J ∧ kc σ σ' 2 15 := by
  have main : zW g 5 41 0 (lv_args 0 [.ref a, iv p, iv q, iv r, iv t]) [] σ (fun o σ' => o = .inl none ∧ ∃ ghx, gext S gh ghx ∧ hRep g w0 σ' ghx (kFMachine S m p q r t) J ∧ kc σ σ' 2 15) := by
    refine zW_p 1 rfl ?_
    refine aW_oinit rfl rfl (Nat.le_of_ble_eq_true rfl) ?_
    refine zW_p 1 rfl ?_
    refine hW_newQ H rfl rfl rfl rfl rfl rfl rfl (fun _ => rfl) (by omega) (fun σ1 b1 H1 hb1 k1 => ?_)
    have ha_1 : hat (ghw gh S 45 b1) (snw S 45 []) 1 m a := hat.old (xs := []) ha
    refine hW_put H1 rfl ha_1 rfl rfl rfl (Or.inr ⟨rfl, rfl⟩) rfl rfl (convR hb1) (alvR hb1.1) (fun e => absurd e (by decide)) (fun σ2 H2 e2 => ?_)
    refine zW_p 2 rfl ?_
    refine hW_put H2 rfl (hat.set ha_1) rfl rfl rfl (Or.inl rfl) rfl rfl (show _ = conv _ 0 (-1) from rfl) alv0 (fun e => absurd e (by decide)) (fun σ3 H3 e3 => ?_)
    refine zW_p 2 rfl ?_
    refine hW_put H3 rfl (hat.set (hat.set ha_1)) rfl rfl rfl (Or.inr ⟨rfl, rfl⟩) rfl rfl rfl alv0 (fun e => absurd e (by decide)) (fun σ4 H4 e4 => ?_)
    refine zW_p 2 rfl ?_
    refine hW_put H4 rfl (hat.set (hat.set (hat.set ha_1))) rfl rfl rfl (Or.inr ⟨rfl, rfl⟩) rfl rfl rfl alv0 (fun e => absurd e (by decide)) (fun σ5 H5 e5 => ?_)
    refine zW_p 2 rfl ?_
    refine hW_put H5 rfl (hat.set (hat.set (hat.set (hat.set ha_1)))) rfl rfl rfl (Or.inr ⟨rfl, rfl⟩) rfl rfl rfl alv0 (fun e => absurd e (by decide)) (fun σ6 H6 e6 => ?_)
    refine zW_p 2 rfl ?_
    refine hW_put H6 rfl (hat.set (hat.set (hat.set (hat.set (hat.set ha_1))))) rfl rfl rfl (Or.inr ⟨rfl, rfl⟩) rfl rfl rfl alv0 (fun e => absurd e (by decide)) (fun σ7 H7 e7 => ?_)
    exact wW_ret rfl rfl rfl rfl ⟨rfl, (ghw gh S 45 b1), (gext_w gext_rfl (fun c1 => (by first | exact Nat.le_refl _ | (simp only [sn_set, sn_w]; repeat' split) <;> (first | omega | (subst_vars; omega)) | (simp only [kPartInit2, sn_set, sn_w]; repeat' split) <;> (first | omega | (subst_vars; omega))))), H7, ((((((((k1).trans (kc.of e2)).trans (kc.of e3)).trans (kc.of e4)).trans (kc.of e5)).trans (kc.of e6)).trans (kc.of e7))).mono (by omega) (by omega)⟩
  obtain ⟨o, σ', h1, rfl, h2⟩ := main
  exact ⟨σ', h1, h2⟩
def kFLot (S : hS) (m : Nat) (p : Int) (q : Int) (c : Int) (y : Nat) (x : Nat) : hS := (sset (sset (sset (sset (sset (sset S 6 0 m (p)) 6 1 m ((y : Nat) : Int)) 6 2 m (q)) 6 4 m (q)) 6 6 m (c)) 6 3 m ((x : Nat) : Int))
theorem F_newLot {m : Nat} {p : Int} {q : Int} {c : Int} {y : Nat} {x : Nat} {a : Nat} {tk : Nat} {yb : Nat} (H : hRep g w0 σ gh S J) (ha : hat gh S 6 m a) (hy : hat gh S (2 + y % 2) (y / 2) yb) (htk : hat gh S 26 x tk) : ∃ σ' : zS, zEnd g 5 76 [.ref a, iv p, .ref yb, iv q, .long (Int64.ofInt c), .ref tk] σ (.inl none) σ' ∧ ∃ ghx, gext S gh ghx ∧ hRep g w0 σ' ghx (kFLot S m p q c y x) J ∧ kc σ σ' 0 0 := by
  have main : zW g 5 76 0 (lv_args 0 [.ref a, iv p, .ref yb, iv q, .long (Int64.ofInt c), .ref tk]) [] σ (fun o σ' => o = .inl none ∧ ∃ ghx, gext S gh ghx ∧ hRep g w0 σ' ghx (kFLot S m p q c y x) J ∧ kc σ σ' 0 0) := by
    refine zW_p 1 rfl ?_
    refine aW_oinit rfl rfl (Nat.le_of_ble_eq_true rfl) ?_
    refine zW_p 2 rfl ?_
    refine hW_put H rfl ha rfl rfl rfl (Or.inr ⟨rfl, rfl⟩) rfl rfl rfl alv0 (fun e => absurd e (by decide)) (fun σ1 H1 e1 => ?_)
    refine zW_p 2 rfl ?_
    refine hW_put H1 rfl (hat.set ha) rfl rfl rfl (Or.inr ⟨rfl, rfl⟩) rfl rfl (convP hy) (alvP hy) (fun e => absurd e (by decide)) (fun σ2 H2 e2 => ?_)
    refine zW_p 2 rfl ?_
    refine hW_put H2 rfl (hat.set (hat.set ha)) rfl rfl rfl (Or.inr ⟨rfl, rfl⟩) rfl rfl rfl alv0 (fun e => absurd e (by decide)) (fun σ3 H3 e3 => ?_)
    refine zW_p 2 rfl ?_
    refine hW_put H3 rfl (hat.set (hat.set (hat.set ha))) rfl rfl rfl (Or.inl rfl) rfl rfl rfl alv0 (fun e => absurd e (by decide)) (fun σ4 H4 e4 => ?_)
    refine zW_p 2 rfl ?_
    refine hW_put H4 rfl (hat.set (hat.set (hat.set (hat.set ha)))) rfl rfl rfl (Or.inl rfl) rfl rfl rfl alv1 (fun e => absurd e (by decide)) (fun σ5 H5 e5 => ?_)
    refine zW_p 2 rfl ?_
    refine hW_put H5 rfl (hat.set (hat.set (hat.set (hat.set (hat.set ha))))) rfl rfl rfl (Or.inr ⟨rfl, rfl⟩) rfl rfl (convR htk) (alvR htk.1) (fun e => absurd e (by decide)) (fun σ6 H6 e6 => ?_)
    exact wW_ret rfl rfl rfl rfl ⟨rfl, gh, gext_rfl, H6, ((((((((kc.of e1)).trans (kc.of e2)).trans (kc.of e3)).trans (kc.of e4)).trans (kc.of e5)).trans (kc.of e6))).mono (by omega) (by omega)⟩
  obtain ⟨o, σ', h1, rfl, h2⟩ := main
  exact ⟨σ', h1, h2⟩
def kFOrder (S : hS) (m : Nat) (p : Int) (q : Int) (r : Int) (t : Int) (y : Nat) (zNEW : Nat) : hS := (sset (sset (sset (sset (sset (sset (sset (snw (sset (snw S 26 []) 8 5 m (((sn S 26) : Nat) : Int)) 27 []) 8 6 m (((sn (sset (snw S 26 []) 8 5 m (((sn S 26) : Nat) : Int)) 27) : Nat) : Int)) 8 7 m ((zNEW : Nat) : Int)) 8 0 m (p)) 8 1 m ((y : Nat) : Int)) 8 2 m (q)) 8 3 m (r)) 8 4 m (t))
theorem F_newOrder {m : Nat} {p : Int} {q : Int} {r : Int} {t : Int} {y : Nat} {zNEW : Nat} {a : Nat} {yb : Nat} (H : hRep g w0 σ gh S J) (ha : hat gh S 8 m a) (hy : hat gh S (2 + y % 2) (y / 2) yb) (hnq : ∀ q : Nat, q < sn S 45 → (m : Int) ∉ sE S 45 q) (hZNEW : zt_val (zg_s g) ("Foundrymark$Stage", "NEW", "LFoundrymark$Stage;") = some (.ref zNEW)) : ∃ σ' : zS, zEnd g 5 108 [.ref a, iv p, .ref yb, iv q, iv r, iv t] σ (.inl none) σ' ∧ ∃ ghx, gext S gh ghx ∧ hRep g w0 σ' ghx (kFOrder S m p q r t y zNEW) J ∧ kc σ σ' 2 6 := by
  have main : zW g 5 108 0 (lv_args 0 [.ref a, iv p, .ref yb, iv q, iv r, iv t]) [] σ (fun o σ' => o = .inl none ∧ ∃ ghx, gext S gh ghx ∧ hRep g w0 σ' ghx (kFOrder S m p q r t y zNEW) J ∧ kc σ σ' 2 6) := by
    refine zW_p 1 rfl ?_
    refine aW_oinit rfl rfl (Nat.le_of_ble_eq_true rfl) ?_
    refine zW_p 1 rfl ?_
    refine hW_newL 26 H rfl rfl rfl rfl rfl rfl rfl rfl rfl (fun _ => rfl) (by omega) (fun σ1 b1 H1 hb1 k1 => ?_)
    have ha_1 : hat (ghw gh S 26 b1) (snw S 26 []) 8 m a := hat.old (xs := []) ha
    have hy_1 : hat (ghw gh S 26 b1) (snw S 26 []) (2 + y % 2) (y / 2) yb := hat.old (xs := []) hy
    refine hW_put H1 rfl ha_1 rfl rfl rfl (Or.inr ⟨rfl, rfl⟩) rfl rfl (convR hb1) (alvR hb1.1) (fun _ => Or.inl (by decide)) (fun σ2 H2 e2 => ?_)
    refine zW_p 1 rfl ?_
    refine hW_newL 27 H2 rfl rfl rfl rfl rfl rfl rfl rfl rfl (fun _ => rfl) (by omega) (fun σ3 b3 H3 hb3 k3 => ?_)
    have ha_1_3 : hat (ghw (ghw gh S 26 b1) (sset (snw S 26 []) 8 5 m (((sn S 26) : Nat) : Int)) 27 b3) (snw (sset (snw S 26 []) 8 5 m (((sn S 26) : Nat) : Int)) 27 []) 8 m a := hat.old (xs := []) (hat.set ha_1)
    have hy_1_3 : hat (ghw (ghw gh S 26 b1) (sset (snw S 26 []) 8 5 m (((sn S 26) : Nat) : Int)) 27 b3) (snw (sset (snw S 26 []) 8 5 m (((sn S 26) : Nat) : Int)) 27 []) (2 + y % 2) (y / 2) yb := hat.old (xs := []) (hat.set hy_1)
    have hb1_3 : hat (ghw (ghw gh S 26 b1) (sset (snw S 26 []) 8 5 m (((sn S 26) : Nat) : Int)) 27 b3) (snw (sset (snw S 26 []) 8 5 m (((sn S 26) : Nat) : Int)) 27 []) 26 (sn S 26) b1 := hat.old (xs := []) (hat.set hb1)
    refine hW_put H3 rfl ha_1_3 rfl rfl rfl (Or.inr ⟨rfl, rfl⟩) rfl rfl (convR hb3) (alvR hb3.1) (fun _ => Or.inl (by decide)) (fun σ4 H4 e4 => ?_)
    refine zW_p 1 rfl ?_
    refine aW_stat rfl rfl hZNEW ?_
    refine hW_put H4 rfl (hat.set ha_1_3) rfl rfl rfl (Or.inl rfl) rfl rfl convC alv4 (fun _ => Or.inl (by decide)) (fun σ5 H5 e5 => ?_)
    refine zW_p 2 rfl ?_
    refine hW_put H5 rfl (hat.set (hat.set ha_1_3)) rfl rfl rfl (Or.inr ⟨rfl, rfl⟩) rfl rfl rfl alv0 (fun _ => Or.inr hnq) (fun σ6 H6 e6 => ?_)
    refine zW_p 2 rfl ?_
    refine hW_put H6 rfl (hat.set (hat.set (hat.set ha_1_3))) rfl rfl rfl (Or.inr ⟨rfl, rfl⟩) rfl rfl (convP hy_1_3) (alvP hy_1_3) (fun _ => Or.inl (by decide)) (fun σ7 H7 e7 => ?_)
    refine zW_p 2 rfl ?_
    refine hW_put H7 rfl (hat.set (hat.set (hat.set (hat.set ha_1_3)))) rfl rfl rfl (Or.inr ⟨rfl, rfl⟩) rfl rfl rfl alv0 (fun _ => Or.inl (by decide)) (fun σ8 H8 e8 => ?_)
    refine zW_p 2 rfl ?_
    refine hW_put H8 rfl (hat.set (hat.set (hat.set (hat.set (hat.set ha_1_3))))) rfl rfl rfl (Or.inr ⟨rfl, rfl⟩) rfl rfl rfl alv0 (fun _ => Or.inl (by decide)) (fun σ9 H9 e9 => ?_)
    refine zW_p 2 rfl ?_
    refine hW_put H9 rfl (hat.set (hat.set (hat.set (hat.set (hat.set (hat.set ha_1_3)))))) rfl rfl rfl (Or.inr ⟨rfl, rfl⟩) rfl rfl rfl alv0 (fun _ => Or.inr hnq) (fun σ10 H10 e10 => ?_)
    exact wW_ret rfl rfl rfl rfl ⟨rfl, (ghw (ghw gh S 26 b1) (sset (snw S 26 []) 8 5 m (((sn S 26) : Nat) : Int)) 27 b3), (gext_w (gext_w gext_rfl (fun c1 => (by first | exact Nat.le_refl _ | (simp only [sn_set, sn_w]; repeat' split) <;> (first | omega | (subst_vars; omega)) | (simp only [kPartInit2, sn_set, sn_w]; repeat' split) <;> (first | omega | (subst_vars; omega))))) (fun c1 => (by first | exact Nat.le_refl _ | (simp only [sn_set, sn_w]; repeat' split) <;> (first | omega | (subst_vars; omega)) | (simp only [kPartInit2, sn_set, sn_w]; repeat' split) <;> (first | omega | (subst_vars; omega))))), H10, (((((((((((k1).trans (kc.of e2)).trans k3).trans (kc.of e4)).trans (kc.of e5)).trans (kc.of e6)).trans (kc.of e7)).trans (kc.of e8)).trans (kc.of e9)).trans (kc.of e10))).mono (by omega) (by omega)⟩
  obtain ⟨o, σ', h1, rfl, h2⟩ := main
  exact ⟨σ', h1, h2⟩
def kFSupplier (S : hS) (m : Nat) (zNORMAL : Nat) : hS := (sset (snw (sset S 9 0 m ((zNORMAL : Nat) : Int)) 28 []) 9 1 m (((sn (sset S 9 0 m ((zNORMAL : Nat) : Int)) 28) : Nat) : Int))
theorem F_newSupplier {m : Nat} {zNORMAL : Nat} {a : Nat} (H : hRep g w0 σ gh S J) (ha : hat gh S 9 m a) (hZNORMAL : zt_val (zg_s g) ("Foundrymark$Rule", "NORMAL", "LFoundrymark$Rule;") = some (.ref zNORMAL)) : ∃ σ' : zS, zEnd g 5 4 [.ref a] σ (.inl none) σ' ∧ ∃ ghx, gext S gh ghx ∧ hRep g w0 σ' ghx (kFSupplier S m zNORMAL) J ∧ kc σ σ' 1 3 := by
  have main : zW g 5 4 0 (lv_args 0 [.ref a]) [] σ (fun o σ' => o = .inl none ∧ ∃ ghx, gext S gh ghx ∧ hRep g w0 σ' ghx (kFSupplier S m zNORMAL) J ∧ kc σ σ' 1 3) := by
    refine zW_p 1 rfl ?_
    refine aW_oinit rfl rfl (Nat.le_of_ble_eq_true rfl) ?_
    refine zW_p 1 rfl ?_
    refine aW_stat rfl rfl hZNORMAL ?_
    refine hW_put H rfl ha rfl rfl rfl (Or.inl rfl) rfl rfl convC alv4 (fun e => absurd e (by decide)) (fun σ1 H1 e1 => ?_)
    refine zW_p 1 rfl ?_
    refine hW_newL 28 H1 rfl rfl rfl rfl rfl rfl rfl rfl rfl (fun _ => rfl) (by omega) (fun σ2 b2 H2 hb2 k2 => ?_)
    have ha_2 : hat (ghw gh (sset S 9 0 m ((zNORMAL : Nat) : Int)) 28 b2) (snw (sset S 9 0 m ((zNORMAL : Nat) : Int)) 28 []) 9 m a := hat.old (xs := []) (hat.set ha)
    refine hW_put H2 rfl ha_2 rfl rfl rfl (Or.inr ⟨rfl, rfl⟩) rfl rfl (convR hb2) (alvR hb2.1) (fun e => absurd e (by decide)) (fun σ3 H3 e3 => ?_)
    exact wW_ret rfl rfl rfl rfl ⟨rfl, (ghw gh (sset S 9 0 m ((zNORMAL : Nat) : Int)) 28 b2), (gext_w gext_rfl (fun c1 => (by first | exact Nat.le_refl _ | (simp only [sn_set, sn_w]; repeat' split) <;> (first | omega | (subst_vars; omega)) | (simp only [kPartInit2, sn_set, sn_w]; repeat' split) <;> (first | omega | (subst_vars; omega))))), H3, (((((kc.of e1)).trans k2).trans (kc.of e3))).mono (by omega) (by omega)⟩
  obtain ⟨o, σ', h1, rfl, h2⟩ := main
  exact ⟨σ', h1, h2⟩
def kMMachine (S : hS) (m : Nat) (p : Int) (q : Int) (r : Int) (t : Int) : hS := (sset (sset (sset (sset (sset (sset S 12 4 m (-1)) 12 6 m (45)) 12 0 m (p)) 12 1 m (q)) 12 2 m (r)) 12 3 m (t))
theorem M_newMachine {m : Nat} {p : Int} {q : Int} {r : Int} {t : Int} {a : Nat} (H : hRep g w0 σ gh S J) (ha : hat gh S 12 m a) : ∃ σ' : zS, zEnd g 5 199 [.ref a, iv p, iv q, iv r, iv t] σ (.inl none) σ' ∧ ∃ ghx, gext S gh ghx ∧ hRep g w0 σ' ghx (kMMachine S m p q r t) J ∧ kc σ σ' 0 0 := by
  have main : zW g 5 199 0 (lv_args 0 [.ref a, iv p, iv q, iv r, iv t]) [] σ (fun o σ' => o = .inl none ∧ ∃ ghx, gext S gh ghx ∧ hRep g w0 σ' ghx (kMMachine S m p q r t) J ∧ kc σ σ' 0 0) := by
    refine zW_p 1 rfl ?_
    refine aW_oinit rfl rfl (Nat.le_of_ble_eq_true rfl) ?_
    refine zW_p 2 rfl ?_
    refine hW_put H rfl ha rfl rfl rfl (Or.inl rfl) rfl rfl (show _ = conv _ 0 (-1) from rfl) alv0 (fun e => absurd e (by decide)) (fun σ1 H1 e1 => ?_)
    refine zW_p 2 rfl ?_
    refine hW_put H1 rfl (hat.set ha) rfl rfl rfl (Or.inl rfl) rfl rfl (show _ = conv _ 0 (45) from rfl) alv0 (fun e => absurd e (by decide)) (fun σ2 H2 e2 => ?_)
    refine zW_p 2 rfl ?_
    refine hW_put H2 rfl (hat.set (hat.set ha)) rfl rfl rfl (Or.inr ⟨rfl, rfl⟩) rfl rfl rfl alv0 (fun e => absurd e (by decide)) (fun σ3 H3 e3 => ?_)
    refine zW_p 2 rfl ?_
    refine hW_put H3 rfl (hat.set (hat.set (hat.set ha))) rfl rfl rfl (Or.inr ⟨rfl, rfl⟩) rfl rfl rfl alv0 (fun e => absurd e (by decide)) (fun σ4 H4 e4 => ?_)
    refine zW_p 2 rfl ?_
    refine hW_put H4 rfl (hat.set (hat.set (hat.set (hat.set ha)))) rfl rfl rfl (Or.inr ⟨rfl, rfl⟩) rfl rfl rfl alv0 (fun e => absurd e (by decide)) (fun σ5 H5 e5 => ?_)
    refine zW_p 2 rfl ?_
    refine hW_put H5 rfl (hat.set (hat.set (hat.set (hat.set (hat.set ha))))) rfl rfl rfl (Or.inr ⟨rfl, rfl⟩) rfl rfl rfl alv0 (fun e => absurd e (by decide)) (fun σ6 H6 e6 => ?_)
    exact wW_ret rfl rfl rfl rfl ⟨rfl, gh, gext_rfl, H6, ((((((((kc.of e1)).trans (kc.of e2)).trans (kc.of e3)).trans (kc.of e4)).trans (kc.of e5)).trans (kc.of e6))).mono (by omega) (by omega)⟩
  obtain ⟨o, σ', h1, rfl, h2⟩ := main
  exact ⟨σ', h1, h2⟩
def kMPart (S : hS) (m : Nat) (p : Int) (q : Int) : hS := (sset (sset (sset (sset (sset (snw (sset (snw S 36 []) 13 2 m (((sn S 36) : Nat) : Int)) 37 []) 13 3 m (((sn (sset (snw S 36 []) 13 2 m (((sn S 36) : Nat) : Int)) 37) : Nat) : Int)) 13 4 m (100)) 13 5 m (10)) 13 0 m (p)) 13 1 m (q))
theorem M_newPart {m : Nat} {p : Int} {q : Int} {a : Nat} (H : hRep g w0 σ gh S J) (ha : hat gh S 13 m a) (hp : p = 0 ∨ p = 1) : ∃ σ' : zS, zEnd g 5 201 [.ref a, iv p, iv q] σ (.inl none) σ' ∧ ∃ ghx, gext S gh ghx ∧ hRep g w0 σ' ghx (kMPart S m p q) J ∧ kc σ σ' 2 6 := by
  have main : zW g 5 201 0 (lv_args 0 [.ref a, iv p, iv q]) [] σ (fun o σ' => o = .inl none ∧ ∃ ghx, gext S gh ghx ∧ hRep g w0 σ' ghx (kMPart S m p q) J ∧ kc σ σ' 2 6) := by
    have hn : narrow .boolean (iv p) = iv p := by rcases hp with rfl | rfl <;> rfl
    have hfit : fits .boolean (iv p) = true := by rcases hp with rfl | rfl <;> rfl
    refine zW_p 1 rfl ?_
    refine aW_oinit rfl rfl (Nat.le_of_ble_eq_true rfl) ?_
    refine zW_p 1 rfl ?_
    refine hW_newL 36 H rfl rfl rfl rfl rfl rfl rfl rfl rfl (fun _ => rfl) (by omega) (fun σ1 b1 H1 hb1 k1 => ?_)
    have ha_1 : hat (ghw gh S 36 b1) (snw S 36 []) 13 m a := hat.old (xs := []) ha
    refine hW_put H1 rfl ha_1 rfl rfl rfl (Or.inr ⟨rfl, rfl⟩) rfl rfl (convR hb1) (alvR hb1.1) (fun e => absurd e (by decide)) (fun σ2 H2 e2 => ?_)
    refine zW_p 1 rfl ?_
    refine hW_newL 37 H2 rfl rfl rfl rfl rfl rfl rfl rfl rfl (fun _ => rfl) (by omega) (fun σ3 b3 H3 hb3 k3 => ?_)
    have ha_1_3 : hat (ghw (ghw gh S 36 b1) (sset (snw S 36 []) 13 2 m (((sn S 36) : Nat) : Int)) 37 b3) (snw (sset (snw S 36 []) 13 2 m (((sn S 36) : Nat) : Int)) 37 []) 13 m a := hat.old (xs := []) (hat.set ha_1)
    have hb1_3 : hat (ghw (ghw gh S 36 b1) (sset (snw S 36 []) 13 2 m (((sn S 36) : Nat) : Int)) 37 b3) (snw (sset (snw S 36 []) 13 2 m (((sn S 36) : Nat) : Int)) 37 []) 36 (sn S 36) b1 := hat.old (xs := []) (hat.set hb1)
    refine hW_put H3 rfl ha_1_3 rfl rfl rfl (Or.inr ⟨rfl, rfl⟩) rfl rfl (convR hb3) (alvR hb3.1) (fun e => absurd e (by decide)) (fun σ4 H4 e4 => ?_)
    refine zW_p 2 rfl ?_
    refine hW_put H4 rfl (hat.set ha_1_3) rfl rfl rfl (Or.inl rfl) rfl rfl (show _ = conv _ 0 (100) from rfl) alv0 (fun e => absurd e (by decide)) (fun σ5 H5 e5 => ?_)
    refine zW_p 2 rfl ?_
    refine hW_put H5 rfl (hat.set (hat.set ha_1_3)) rfl rfl rfl (Or.inl rfl) rfl rfl (show _ = conv _ 0 (10) from rfl) alv0 (fun e => absurd e (by decide)) (fun σ6 H6 e6 => ?_)
    refine zW_p 2 rfl ?_
    refine hW_put H6 rfl (hat.set (hat.set (hat.set ha_1_3))) rfl rfl rfl (Or.inr ⟨rfl, rfl⟩) hn hfit rfl alv0 (fun e => absurd e (by decide)) (fun σ7 H7 e7 => ?_)
    refine zW_p 2 rfl ?_
    refine hW_put H7 rfl (hat.set (hat.set (hat.set (hat.set ha_1_3)))) rfl rfl rfl (Or.inr ⟨rfl, rfl⟩) rfl rfl rfl alv0 (fun e => absurd e (by decide)) (fun σ8 H8 e8 => ?_)
    exact wW_ret rfl rfl rfl rfl ⟨rfl, (ghw (ghw gh S 36 b1) (sset (snw S 36 []) 13 2 m (((sn S 36) : Nat) : Int)) 37 b3), (gext_w (gext_w gext_rfl (fun c1 => (by first | exact Nat.le_refl _ | (simp only [sn_set, sn_w]; repeat' split) <;> (first | omega | (subst_vars; omega)) | (simp only [kPartInit2, sn_set, sn_w]; repeat' split) <;> (first | omega | (subst_vars; omega))))) (fun c1 => (by first | exact Nat.le_refl _ | (simp only [sn_set, sn_w]; repeat' split) <;> (first | omega | (subst_vars; omega)) | (simp only [kPartInit2, sn_set, sn_w]; repeat' split) <;> (first | omega | (subst_vars; omega))))), H8, (((((((((k1).trans (kc.of e2)).trans k3).trans (kc.of e4)).trans (kc.of e5)).trans (kc.of e6)).trans (kc.of e7)).trans (kc.of e8))).mono (by omega) (by omega)⟩
  obtain ⟨o, σ', h1, rfl, h2⟩ := main
  exact ⟨σ', h1, h2⟩
def kMLot (S : hS) (m : Nat) (p : Int) (q : Int) (r : Int) (c : Int) : hS := (sset (sset (sset (sset (sset (snw S 41 []) 14 6 m (((sn S 41) : Nat) : Int)) 14 0 m (p)) 14 1 m (q)) 14 2 m (r)) 14 4 m (c))
theorem M_newLot {m : Nat} {p : Int} {q : Int} {r : Int} {c : Int} {a : Nat} (H : hRep g w0 σ gh S J) (ha : hat gh S 14 m a) : ∃ σ' : zS, zEnd g 5 208 [.ref a, iv p, iv q, iv r, .long (Int64.ofInt c)] σ (.inl none) σ' ∧ ∃ ghx, gext S gh ghx ∧ hRep g w0 σ' ghx (kMLot S m p q r c) J ∧ kc σ σ' 1 3 := by
  have main : zW g 5 208 0 (lv_args 0 [.ref a, iv p, iv q, iv r, .long (Int64.ofInt c)]) [] σ (fun o σ' => o = .inl none ∧ ∃ ghx, gext S gh ghx ∧ hRep g w0 σ' ghx (kMLot S m p q r c) J ∧ kc σ σ' 1 3) := by
    refine zW_p 1 rfl ?_
    refine aW_oinit rfl rfl (Nat.le_of_ble_eq_true rfl) ?_
    refine zW_p 1 rfl ?_
    refine hW_newL 41 H rfl rfl rfl rfl rfl rfl rfl rfl rfl (fun _ => rfl) (by omega) (fun σ1 b1 H1 hb1 k1 => ?_)
    have ha_1 : hat (ghw gh S 41 b1) (snw S 41 []) 14 m a := hat.old (xs := []) ha
    refine hW_put H1 rfl ha_1 rfl rfl rfl (Or.inr ⟨rfl, rfl⟩) rfl rfl (convR hb1) (alvR hb1.1) (fun e => absurd e (by decide)) (fun σ2 H2 e2 => ?_)
    refine zW_p 2 rfl ?_
    refine hW_put H2 rfl (hat.set ha_1) rfl rfl rfl (Or.inr ⟨rfl, rfl⟩) rfl rfl rfl alv0 (fun e => absurd e (by decide)) (fun σ3 H3 e3 => ?_)
    refine zW_p 2 rfl ?_
    refine hW_put H3 rfl (hat.set (hat.set ha_1)) rfl rfl rfl (Or.inr ⟨rfl, rfl⟩) rfl rfl rfl alv0 (fun e => absurd e (by decide)) (fun σ4 H4 e4 => ?_)
    refine zW_p 2 rfl ?_
    refine hW_put H4 rfl (hat.set (hat.set (hat.set ha_1))) rfl rfl rfl (Or.inl rfl) rfl rfl rfl alv0 (fun e => absurd e (by decide)) (fun σ5 H5 e5 => ?_)
    refine zW_p 2 rfl ?_
    refine hW_put H5 rfl (hat.set (hat.set (hat.set (hat.set ha_1)))) rfl rfl rfl (Or.inl rfl) rfl rfl rfl alv1 (fun e => absurd e (by decide)) (fun σ6 H6 e6 => ?_)
    exact wW_ret rfl rfl rfl rfl ⟨rfl, (ghw gh S 41 b1), (gext_w gext_rfl (fun c1 => (by first | exact Nat.le_refl _ | (simp only [sn_set, sn_w]; repeat' split) <;> (first | omega | (subst_vars; omega)) | (simp only [kPartInit2, sn_set, sn_w]; repeat' split) <;> (first | omega | (subst_vars; omega))))), H6, (((((((k1).trans (kc.of e2)).trans (kc.of e3)).trans (kc.of e4)).trans (kc.of e5)).trans (kc.of e6))).mono (by omega) (by omega)⟩
  obtain ⟨o, σ', h1, rfl, h2⟩ := main
  exact ⟨σ', h1, h2⟩
def kMOrder (S : hS) (m : Nat) (p : Int) (q : Int) (r : Int) (t : Int) (u : Int) : hS := (sset (sset (sset (sset (sset (sset (snw (sset (sset (sset (snw (sset (snw (sset S 15 5 m (45)) 38 []) 15 6 m (((sn (sset S 15 5 m (45)) 38) : Nat) : Int)) 39 []) 15 7 m (((sn (sset (snw (sset S 15 5 m (45)) 38 []) 15 6 m (((sn (sset S 15 5 m (45)) 38) : Nat) : Int)) 39) : Nat) : Int)) 15 13 m (-1)) 15 14 m (-1)) 40 []) 15 16 m (((sn (sset (sset (sset (snw (sset (snw (sset S 15 5 m (45)) 38 []) 15 6 m (((sn (sset S 15 5 m (45)) 38) : Nat) : Int)) 39 []) 15 7 m (((sn (sset (snw (sset S 15 5 m (45)) 38 []) 15 6 m (((sn (sset S 15 5 m (45)) 38) : Nat) : Int)) 39) : Nat) : Int)) 15 13 m (-1)) 15 14 m (-1)) 40) : Nat) : Int)) 15 0 m (p)) 15 1 m (q)) 15 2 m (r)) 15 3 m (t)) 15 4 m (u))
theorem M_newOrder {m : Nat} {p : Int} {q : Int} {r : Int} {t : Int} {u : Int} {a : Nat} (H : hRep g w0 σ gh S J) (ha : hat gh S 15 m a) : ∃ σ' : zS, zEnd g 5 226 [.ref a, iv p, iv q, iv r, iv t, iv u] σ (.inl none) σ' ∧ ∃ ghx, gext S gh ghx ∧ hRep g w0 σ' ghx (kMOrder S m p q r t u) J ∧ kc σ σ' 3 9 := by
  have main : zW g 5 226 0 (lv_args 0 [.ref a, iv p, iv q, iv r, iv t, iv u]) [] σ (fun o σ' => o = .inl none ∧ ∃ ghx, gext S gh ghx ∧ hRep g w0 σ' ghx (kMOrder S m p q r t u) J ∧ kc σ σ' 3 9) := by
    refine zW_p 1 rfl ?_
    refine aW_oinit rfl rfl (Nat.le_of_ble_eq_true rfl) ?_
    refine zW_p 2 rfl ?_
    refine hW_put H rfl ha rfl rfl rfl (Or.inl rfl) rfl rfl (show _ = conv _ 0 (45) from rfl) alv0 (fun e => absurd e (by decide)) (fun σ1 H1 e1 => ?_)
    refine zW_p 1 rfl ?_
    refine hW_newL 38 H1 rfl rfl rfl rfl rfl rfl rfl rfl rfl (fun _ => rfl) (by omega) (fun σ2 b2 H2 hb2 k2 => ?_)
    have ha_2 : hat (ghw gh (sset S 15 5 m (45)) 38 b2) (snw (sset S 15 5 m (45)) 38 []) 15 m a := hat.old (xs := []) (hat.set ha)
    refine hW_put H2 rfl ha_2 rfl rfl rfl (Or.inr ⟨rfl, rfl⟩) rfl rfl (convR hb2) (alvR hb2.1) (fun e => absurd e (by decide)) (fun σ3 H3 e3 => ?_)
    refine zW_p 1 rfl ?_
    refine hW_newL 39 H3 rfl rfl rfl rfl rfl rfl rfl rfl rfl (fun _ => rfl) (by omega) (fun σ4 b4 H4 hb4 k4 => ?_)
    have ha_2_4 : hat (ghw (ghw gh (sset S 15 5 m (45)) 38 b2) (sset (snw (sset S 15 5 m (45)) 38 []) 15 6 m (((sn (sset S 15 5 m (45)) 38) : Nat) : Int)) 39 b4) (snw (sset (snw (sset S 15 5 m (45)) 38 []) 15 6 m (((sn (sset S 15 5 m (45)) 38) : Nat) : Int)) 39 []) 15 m a := hat.old (xs := []) (hat.set ha_2)
    have hb2_4 : hat (ghw (ghw gh (sset S 15 5 m (45)) 38 b2) (sset (snw (sset S 15 5 m (45)) 38 []) 15 6 m (((sn (sset S 15 5 m (45)) 38) : Nat) : Int)) 39 b4) (snw (sset (snw (sset S 15 5 m (45)) 38 []) 15 6 m (((sn (sset S 15 5 m (45)) 38) : Nat) : Int)) 39 []) 38 (sn (sset S 15 5 m (45)) 38) b2 := hat.old (xs := []) (hat.set hb2)
    refine hW_put H4 rfl ha_2_4 rfl rfl rfl (Or.inr ⟨rfl, rfl⟩) rfl rfl (convR hb4) (alvR hb4.1) (fun e => absurd e (by decide)) (fun σ5 H5 e5 => ?_)
    refine zW_p 2 rfl ?_
    refine hW_put H5 rfl (hat.set ha_2_4) rfl rfl rfl (Or.inl rfl) rfl rfl (show _ = conv _ 0 (-1) from rfl) alv0 (fun e => absurd e (by decide)) (fun σ6 H6 e6 => ?_)
    refine zW_p 2 rfl ?_
    refine hW_put H6 rfl (hat.set (hat.set ha_2_4)) rfl rfl rfl (Or.inl rfl) rfl rfl (show _ = conv _ 0 (-1) from rfl) alv0 (fun e => absurd e (by decide)) (fun σ7 H7 e7 => ?_)
    refine zW_p 1 rfl ?_
    refine hW_newL 40 H7 rfl rfl rfl rfl rfl rfl rfl rfl rfl (fun _ => rfl) (by omega) (fun σ8 b8 H8 hb8 k8 => ?_)
    have ha_2_4_8 : hat (ghw (ghw (ghw gh (sset S 15 5 m (45)) 38 b2) (sset (snw (sset S 15 5 m (45)) 38 []) 15 6 m (((sn (sset S 15 5 m (45)) 38) : Nat) : Int)) 39 b4) (sset (sset (sset (snw (sset (snw (sset S 15 5 m (45)) 38 []) 15 6 m (((sn (sset S 15 5 m (45)) 38) : Nat) : Int)) 39 []) 15 7 m (((sn (sset (snw (sset S 15 5 m (45)) 38 []) 15 6 m (((sn (sset S 15 5 m (45)) 38) : Nat) : Int)) 39) : Nat) : Int)) 15 13 m (-1)) 15 14 m (-1)) 40 b8) (snw (sset (sset (sset (snw (sset (snw (sset S 15 5 m (45)) 38 []) 15 6 m (((sn (sset S 15 5 m (45)) 38) : Nat) : Int)) 39 []) 15 7 m (((sn (sset (snw (sset S 15 5 m (45)) 38 []) 15 6 m (((sn (sset S 15 5 m (45)) 38) : Nat) : Int)) 39) : Nat) : Int)) 15 13 m (-1)) 15 14 m (-1)) 40 []) 15 m a := hat.old (xs := []) (hat.set (hat.set (hat.set ha_2_4)))
    have hb2_4_8 : hat (ghw (ghw (ghw gh (sset S 15 5 m (45)) 38 b2) (sset (snw (sset S 15 5 m (45)) 38 []) 15 6 m (((sn (sset S 15 5 m (45)) 38) : Nat) : Int)) 39 b4) (sset (sset (sset (snw (sset (snw (sset S 15 5 m (45)) 38 []) 15 6 m (((sn (sset S 15 5 m (45)) 38) : Nat) : Int)) 39 []) 15 7 m (((sn (sset (snw (sset S 15 5 m (45)) 38 []) 15 6 m (((sn (sset S 15 5 m (45)) 38) : Nat) : Int)) 39) : Nat) : Int)) 15 13 m (-1)) 15 14 m (-1)) 40 b8) (snw (sset (sset (sset (snw (sset (snw (sset S 15 5 m (45)) 38 []) 15 6 m (((sn (sset S 15 5 m (45)) 38) : Nat) : Int)) 39 []) 15 7 m (((sn (sset (snw (sset S 15 5 m (45)) 38 []) 15 6 m (((sn (sset S 15 5 m (45)) 38) : Nat) : Int)) 39) : Nat) : Int)) 15 13 m (-1)) 15 14 m (-1)) 40 []) 38 (sn (sset S 15 5 m (45)) 38) b2 := hat.old (xs := []) (hat.set (hat.set (hat.set hb2_4)))
    have hb4_8 : hat (ghw (ghw (ghw gh (sset S 15 5 m (45)) 38 b2) (sset (snw (sset S 15 5 m (45)) 38 []) 15 6 m (((sn (sset S 15 5 m (45)) 38) : Nat) : Int)) 39 b4) (sset (sset (sset (snw (sset (snw (sset S 15 5 m (45)) 38 []) 15 6 m (((sn (sset S 15 5 m (45)) 38) : Nat) : Int)) 39 []) 15 7 m (((sn (sset (snw (sset S 15 5 m (45)) 38 []) 15 6 m (((sn (sset S 15 5 m (45)) 38) : Nat) : Int)) 39) : Nat) : Int)) 15 13 m (-1)) 15 14 m (-1)) 40 b8) (snw (sset (sset (sset (snw (sset (snw (sset S 15 5 m (45)) 38 []) 15 6 m (((sn (sset S 15 5 m (45)) 38) : Nat) : Int)) 39 []) 15 7 m (((sn (sset (snw (sset S 15 5 m (45)) 38 []) 15 6 m (((sn (sset S 15 5 m (45)) 38) : Nat) : Int)) 39) : Nat) : Int)) 15 13 m (-1)) 15 14 m (-1)) 40 []) 39 (sn (sset (snw (sset S 15 5 m (45)) 38 []) 15 6 m (((sn (sset S 15 5 m (45)) 38) : Nat) : Int)) 39) b4 := hat.old (xs := []) (hat.set (hat.set (hat.set hb4)))
    refine hW_put H8 rfl ha_2_4_8 rfl rfl rfl (Or.inr ⟨rfl, rfl⟩) rfl rfl (convR hb8) (alvR hb8.1) (fun e => absurd e (by decide)) (fun σ9 H9 e9 => ?_)
    refine zW_p 2 rfl ?_
    refine hW_put H9 rfl (hat.set ha_2_4_8) rfl rfl rfl (Or.inr ⟨rfl, rfl⟩) rfl rfl rfl alv0 (fun e => absurd e (by decide)) (fun σ10 H10 e10 => ?_)
    refine zW_p 2 rfl ?_
    refine hW_put H10 rfl (hat.set (hat.set ha_2_4_8)) rfl rfl rfl (Or.inr ⟨rfl, rfl⟩) rfl rfl rfl alv0 (fun e => absurd e (by decide)) (fun σ11 H11 e11 => ?_)
    refine zW_p 2 rfl ?_
    refine hW_put H11 rfl (hat.set (hat.set (hat.set ha_2_4_8))) rfl rfl rfl (Or.inr ⟨rfl, rfl⟩) rfl rfl rfl alv0 (fun e => absurd e (by decide)) (fun σ12 H12 e12 => ?_)
    refine zW_p 2 rfl ?_
    refine hW_put H12 rfl (hat.set (hat.set (hat.set (hat.set ha_2_4_8)))) rfl rfl rfl (Or.inr ⟨rfl, rfl⟩) rfl rfl rfl alv0 (fun e => absurd e (by decide)) (fun σ13 H13 e13 => ?_)
    refine zW_p 2 rfl ?_
    refine hW_put H13 rfl (hat.set (hat.set (hat.set (hat.set (hat.set ha_2_4_8))))) rfl rfl rfl (Or.inr ⟨rfl, rfl⟩) rfl rfl rfl alv0 (fun e => absurd e (by decide)) (fun σ14 H14 e14 => ?_)
    exact wW_ret rfl rfl rfl rfl ⟨rfl, (ghw (ghw (ghw gh (sset S 15 5 m (45)) 38 b2) (sset (snw (sset S 15 5 m (45)) 38 []) 15 6 m (((sn (sset S 15 5 m (45)) 38) : Nat) : Int)) 39 b4) (sset (sset (sset (snw (sset (snw (sset S 15 5 m (45)) 38 []) 15 6 m (((sn (sset S 15 5 m (45)) 38) : Nat) : Int)) 39 []) 15 7 m (((sn (sset (snw (sset S 15 5 m (45)) 38 []) 15 6 m (((sn (sset S 15 5 m (45)) 38) : Nat) : Int)) 39) : Nat) : Int)) 15 13 m (-1)) 15 14 m (-1)) 40 b8), (gext_w (gext_w (gext_w gext_rfl (fun c1 => (by first | exact Nat.le_refl _ | (simp only [sn_set, sn_w]; repeat' split) <;> (first | omega | (subst_vars; omega)) | (simp only [kPartInit2, sn_set, sn_w]; repeat' split) <;> (first | omega | (subst_vars; omega))))) (fun c1 => (by first | exact Nat.le_refl _ | (simp only [sn_set, sn_w]; repeat' split) <;> (first | omega | (subst_vars; omega)) | (simp only [kPartInit2, sn_set, sn_w]; repeat' split) <;> (first | omega | (subst_vars; omega))))) (fun c1 => (by first | exact Nat.le_refl _ | (simp only [sn_set, sn_w]; repeat' split) <;> (first | omega | (subst_vars; omega)) | (simp only [kPartInit2, sn_set, sn_w]; repeat' split) <;> (first | omega | (subst_vars; omega))))), H14, ((((((((((((((((kc.of e1)).trans k2).trans (kc.of e3)).trans k4).trans (kc.of e5)).trans (kc.of e6)).trans (kc.of e7)).trans k8).trans (kc.of e9)).trans (kc.of e10)).trans (kc.of e11)).trans (kc.of e12)).trans (kc.of e13)).trans (kc.of e14))).mono (by omega) (by omega)⟩
  obtain ⟨o, σ', h1, rfl, h2⟩ := main
  exact ⟨σ', h1, h2⟩
end ZCO
