/-! THE USER'S HEAP: rows of queues, boxed numbers, Booleans, arrays; addAll -/
set_option maxRecDepth 100000
theorem map_erase_inj {f : Int → Nat} : ∀ {l : List Int} {a : Int}, (∀ x ∈ l, f x = f a → x = a) → (l.erase a).map f = (l.map f).erase (f a)
  | [], _, _ => rfl
  | b :: t, a, h => by
    by_cases e : b = a
    · subst e
      rw [List.erase_cons_head, List.map_cons, List.erase_cons_head]
    · have e2 : f b ≠ f a := fun q => e (h b List.mem_cons_self q)
      rw [List.erase_cons_tail (by simpa using e), List.map_cons, List.map_cons, List.erase_cons_tail (by simpa using e2), map_erase_inj (fun x hx => h x (List.mem_cons_of_mem _ hx))]
/-- orders whose keys are in range -/
def hOrd (S : hS) : Prop := ∀ j : Nat, j < sn S 8 → 0 ≤ sT S 8 0 j ∧ sT S 8 0 j < 1000 ∧ 0 ≤ sT S 8 4 j ∧ sT S 8 4 j ≤ 100000
def okey (S : hS) (j : Nat) : Int := sT S 8 4 j * 1000 + sT S 8 0 j
section ZUQ
variable {g : zG} {w0 : hG} {σ : zS} {gh gh' : Nat → Nat → Nat} {S S' : hS} {J J' : zw_W} {c i a k kd d pc idx idx2 k0 b j : Nat} {v : Int} {xs : List Int} {lv : zp_L} {st rest : List Value} {Q : Option Value ⊕ String → zS → Prop}
theorem hRep.inj (H : hRep g w0 σ gh S J) {c' i' : Nat} (h1 : i < sn S c) (h2 : i' < sn S c') (he : gh c i = gh c' i') : c = c' ∧ i = i' := by
  obtain ⟨_, _, _, _, _, _, own, ar, fa, h7, h8, _⟩ := H
  have q1 := h8 c i h1
  have q2 := h8 c' i' h2
  rw [he, q2] at q1
  have := Option.some.inj q1
  exact ⟨(congrArg (·.2.1) this).symm, (congrArg (·.2.2) this).symm⟩
theorem hRep.key (H : hRep g w0 σ gh S J) (ho : hOrd S) (hj : j < sn S 8) : wKey σ.1 (gh 8 j) (okey S j) := by
  obtain ⟨o1, o2, o3, o4⟩ := ho j hj
  exact ⟨_, sT S 8 4 j, sT S 8 0 j, (H.obj (c := 8) ⟨hj, rfl⟩ (by omega)).1, rfl, rfl, o1, o2, o3, o4, rfl⟩
theorem hRep.pq (H : hRep g w0 σ gh S J) (ha : hat gh S 45 i a) : ∃ (r cap : Nat) (f : Nat → Option Nat) (key : Nat → Int), wP σ.1 a (Int32.ofInt (sM S 45 i)) r cap (sE S 45 i).length f ∧ wPQ key (sE S 45 i).length f (hqA gh S i) ∧ (∀ x ∈ sE S 45 i, 0 ≤ x) ∧ zg_n g ≤ a ∧ zg_n g ≤ r ∧ ∀ j : Nat, j < sn S 8 → key (gh 8 j) = okey S j := by
  obtain ⟨h1, h2, h3, h4, h5, h6, own, ar, fa, h7, h8, h9, hA, hB, hC⟩ := H
  obtain ⟨hi, rfl⟩ := ha
  obtain ⟨q1, q2, q3, _⟩ := h7 _ _ _ _ (h8 45 i hi)
  obtain ⟨r1, r2, r3, r4, r5⟩ := hA 45 i (by omega) (by omega) hi
  obtain ⟨c1, c2, c3⟩ := hC i hi
  have r6 := r4 (by omega)
  obtain ⟨s1, s2, s3, _⟩ := h7 _ _ _ _ r6
  refine ⟨(ar 45 i).1, (ar 45 i).2, fa 45 i, qkey S own, ⟨q3, s3, r2, r3, c1⟩, c3, c2, ?_, ?_, fun j hj => ?_⟩
  · rcases q1 with q | ⟨_, e⟩
    · exact q
    · omega
  · rcases s1 with q | ⟨q, _⟩
    · exact q
    · cases q
  · unfold qkey
    rw [h8 8 j hj]
    rfl
theorem hW_qsize (H : hRep g w0 σ gh S J) (hx : r_i k pc = some (.invokevirtual idx, 3)) (hno : (r_o k == 22 && idx == 86) = false) (hV : zcV_at (r_o k) idx = some (130, 0)) (ha : hat gh S 45 i a) (h6 : zc6 st = true) (hd : 0 < d)
    (hr : zW g d k (pc + 3) lv (iv (sE S 45 i).length :: st) σ Q) : zW g d k pc lv (.ref a :: st) σ Q := by
  obtain ⟨r, cap, f, key, q1, _⟩ := H.pq ha
  exact wV hx hno hV rfl rfl h6 rfl q1.rc (c_qsize q1) hd hr
theorem hW_qempty (H : hRep g w0 σ gh S J) (hx : r_i k pc = some (.invokevirtual idx, 3)) (hno : (r_o k == 22 && idx == 86) = false) (hV : zcV_at (r_o k) idx = none) (hU : zun (r_o k) idx = some 0) (hu : zu_at (r_o k) idx "java/util/PriorityQueue" = some (150, 0)) (ha : hat gh S 45 i a) (h6 : zc6 st = true) (hd : 1 < d)
    (hr : zW g d k (pc + 3) lv (iv (if (sE S 45 i).length = 0 then 1 else 0) :: st) σ Q) : zW g d k pc lv (.ref a :: st) σ Q := by
  obtain ⟨r, cap, f, key, q1, _⟩ := H.pq ha
  exact wU hx hno hV hU rfl q1.rc hu rfl h6 rfl (c_qempty q1) hd hr
theorem hW_qadd (H : hRep g w0 σ gh S J) (ho : hOrd S) (hx : r_i k pc = some (.invokevirtual idx, 3)) (hno : (r_o k == 22 && idx == 86) = false) (hV : zcV_at (r_o k) idx = some (131, 1)) (ha : hat gh S 45 i a) (hb : hat gh S 8 j b) (hnj : (j : Int) ∉ sE S 45 i) (hlen : (sE S 45 i).length < 200000) (h6 : zc6 st = true) (hd : 6 < d)
    (hr : ∀ σ' : zS, hRep g w0 σ' gh (ssE S 45 i ((j : Int) :: sE S 45 i)) J → kc σ σ' 1 (2 * (sE S 45 i).length + 64) → zW g d k (pc + 3) lv (iv 1 :: st) σ' Q) : zW g d k pc lv (.ref b :: .ref a :: st) σ Q := by
  obtain ⟨r, cap, f, key, q1, q2, q3, q4, q5, q6⟩ := H.pq ha
  obtain ⟨hj, rfl⟩ := hb
  have hal : ∀ x ∈ (j : Int) :: sE S 45 i, alv S 48 x := by
    intro x hx
    rcases List.mem_cons.mp hx with rfl | hx
    · exact fun _ => ⟨fun e => by omega, fun n e => by obtain rfl : n = 8 := (by omega); simpa using hj⟩
    · exact H.2.2.2.2.2.1 45 i (by omega) ha.1 x hx
  have hpos : ∀ x ∈ (j : Int) :: sE S 45 i, 0 ≤ x := by
    intro x hx
    rcases List.mem_cons.mp hx with rfl | hx
    · omega
    · exact q3 x hx
  have hlive : ∀ x ∈ (j : Int) :: sE S 45 i, x.toNat < sn S 8 := fun x hx => (hal x hx (hpos x hx)).2 8 rfl
  have hK : ∀ y ∈ gh 8 j :: hqA gh S i, wKey σ.1 y (key y) := by
    intro y hy
    have : ∃ x ∈ (j : Int) :: sE S 45 i, gh 8 x.toNat = y := by
      rcases List.mem_cons.mp hy with rfl | hy
      · exact ⟨j, List.mem_cons_self, by simp⟩
      · obtain ⟨x, hx, rfl⟩ := List.mem_map.mp hy
        exact ⟨x, List.mem_cons_of_mem _ hx, rfl⟩
    obtain ⟨x, hx, rfl⟩ := this
    rw [q6 _ (hlive x hx)]
    exact H.key ho (hlive x hx)
  have hnm : gh 8 j ∉ hqA gh S i := by
    intro hm
    obtain ⟨x, hx, he⟩ := List.mem_map.mp hm
    have e := (H.inj (hlive x (List.mem_cons_of_mem _ hx)) hj he).2
    have h0 := q3 x hx
    exact hnj (by rw [← e, Int.toNat_of_nonneg h0]; exact hx)
  obtain ⟨f', r', cap', σ', a1, a2, a3, a4, a5, a6⟩ := c_qadd (g := g) q1 q2 (by omega) H.2.1 H.2.2.1 q4 q5 H.1.1 hK hnm
  have hh : hhead 45 (Int32.ofInt (sM S 45 i)) r (sE S 45 i).length = .inr (18, [.ref r, iv (sE S 45 i).length, .null, .int (Int32.ofInt (sM S 45 i))]) := rfl
  have hh2 : hhead 45 (Int32.ofInt (sM S 45 i + 1)) r' ((j : Int) :: sE S 45 i).length = .inr (18, [.ref r', iv ((sE S 45 i).length + 1 : Nat), .null, .int (Int32.ofInt (sM S 45 i) + Int32.ofInt 1)]) := by
    rw [I_add]
    rfl
  have hqa : ((j : Int) :: sE S 45 i).map (fun x => gh 8 x.toNat) = gh 8 j :: hqA gh S i := by
    rw [List.map_cons]
    simp
  have hcp := q1.2.2.2.2
  have H2 := H.relist (xs := (j : Int) :: sE S 45 i) (r' := r') (cap' := cap') (m1 := σ'.2.1) (m2 := σ'.2.2) (f' := f') ha (by omega) (by omega) (by rw [hh]; exact q1.1) q1.2.1 ?_ (by rw [List.length_cons]; exact a3) a4 (by omega) (fun e => by omega) hal (fun _ => ⟨hpos, key, q6, by rw [hqa]; exact a2⟩)
  · rw [hh2, ← a5] at H2
    refine wV hx hno hV rfl rfl h6 rfl q1.rc a1 hd (hr σ' H2 ?_)
    rcases a6 with ⟨_, _, e⟩ | ⟨_, e1, e2⟩
    · exact (kc.of e).mono (by omega) (by omega)
    · refine ⟨by omega, by omega, ?_, by omega⟩
      obtain ⟨n1, hn1⟩ := a1
      exact (zx_mono g n1 _ _ _ _ _ _ _ _ hn1).2
  · rcases a6 with ⟨e1, e2, e3⟩ | ⟨e1, e2, e3⟩
    · exact Or.inl ⟨e1, by omega, e2, by rw [e3]; exact Nat.le_refl _⟩
    · exact Or.inr ⟨e1, by omega⟩
/-- poll() of a queue that isn't empty -/
theorem hW_qpoll (H : hRep g w0 σ gh S J) (ho : hOrd S) (hx : r_i k pc = some (.invokevirtual idx, 3)) (hno : (r_o k == 22 && idx == 86) = false) (hV : zcV_at (r_o k) idx = some (152, 0)) (ha : hat gh S 45 i a) (hne : sE S 45 i ≠ []) (h6 : zc6 st = true) (hd : 4 < d)
    (hr : ∀ (σ' : zS) (j b : Nat), (j : Int) ∈ sE S 45 i → (∀ x ∈ sE S 45 i, okey S j ≤ okey S x.toNat) → hat gh S 8 j b → hRep g w0 σ' gh (ssE S 45 i ((sE S 45 i).erase (j : Int))) J → σ'.2 = σ.2 → zW g d k (pc + 3) lv (.ref b :: st) σ' Q) : zW g d k pc lv (.ref a :: st) σ Q := by
  obtain ⟨r, cap, f, key, q1, q2, q3, q4, q5, q6⟩ := H.pq ha
  have hal := H.2.2.2.2.2.1 45 i (by omega) ha.1
  have hlive : ∀ x ∈ sE S 45 i, x.toNat < sn S 8 := fun x hx => (hal x hx (q3 x hx)).2 8 rfl
  have hK : ∀ y ∈ hqA gh S i, wKey σ.1 y (key y) := by
    intro y hy
    obtain ⟨x, hx, rfl⟩ := List.mem_map.mp hy
    rw [q6 _ (hlive x hx)]
    exact H.key ho (hlive x hx)
  obtain ⟨n, hn⟩ : ∃ n, (sE S 45 i).length = n + 1 := ⟨(sE S 45 i).length - 1, by have := List.length_pos_iff.mpr hne; omega⟩
  have q1' := q1
  have q2' := q2
  rw [hn] at q1' q2'
  obtain ⟨y0, f', a1, a2, a3, a4⟩ := c_qpoll (g := g) q1' q2' q4 q5 hK
  obtain ⟨x, hx0, rfl⟩ := List.mem_map.mp a1
  have hx1 : ((x.toNat : Nat) : Int) = x := Int.toNat_of_nonneg (q3 x hx0)
  have hqa : ((sE S 45 i).erase x).map (fun x => gh 8 x.toNat) = (hqA gh S i).erase (gh 8 x.toNat) := by
    refine map_erase_inj (f := fun x => gh 8 x.toNat) (fun y hy he => ?_)
    have := (H.inj (hlive y hy) (hlive x hx0) he).2
    have h1 := q3 y hy
    have h2 := q3 x hx0
    omega
  have hlen : ((sE S 45 i).erase x).length = n := by rw [List.length_erase_of_mem hx0, hn]; omega
  have hra : a ≠ r := fun e => by have := q1.2.1; rw [← e, q1.1] at this; cases this
  have H2 := H.relist (xs := (sE S 45 i).erase x) (r' := r) (cap' := cap) (m1 := σ.2.1) (m2 := σ.2.2) (f' := f') ha (by omega) (by omega) q1.1 q1.2.1 (Or.inl ⟨rfl, by have := q1.2.2.2.2; omega, rfl, Nat.le_refl _⟩) (by have := q1.2.2.1; omega) q1.2.2.2.1 q1.2.2.2.2 (fun e => by omega) (fun y hy => hal y (List.mem_of_mem_erase hy)) (fun _ => ⟨fun y hy => q3 y (List.mem_of_mem_erase hy), key, q6, by rw [hlen, hqa]; exact a3⟩)
  refine wV hx hno hV rfl rfl h6 rfl q1.rc a4 hd ?_
  refine hr _ x.toNat _ (by rw [hx1]; exact hx0) (fun y hy => ?_) ⟨hlive x hx0, rfl⟩ ?_ rfl
  · have := a2 _ (List.mem_map.mpr ⟨y, hy, rfl⟩)
    rw [q6 _ (hlive x hx0), q6 _ (hlive y hy)] at this
    exact this
  · rw [hx1, zw_up_comm _ hra]
    have hh2 : hhead 45 (Int32.ofInt (sM S 45 i + 1)) r ((sE S 45 i).erase x).length = .inr (18, [.ref r, iv n, .null, .int (Int32.ofInt (sM S 45 i) + Int32.ofInt 1)]) := by
      rw [hlen, I_add]
      rfl
    rw [hh2] at H2
    exact H2
/-- a new boxed number gets its value -/
theorem hRep.setI (H : hRep g w0 σ gh S J) (ha : hat gh S 19 i a) (hna : zg_n g ≤ a) :
    hRep g w0 (zw_up σ.1 a (.inr (19, [iv v])), σ.2) gh (sset S 19 0 i v) J := by
  obtain ⟨h1, h2, h3, h4, h5, h6, own, ar, fa, h7, h8, h9, hA, hB, hC⟩ := H
  obtain ⟨hi, rfl⟩ := ha
  have ho := h8 19 i hi
  obtain ⟨q1', q2, q3, _⟩ := h7 _ _ _ _ ho
  have q1 := hna
  refine ⟨h1, fun q hq2 => (zw_up_ne _ _ (by have hq3 : σ.2.1 ≤ q := hq2; omega)).trans (h2 q hq2), h3, fun q hq2 => (zw_up_ne _ _ (by omega)).trans (h4 q hq2), ?_, h6, own, ar, fa, ?_, h8, h9, hA, hB, ?_⟩
  · intro c' i' k' kd' hc' hi' hk'
    rw [sT_set]
    by_cases e : c' = 19 ∧ k' = 0 ∧ i' = i
    · rw [if_pos e]
      obtain ⟨rfl, rfl, rfl⟩ := e
      cases Option.some.inj (hk'.symm.trans (show (bspec 19)[0]? = some 0 from rfl))
      exact fun _ => ⟨fun e => by omega, fun n e => by omega⟩
    · rw [if_neg e]
      exact h5 c' i' k' kd' hc' hi' hk'
  · intro b t c' i' hb
    obtain ⟨p1, p2, p3, p4, p5⟩ := h7 b t c' i' hb
    by_cases e : b = gh 19 i
    · subst e
      obtain ⟨rfl, rfl, rfl⟩ : t = 0 ∧ c' = 19 ∧ i' = i := by
        have := Option.some.inj (hb.symm.trans ho)
        exact ⟨congrArg (·.1) this, congrArg (·.2.1) this, congrArg (·.2.2) this⟩
      refine ⟨p1, p2, ?_, ?_, p5⟩
      · show zw_up _ _ _ _ = _
        rw [zw_up_same]
        unfold hcell
        simp only
        rw [if_pos (by omega), ocell_same (k := 0) (kd := 0) rfl]
        rfl
      · show zw_up _ _ _ _ ≠ _
        rw [zw_up_same]
        exact fun e => by cases e
    · refine ⟨p1, p2, ?_, by show zw_up _ _ _ _ ≠ _; rw [zw_up_ne _ _ e]; exact p4, p5⟩
      show zw_up _ _ _ _ = _
      rw [zw_up_ne _ _ e, p3]
      unfold hcell
      match t with
      | 0 =>
        simp only
        have hne : ¬ (c' = 19 ∧ i' = i) := by
          rintro ⟨rfl, rfl⟩
          exact e (p5.1 rfl).2
        rw [ocell_other hne]
        rfl
      | 1 => rfl
      | _ + 2 => rfl
  · intro q hq2
    obtain ⟨r1, r2, r3⟩ := hC q hq2
    refine ⟨r1, r2, wPQ_congr (fun y hy => ?_) r3⟩
    obtain ⟨x, hx, rfl⟩ := List.mem_map.mp hy
    have hx0 := r2 x hx
    have hx1 := (h6 45 q (by omega) hq2 x hx hx0).2 8 rfl
    unfold qkey
    rw [h8 8 x.toNat hx1]
    simp only
    rw [sT_set, sT_set, if_neg, if_neg]
    · rintro ⟨e1, e2, e3⟩
      omega
    · rintro ⟨e1, e2, e3⟩
      omega
/-! Integer: a boxed number is an object of class 19 -/
theorem hW_intVal {j : Nat} (H : hRep g w0 σ gh S J) (hx : r_i k pc = some (.invokevirtual idx, 3)) (hno : (r_o k == 22 && idx == 86) = false) (hV : zcV_at (r_o k) idx = some (216, 0)) (ha : hat gh S 19 j a) (h6 : zc6 st = true) (hd : 0 < d)
    (hr : zW g d k (pc + 3) lv (iv (sT S 19 0 j) :: st) σ Q) : zW g d k pc lv (.ref a :: st) σ Q :=
  wV hx hno hV rfl rfl h6 rfl (w_rc (H.obj ha (by omega)).1 rfl) (c_intVal (v := sT S 19 0 j) (H.obj ha (by omega)).1) hd hr
/-- the cached ones are the first 256 -/
def hCache (g : zG) (w0 : hG) (gh : Nat → Nat → Nat) (S : hS) : Prop := ∃ (A N : Nat) (f : Nat → Option Nat), zt_val (zg_s g) ("java/lang/Integer$IntegerCache", "high", "I") = some (iv 127) ∧ zt_val (zg_s g) ("java/lang/Integer$IntegerCache", "cache", "[Ljava/lang/Integer;") = some (.ref A) ∧ A < zg_n g ∧
  w0.1 A = some (.inl (7, N, .inr (.inr (.inr (.inr f))))) ∧ 256 ≤ N ∧ N < 2147483648 ∧ 256 ≤ sn S 19 ∧ ∀ j : Nat, j < 256 → f j = some (gh 19 j) ∧ gh 19 j < zg_n g ∧ sT S 19 0 j = (j : Int) - 128
theorem hW_intOf {v : Int} (H : hRep g w0 σ gh S J) (hC : hCache g w0 gh S) (hx : r_i k pc = some (.invokestatic idx, 3)) (hno : zxs_at (r_o k) idx = none) (hno2 : ((r_o k == 1 && idx == 112) || (r_o k == 22 && idx == 150)) = false) (hS : zcS_at (r_o k) idx = some (230, 1)) (h0 : -128 ≤ v) (h1 : v ≤ 1000000) (h6 : zc6 st = true) (hd : 2 < d)
    (hr1 : ∀ (j b : Nat), hat gh S 19 j b → sT S 19 0 j = v → zW g d k (pc + 3) lv (.ref b :: st) σ Q)
    (hr2 : ∀ (σ' : zS) (b : Nat), hat (ghw gh S 19 b) (sset (snw S 19 []) 19 0 (sn S 19) v) 19 (sn S 19) b → hRep g w0 σ' (ghw gh S 19 b) (sset (snw S 19 []) 19 0 (sn S 19) v) J → kc σ σ' 1 1 → zW g d k (pc + 3) lv (.ref b :: st) σ' Q) : zW g d k pc lv (iv v :: st) σ Q := by
  obtain ⟨A, N, f, k1, k2, k3, k4, k5, k6, k7, k8⟩ := hC
  by_cases hv : v ≤ 127
  · obtain ⟨e1, e2, e3⟩ := k8 (v + 128).toNat (by omega)
    have hw : σ.1 A = some (.inl (7, N, .inr (.inr (.inr (.inr f))))) := (H.2.2.2.1 _ k3).trans k4
    have hrun : zEnd g 0 230 [iv v] σ (.inl (some (.ref (gh 19 (v + 128).toNat)))) σ := zEnd_of (by
      refine zW_p 2 rfl ?_
      refine zW_br rfl rfl (fun hP => ?_) (fun _ => ?_)
      · rw [show (Int8.ofInt (-128)).toInt32 = Int32.ofInt (-128) from rfl, I_lt ⟨by omega, by omega⟩ ⟨by decide, by decide⟩] at hP
        omega
      · refine zW_p 1 rfl ?_
        refine aW_stat rfl rfl k1 ?_
        refine zW_br rfl rfl (fun hP => ?_) (fun _ => ?_)
        · rw [I_lt ⟨by decide, by decide⟩ ⟨by omega, by omega⟩] at hP
          omega
        · refine aW_stat rfl rfl k2 ?_
          refine zW_p 3 rfl ?_
          have e : Int32.ofInt v + (Int16.ofInt 128).toInt32 = Int32.ofInt (((v + 128).toNat : Nat) : Int) := by
            rw [show (Int16.ofInt 128).toInt32 = Int32.ofInt 128 from rfl, I_add]
            congr 1
            omega
          rw [e]
          refine wW_aald rfl hw rfl (I_in (by omega) k6) ?_
          rw [I_cl (by omega), e1]
          exact wW_ret rfl rfl rfl rfl ⟨rfl, rfl⟩)
    exact wS hx hno hno2 hS rfl rfl rfl h6 rfl hrun (by omega) (hr1 _ _ ⟨by omega, rfl⟩ (by rw [e3]; omega))
  · have hrun : zEnd g 2 230 [iv v] σ (.inl (some (.ref σ.2.1))) (zw_up σ.1 σ.2.1 (.inr (19, [iv v])), σ.2.1 + 1, σ.2.2 + 1) := zEnd_of (by
      refine zW_p 2 rfl ?_
      refine zW_br rfl rfl (fun hP => ?_) (fun _ => ?_)
      · rw [show (Int8.ofInt (-128)).toInt32 = Int32.ofInt (-128) from rfl, I_lt ⟨by omega, by omega⟩ ⟨by decide, by decide⟩] at hP
        omega
      · refine zW_p 1 rfl ?_
        refine aW_stat rfl rfl k1 ?_
        refine zW_br rfl rfl (fun _ => ?_) (fun hP => ?_)
        · refine wW_new rfl rfl rfl rfl ?_
          refine zW_p 2 rfl ?_
          refine wI rfl rfl rfl rfl rfl rfl rfl rfl rfl (c_intInit (v := v) (zw_up_same _ _ _) H.2.2.1) (by decide) ?_
          exact wW_ret rfl rfl rfl rfl ⟨rfl, by rw [zw_up_up]⟩
        · rw [I_lt ⟨by decide, by decide⟩ ⟨by omega, by omega⟩] at hP
          omega)
    refine wS hx hno hno2 hS rfl rfl rfl h6 rfl hrun (by omega) ?_
    have H2 := H.alloc (c := 19) (xs := []) (x := .inr (19, [iv 0])) (m := σ.2.2 + 1) (by omega) (by rw [if_pos (by omega)]; rfl) (fun _ => rfl) (by omega) (fun y hy => by cases hy)
    have H3 := hRep.setI H2 (i := sn S 19) (v := v) hat.new (Nat.le_trans H.2.2.1 (Nat.le_refl _))
    have e : zw_up (zw_up σ.1 σ.2.1 (.inr (19, [iv 0]))) σ.2.1 (.inr (19, [iv v])) = zw_up σ.1 σ.2.1 (.inr (19, [iv v])) := zw_up_up _ _ _ _
    rw [e] at H3
    exact hr2 (zw_up σ.1 σ.2.1 (.inr (19, [iv v])), σ.2.1 + 1, σ.2.2 + 1) _ (hat.new (xs := [])) H3 ⟨Nat.le_succ _, Nat.le_refl _, Nat.le_add_right _ _, Nat.le_refl _⟩
end ZUQ
