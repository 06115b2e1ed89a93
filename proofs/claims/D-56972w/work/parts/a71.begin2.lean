/-! THE START: the tables, the world, the constants, all in one -/
set_option maxRecDepth 100000
/-- what is fixed for the run, out of what the start gives -/
def gStart (n0 : Nat) (dC : Nat → ClassId) (dI : Nat → Nat → Nat) (dA : Nat → ClassId) (z : Nat → Nat) (E A mi : Nat) : zG :=
  ((dC, fun k => if k = 20 then fun _ => n0 else dI k), dA, zcl, [(dA 0, .int), (dA 1, .object "java/lang/Object"), (dA 2, .boolean), (dA 3, .char), (dA 4, .long), (dA 5, .double), (dA 6, .object "Foundrymark$Supplier")], n0,
    zsC z ++ [("java/util/ArrayList", "DEFAULTCAPACITY_EMPTY_ELEMENTDATA", "[Ljava/lang/Object;", .ref E), ("java/lang/Integer$IntegerCache", "cache", "[Ljava/lang/Integer;", .ref A), ("java/lang/Integer$IntegerCache", "high", "I", iv 127)], zji, zB_nc, zoC z, mi, zkC z)
theorem gS_wf {n0 : Nat} {dC : Nat → ClassId} {dI : Nat → Nat → Nat} {dA : Nat → ClassId} {z : Nat → Nat} {E A mi : Nat} : zWf (gStart n0 dC dI dA z E A mi) := by
  refine ⟨rfl, fun k ty hk => ?_, ?_⟩
  · match k, hk with
    | 0, hk => cases hk; rfl
    | 1, hk => cases hk; rfl
    | 2, hk => cases hk; rfl
    | 3, hk => cases hk; rfl
    | 4, hk => cases hk; rfl
    | 5, hk => cases hk; rfl
    | 6, hk => cases hk; rfl
    | k + 7, hk => simp [zkinds] at hk
  · have key : ∀ r ∈ zno, (r.2.1, r.2.2) ∈ zB_nc := by decide +kernel
    exact key
theorem gS_nc {n0 : Nat} {dC : Nat → ClassId} {dI : Nat → Nat → Nat} {dA : Nat → ClassId} {z : Nat → Nat} {E A mi : Nat} : ∀ r ∈ znc, r ∈ zg_c (gStart n0 dC dI dA z E A mi) := fun r hr => List.mem_append_left _ hr
section ZBG
variable {n0 : Nat} {dC : Nat → ClassId} {dI : Nat → Nat → Nat} {dA : Nat → ClassId} {z : Nat → Nat} {E A mi : Nat} {args : Array Value} {s : State}
theorem gS_K (hc : ∀ (k : Nat) (q : vw_C), zcl[k]? = some q → u_Kn s q.1 q.2.1 q.2.2 (dC k) (dI k)) (ht : ∀ (k : Nat) (ty : FieldType), zkinds[k]? = some ty → ArrOfT s (dA k) ty ∧ va_RA s (dA k) ty) : va_K (zg_D (gStart n0 dC dI dA z E A mi)) zcl (zg_ty (gStart n0 dC dI dA z E A mi)) s := by
  refine ⟨fun c q hq => ?_, fun k q hk => ?_⟩
  · have hlt : c < 20 := by
      have := (List.getElem?_eq_some_iff.mp hq).1
      exact Nat.lt_of_lt_of_le this (by decide)
    show u_Kn s q.1 q.2.1 q.2.2 (dC c) ((fun k => if k = 20 then fun _ => n0 else dI k) c)
    have e : (fun k => if k = 20 then (fun _ => n0 : Nat → Nat) else dI k) c = dI c := if_neg (by omega)
    rw [e]
    exact hc c q hq
  · match k, hk with
    | 0, hk => cases hk; exact ht 0 _ rfl
    | 1, hk => cases hk; exact ht 1 _ rfl
    | 2, hk => cases hk; exact ht 2 _ rfl
    | 3, hk => cases hk; exact ht 3 _ rfl
    | 4, hk => cases hk; exact ht 4 _ rfl
    | 5, hk => cases hk; exact ht 5 _ rfl
    | 6, hk => cases hk; exact ht 6 _ rfl
    | k + 7, hk =>
      have h := (List.getElem?_eq_some_iff.mp hk).1
      have h : k + 7 < 7 := h
      omega
theorem gS_E (hts : ∀ w ∈ lw_tbl, w.before args s = true) (hgv : (Jvm.Cond.and given_1 narrow_1).before args s = true) : zE (gStart n0 dC dI dA z E A mi) s :=
  ⟨fun a i b n d h hm => va_Nw.of rfl (hts _ hm), fun a i x h hm => va_Nw.of rfl (hts _ hm), fun C T hm => va_Nw.of rfl (hts _ hm), fun x hm => va_Nw.of rfl (hts _ hm), fun C hm => va_AO.of (hts _ hm), zB_ji hts, zB_ncOk hgv⟩
theorem gS_N (hts : ∀ w ∈ lw_tbl, w.before args s = true) (hgv : (Jvm.Cond.and given_1 narrow_1).before args s = true) (hmi : va_Mi "[Ljava/lang/Object;" mi s) (h7 : ArrOfT s (dA 7) (.object "java/lang/Integer")) (h8 : ArrOfT s (dA 8) .int) (hk : ∀ q ∈ zkC z, va_O q.1 q.2 (fun q => s.heap.size ≤ q) s s.heap) : zN (gStart s.heap.size dC dI dA z E A mi) s := by
  have hs := flat_of_before _ hgv
  have hA : ∀ a : Nat, a < s.heap.size → ¬ (fun q => s.heap.size ≤ q) a := fun a h1 h2 => Nat.not_le.mpr h1 h2
  exact ⟨vx_Zqof (hts _ (by decide +kernel)) (hts _ (by decide +kernel)) (hs _ (by decide +kernel)) hA, vx_Zqof (hts _ (by decide +kernel)) (hts _ (by decide +kernel)) (hs _ (by decide +kernel)) hA, ⟨hmi, h7, h8, rfl⟩, hk⟩
theorem gS_S (hts : ∀ w ∈ lw_tbl, w.before args s = true) (hgv : (Jvm.Cond.and given_1 narrow_1).before args s = true) (hE : stE.eval args s none [] s = some (.ref E)) (hC : stC.eval args s none [] s = some (.ref A)) (hz : ∀ q ∈ zsC z, va_Z q.1 q.2.1 q.2.2.1 q.2.2.2 (fun q => s.heap.size ≤ q) s s.heap) : ∀ q ∈ zg_s (gStart s.heap.size dC dI dA z E A mi), va_Z q.1 q.2.1 q.2.2.1 q.2.2.2 (fun q => s.heap.size ≤ q) s s.heap := by
  have hs := flat_of_before _ hgv
  have hA : ∀ a : Nat, a < s.heap.size → ¬ (fun q => s.heap.size ≤ q) a := fun a h1 h2 => Nat.not_le.mpr h1 h2
  intro q hq
  rcases List.mem_append.mp hq with hq | hq
  · exact hz q hq
  · rcases List.mem_cons.mp hq with rfl | hq
    · exact va_Zof (C := "java/util/ArrayList") (n := "DEFAULTCAPACITY_EMPTY_ELEMENTDATA") (d := "[Ljava/lang/Object;") (hts _ (by decide +kernel)) (hts _ (by decide +kernel)) hE hA
    · rcases List.mem_cons.mp hq with rfl | hq
      · exact va_Zof (C := "java/lang/Integer$IntegerCache") (n := "cache") (d := "[Ljava/lang/Integer;") (hts _ (by decide +kernel)) (hts _ (by decide +kernel)) hC hA
      · rcases List.mem_cons.mp hq with rfl | hq
        · exact va_Zof (C := "java/lang/Integer$IntegerCache") (n := "high") (d := "I") (hts _ (by decide +kernel)) (hts _ (by decide +kernel)) (va_eqi (hs (Cond.eq (.static "java/lang/Integer$IntegerCache" "high" "I") (.int 127)) (by decide +kernel))) hA
        · exact absurd hq List.not_mem_nil
/-- the constants, by their places -/
theorem gS_con {w0 : hG} (hlt : ∀ i : Nat, i < 11 → z i < n0) (hn : ∀ i : Nat, i < 11 → zcst (w0.1 (z i))) (hnd : List.Nodup [z 0, z 1, z 2, z 3, z 4, z 5, z 6, z 7, z 8, z 9, z 10]) : hCon (gStart n0 dC dI dA z E A mi) w0 z := by
  have hinj : ∀ i j : Nat, i < 11 → j < 11 → z i = z j → i = j := by
    intro i j hi hj e
    have g : ∀ k : Nat, k < 11 → [z 0, z 1, z 2, z 3, z 4, z 5, z 6, z 7, z 8, z 9, z 10][k]? = some (z k) := by
      intro k hk
      match k, hk with
      | 0, _ => rfl
      | 1, _ => rfl
      | 2, _ => rfl
      | 3, _ => rfl
      | 4, _ => rfl
      | 5, _ => rfl
      | 6, _ => rfl
      | 7, _ => rfl
      | 8, _ => rfl
      | 9, _ => rfl
      | 10, _ => rfl
    exact (List.getElem?_inj (by simpa using hi) hnd).mp ((g i hi).trans ((congrArg some e).trans (g j hj).symm))
  have key : ∀ i j : Nat, i < 11 → j < 11 → (z i == z j) = (i == j) := by
    intro i j hi hj
    by_cases e : i = j
    · rw [e]
      simp
    · have e2 : z i ≠ z j := fun q => e (hinj i j hi hj q)
      rw [beq_eq_false_iff_ne.mpr e, beq_eq_false_iff_ne.mpr e2]
  refine ⟨fun i hi => ?_, fun i hi hi2 => ?_, rfl, rfl, fun b => ?_, fun i hi => ⟨hlt i hi, hn i hi⟩, hinj⟩
  · match i, hi with
    | 0, _ => exact ⟨rfl, by simp [zv_val, gStart, zoC, List.find?, key, stL], by simp [gStart, zkC, List.find?, key]⟩
    | 1, _ => exact ⟨rfl, by simp [zv_val, gStart, zoC, List.find?, key, stL], by simp [gStart, zkC, List.find?, key]⟩
    | 2, _ => exact ⟨rfl, by simp [zv_val, gStart, zoC, List.find?, key, stL], by simp [gStart, zkC, List.find?, key]⟩
    | 3, _ => exact ⟨rfl, by simp [zv_val, gStart, zoC, List.find?, key, stL], by simp [gStart, zkC, List.find?, key]⟩
    | 4, _ => exact ⟨rfl, by simp [zv_val, gStart, zoC, List.find?, key, stL], by simp [gStart, zkC, List.find?, key]⟩
    | 5, _ => exact ⟨rfl, by simp [zv_val, gStart, zoC, List.find?, key, stL], by simp [gStart, zkC, List.find?, key]⟩
  · match i, hi, hi2 with
    | 6, _, _ => exact ⟨rfl, by simp [zv_val, gStart, zoC, List.find?, key, rlL], by simp [zv_val, gStart, zoC, List.find?, key, rlM], by simp [gStart, zkC, List.find?, key, rlCls]⟩
    | 7, _, _ => exact ⟨rfl, by simp [zv_val, gStart, zoC, List.find?, key, rlL], by simp [zv_val, gStart, zoC, List.find?, key, rlM], by simp [gStart, zkC, List.find?, key, rlCls]⟩
    | 8, _, _ => exact ⟨rfl, by simp [zv_val, gStart, zoC, List.find?, key, rlL], by simp [zv_val, gStart, zoC, List.find?, key, rlM], by simp [gStart, zkC, List.find?, key, rlCls]⟩
  · cases b with
    | true => exact ⟨by simp [zv_val, gStart, zoC, List.find?, key], by simp [gStart, zkC, List.find?, key]⟩
    | false => exact ⟨by simp [zv_val, gStart, zoC, List.find?, key], by simp [gStart, zkC, List.find?, key]⟩
end ZBG
