/-! THE SIMULATION: what a delivery plans to take -/
set_option maxRecDepth 100000
/-- free pieces of a lot, none if it is held -/
def dav (X : hS) (l : Nat) : Int := if tHeld (fh X) (fch X) 100 l = false then av X l else 0
def dSt (X : hS) (s : List (Int × Int) × Int) (l : Nat) : List (Int × Int) × Int := if 0 < imin s.2 (dav X l) then (s.1 ++ [((l : Int), imin s.2 (dav X l))], s.2 - imin s.2 (dav X l)) else s
/-- the lots in the order in which they are asked -/
def dCand (X : hS) (o p : Nat) : List Nat := (if sT X 8 13 o < 0 then [] else [(sT X 8 13 o).toNat]) ++ (List.range p).filter (fun l => decide (sT X 6 1 l = sT X 8 1 o ∧ (l : Int) ≠ sT X 8 13 o))
def dPl (X : hS) (L : List Nat) (n : Int) : List (Int × Int) × Int := L.foldl (dSt X) ([], n)
def tlD (S : hS) (m : Nat) : List (Int × Int) := (sE S 27 m).map (fun t => (sT S 7 0 t.toNat, sT S 7 1 t.toNat))
/-- a new list of delivered pieces grows, nothing else changes -/
def plG (S T : hS) : Prop := (∀ c : Nat, c ≠ 7 ∧ c ≠ 27 → sn T c = sn S c) ∧ sn T 27 = sn S 27 + 1 ∧ sn S 7 ≤ sn T 7 ∧ (∀ c i : Nat, c ≠ 7 → ¬ (c = 27 ∧ i = sn S 27) → sE T c i = sE S c i) ∧ (∀ c j i : Nat, c ≠ 7 ∧ c ≠ 27 → sT T c j i = sT S c j i) ∧ (∀ j i : Nat, i < sn S 7 → sT T 7 j i = sT S 7 j i) ∧
  (∀ t ∈ sE T 27 (sn S 27), 0 ≤ t ∧ sn S 7 ≤ t.toNat ∧ t.toNat < sn T 7) ∧ (sE T 27 (sn S 27)).Nodup ∧ ∀ i : Nat, sn S 7 ≤ i → i < sn T 7 → (0 ≤ sT T 7 0 i ∧ sT T 7 0 i < sn S 6) ∧ (1 ≤ sT T 7 1 i ∧ sT T 7 1 i ≤ 500) ∧ sT T 7 2 i = 0
section ZCB1
variable {z : Nat → Nat} {k o m l p : Nat} {S T : hS} {t n : Int}
theorem fTakeD_new2 : sT (fTakeD S m l t) 7 2 (sn S 7) = 0 := by
  unfold fTakeD kFTaken
  rw [sT_ssE, sT_set, if_neg (by omega), sT_set, if_neg (by omega), sT_w, if_pos ⟨rfl, rfl⟩]
  rfl
theorem plG_0 : plG S (snw S 27 []) := by
  refine ⟨fun c hc => by rw [sn_w, if_neg hc.2], by rw [sn_w, if_pos rfl], by rw [sn_w, if_neg (by decide)]; exact Nat.le_refl _, fun c i hc hi => by rw [sE_w, if_neg hi], fun c j i hc => by rw [sT_w, if_neg (fun e => hc.2 e.1)], fun j i hi => by rw [sT_w, if_neg (by omega)], ?_, ?_, fun i h1 h2 => ?_⟩
  · rw [sE_w, if_pos ⟨rfl, rfl⟩]; exact fun t ht => absurd ht List.not_mem_nil
  · rw [sE_w, if_pos ⟨rfl, rfl⟩]; exact List.nodup_nil
  · rw [sn_w, if_neg (by decide)] at h2; omega
theorem plG_take (h : plG S T) (hl : l < sn S 6) (ht : 1 ≤ t ∧ t ≤ 500) : plG S (fTakeD T (sn S 27) l t) ∧ tlD (fTakeD T (sn S 27) l t) (sn S 27) = tlD T (sn S 27) ++ [((l : Int), t)] := by
  obtain ⟨a1, a2, a3, a4, a5, a6, a7, a8, a9⟩ := h
  have e27 : sE (fTakeD T (sn S 27) l t) 27 (sn S 27) = sE T 27 (sn S 27) ++ [(sn T 7 : Int)] := by rw [fTakeD_sE, if_pos ⟨rfl, rfl⟩]
  refine ⟨⟨fun c hc => by rw [fTakeD_sn, if_neg hc.1]; exact a1 c hc, by rw [fTakeD_sn, if_neg (by decide)]; exact a2, by rw [fTakeD_sn, if_pos rfl]; omega, fun c i hc hi => by rw [fTakeD_sE, if_neg hi, if_neg (fun e => hc e.1)]; exact a4 c i hc hi, fun c j i hc => by rw [fTakeD_sT hc.1]; exact a5 c j i hc, fun j i hi => by rw [fTakeD_sT7 (by omega)]; exact a6 j i hi, fun x hx => ?_, ?_, fun i h1 h2 => ?_⟩, ?_⟩
  · rw [e27] at hx
    rw [fTakeD_sn, if_pos rfl]
    rcases List.mem_append.mp hx with h | h
    · have := a7 x h; omega
    · rw [List.mem_singleton] at h
      subst h
      rw [Int.toNat_natCast]; omega
  · rw [e27, List.nodup_append]
    refine ⟨a8, List.nodup_cons.mpr ⟨List.not_mem_nil, List.nodup_nil⟩, fun x hx y hy e => ?_⟩
    rw [List.mem_singleton] at hy
    have := a7 x hx
    omega
  · rw [fTakeD_sn, if_pos rfl] at h2
    by_cases e : i = sn T 7
    · rw [e, fTakeD_new0, fTakeD_new1, fTakeD_new2]
      exact ⟨⟨by omega, by omega⟩, ht, rfl⟩
    · rw [fTakeD_sT7 (by omega), fTakeD_sT7 (by omega), fTakeD_sT7 (by omega)]
      exact a9 i h1 (by omega)
  · unfold tlD
    rw [e27, List.map_append, List.map_cons, List.map_nil, Int.toNat_natCast, fTakeD_new0, fTakeD_new1]
    congr 1
    exact List.map_congr_left (fun x hx => by
      have := a7 x hx
      rw [fTakeD_sT7 (by omega), fTakeD_sT7 (by omega)])
theorem plG.held (h : plG S T) (hI : iAll z k S) (hl : l < sn S 6) : tHeld (fh T) (fch T) 100 l = tHeld (fh S) (fch S) 100 l := by
  obtain ⟨a1, a2, a3, a4, a5, a6, -⟩ := h
  refine tHeld_cg (N := sn S 6) (fun i hi => by unfold fh; rw [a5 6 7 i (by decide)]) (fun i hi => ?_) hI.no.chlt 100 l hl
  have h3 := (hI.lo i hi).2.2.2.1
  refine fch_congr (a5 6 3 i (by decide)) (a4 26 _ (by decide) (by omega)) (fun t ht => a6 0 t.toNat ?_)
  have := hI.tk.1 (sT S 6 3 i).toNat (by omega) t ht
  omega
theorem plG.plan (h : plG S T) (hI : iAll z k S) (hl : l < sn S 6) (hn : 0 ≤ n) : fPlanT T l n = imin n (dav S l) := by
  unfold fPlanT dav av
  rw [h.held hI hl, h.2.2.2.2.1 6 4 l (by decide), h.2.2.2.2.1 6 5 l (by decide)]
  split
  · rfl
  · unfold imin
    rw [if_neg (by omega)]
theorem dav_range (hI : iAll z k S) (hl : l < sn S 6) : 0 ≤ dav S l ∧ dav S l ≤ 500 := by
  have h := hI.Av l hl
  unfold dav av
  split <;> constructor <;> omega
/-- one lot is asked -/
theorem planStep (h : plG S T) (hI : iAll z k S) (hl : l < sn S 6) (hn : 0 ≤ n) {es : List (Int × Int)} {c1 c2 : Nat} (he : tlD T (sn S 27) = es) :
    plG S (fPlanStep (sn S 27) (T, n, c1, c2) l).1 ∧ tlD (fPlanStep (sn S 27) (T, n, c1, c2) l).1 (sn S 27) = (dSt S (es, n) l).1 ∧ (fPlanStep (sn S 27) (T, n, c1, c2) l).2.1 = (dSt S (es, n) l).2 ∧ 0 ≤ (dSt S (es, n) l).2 := by
  have hd := dav_range hI hl
  have hp := h.plan hI hl hn
  have hi : imin n (dav S l) ≤ n ∧ imin n (dav S l) ≤ 500 ∧ 0 ≤ imin n (dav S l) := by
    unfold imin
    split <;> omega
  unfold fPlanStep fPlanS dSt
  dsimp only
  rw [hp]
  by_cases h0 : 0 < imin n (dav S l)
  · rw [if_pos h0, if_pos h0]
    obtain ⟨q1, q2⟩ := plG_take (t := imin n (dav S l)) h hl ⟨by omega, by omega⟩
    exact ⟨q1, by rw [q2, he], rfl, by show 0 ≤ n - _; omega⟩
  · rw [if_neg h0, if_neg h0]
    exact ⟨h, he, by show n - _ = n; omega, hn⟩
theorem dlG (hI : iAll z k S) (ho : o < sn S 8) : ∀ p : Nat, p ≤ sn S 6 → plG S (fDlN S o p).1 ∧ tlD (fDlN S o p).1 (sn S 27) = (dPl S (dCand S o p) (sT S 8 2 o)).1 ∧ (fDlN S o p).2.1 = (dPl S (dCand S o p) (sT S 8 2 o)).2 ∧ 0 ≤ (dPl S (dCand S o p) (sT S 8 2 o)).2 := by
  have h2 := (hI.or o ho).2.2.1
  have h13 := (hI.or o ho).2.2.2.2.2.2.2.2.2.2.1
  intro p
  induction p with
  | zero =>
    intro _
    have e0 : tlD (snw S 27 []) (sn S 27) = [] := by
      unfold tlD
      rw [sE_w, if_pos ⟨rfl, rfl⟩]; rfl
    have ef : fDlN S o 0 = fDl0 S o := rfl
    rw [ef]
    unfold fDl0 dPl dCand
    by_cases h : sT S 8 13 o < 0
    · rw [if_pos h, if_pos h]
      exact ⟨plG_0, e0, rfl, by show 0 ≤ sT S 8 2 o; omega⟩
    · rw [if_neg h, if_neg h]
      exact planStep plG_0 hI (by omega) (by omega) e0
  | succ p ih =>
    intro hp
    obtain ⟨g1, g2, g3, g4⟩ := ih (by omega)
    have ec : dCand S o (p + 1) = dCand S o p ++ (if sT S 6 1 p = sT S 8 1 o ∧ (p : Int) ≠ sT S 8 13 o then [p] else []) := by
      unfold dCand
      rw [List.range_succ, List.filter_append, List.append_assoc, List.filter_cons, List.filter_nil]
      by_cases h : sT S 6 1 p = sT S 8 1 o ∧ (p : Int) ≠ sT S 8 13 o
      · rw [if_pos h, if_pos (decide_eq_true h)]
      · rw [if_neg h, decide_eq_false h]; rfl
    have ed : dPl S (dCand S o (p + 1)) (sT S 8 2 o) = if sT S 6 1 p = sT S 8 1 o ∧ (p : Int) ≠ sT S 8 13 o then dSt S (dPl S (dCand S o p) (sT S 8 2 o)) p else dPl S (dCand S o p) (sT S 8 2 o) := by
      rw [ec]
      unfold dPl
      rw [List.foldl_append]
      split <;> rfl
    rw [fDlN_succ, ed]
    unfold fDlStep
    generalize fDlN S o p = F at *
    obtain ⟨T, n, c1, c2⟩ := F
    generalize dPl S (dCand S o p) (sT S 8 2 o) = G at *
    obtain ⟨es, n'⟩ := G
    have g1 : plG S T := g1
    have g2 : tlD T (sn S 27) = es := g2
    have g3 : n = n' := g3
    subst g3
    have e1 : sT T 6 1 p = sT S 6 1 p := g1.2.2.2.2.1 6 1 p (by decide)
    have e2 : sT T 8 1 o = sT S 8 1 o := g1.2.2.2.2.1 8 1 o (by decide)
    have e3 : sT T 8 13 o = sT S 8 13 o := g1.2.2.2.2.1 8 13 o (by decide)
    show plG S (if sT T 6 1 p = sT T 8 1 o ∧ (p : Int) ≠ sT T 8 13 o then fPlanStep (sn S 27) (T, n, c1, c2) p else (T, n, c1, c2)).1 ∧ tlD (if sT T 6 1 p = sT T 8 1 o ∧ (p : Int) ≠ sT T 8 13 o then fPlanStep (sn S 27) (T, n, c1, c2) p else (T, n, c1, c2)).1 (sn S 27) = _ ∧ (if sT T 6 1 p = sT T 8 1 o ∧ (p : Int) ≠ sT T 8 13 o then fPlanStep (sn S 27) (T, n, c1, c2) p else (T, n, c1, c2)).2.1 = _ ∧ _
    rw [e1, e2, e3]
    by_cases h : sT S 6 1 p = sT S 8 1 o ∧ (p : Int) ≠ sT S 8 13 o
    · simp only [if_pos h]
      exact planStep g1 hI (by omega) g4 g2
    · simp only [if_neg h]
      exact ⟨g1, g2, trivial, g4⟩
/-- the entries: lots of the part, each once, each but the last to its end -/
def esOk (S : hS) (o : Nat) (n : Int) (es : List (Int × Int)) (left : Int) : Prop := (∀ e ∈ es, ∃ l : Nat, l < sn S 6 ∧ e.1 = l ∧ sT S 6 1 l = sT S 8 1 o ∧ 1 ≤ e.2 ∧ e.2 ≤ dav S l) ∧ (es.map Prod.fst).Nodup ∧ (es.map Prod.snd).sum + left = n ∧ (∀ e ∈ es.dropLast, e.2 = dav S e.1.toNat) ∧ (0 < left → ∀ e ∈ es, e.2 = dav S e.1.toNat)
theorem dPl_ok' (hI : iAll z k S) (L0 : List Nat) : ∀ (L : List Nat) (es : List (Int × Int)) (left : Int), 0 ≤ left → L.Nodup → (∀ l ∈ L, l < sn S 6 ∧ sT S 6 1 l = sT S 8 1 o ∧ l ∈ L0) → (∀ e ∈ es, e.1.toNat ∉ L ∧ e.1.toNat ∈ L0) → esOk S o n es left →
    esOk S o n (L.foldl (dSt S) (es, left)).1 (L.foldl (dSt S) (es, left)).2 ∧ 0 ≤ (L.foldl (dSt S) (es, left)).2 ∧ ∀ e ∈ (L.foldl (dSt S) (es, left)).1, e.1.toNat ∈ L0 := by
  intro L
  induction L with
  | nil =>
    intro es left h0 _ _ h2 h3
    exact ⟨h3, h0, fun e he => (h2 e he).2⟩
  | cons x L ih =>
    intro es left g6 hnd hL h2 ⟨g1, g2, g3, g4, g5⟩
    rw [List.nodup_cons] at hnd
    have hx := hL x List.mem_cons_self
    have hd := dav_range hI hx.1
    rw [List.foldl_cons]
    have hi : imin left (dav S x) ≤ left ∧ imin left (dav S x) ≤ dav S x ∧ (imin left (dav S x) < left → imin left (dav S x) = dav S x) := by
      unfold imin
      split <;> refine ⟨?_, ?_, ?_⟩ <;> omega
    have hL' : ∀ l ∈ L, l < sn S 6 ∧ sT S 6 1 l = sT S 8 1 o ∧ l ∈ L0 := fun l hl => hL l (List.mem_cons_of_mem _ hl)
    have hold : ∀ e ∈ es, e.1.toNat ∉ L ∧ e.1.toNat ∈ L0 := fun e he => ⟨fun w => (h2 e he).1 (List.mem_cons_of_mem _ w), (h2 e he).2⟩
    by_cases h0 : 0 < imin left (dav S x)
    · have ed : dSt S (es, left) x = (es ++ [((x : Int), imin left (dav S x))], left - imin left (dav S x)) := if_pos h0
      rw [ed]
      have hall : ∀ e ∈ es, e.2 = dav S e.1.toNat := g5 (by omega)
      refine ih _ _ (by omega) hnd.2 hL' (fun e he => ?_) ⟨fun e he => ?_, ?_, ?_, fun e he => ?_, fun hl e he => ?_⟩
      · rcases List.mem_append.mp he with h | h
        · exact hold e h
        · rw [List.mem_singleton] at h
          subst h
          rw [show (((x : Nat) : Int), imin left (dav S x)).1.toNat = x from Int.toNat_natCast _]
          exact ⟨hnd.1, hx.2.2⟩
      · rcases List.mem_append.mp he with h | h
        · exact g1 e h
        · rw [List.mem_singleton] at h
          subst h
          exact ⟨x, hx.1, rfl, hx.2.1, by show 1 ≤ imin _ _; omega, hi.2.1⟩
      · rw [List.map_append, List.map_cons, List.map_nil, List.nodup_append]
        refine ⟨g2, List.nodup_cons.mpr ⟨List.not_mem_nil, List.nodup_nil⟩, fun a ha b hb e => ?_⟩
        rw [List.mem_singleton] at hb
        obtain ⟨q, hq, rfl⟩ := List.mem_map.mp ha
        have h7 := (h2 q hq).1
        have : q.1.toNat = x := by
          have : q.1 = (x : Int) := by rw [e, hb]
          omega
        rw [this] at h7
        exact h7 List.mem_cons_self
      · rw [List.map_append, List.sum_append, List.map_cons, List.map_nil, List.sum_cons, List.sum_nil]
        show (es.map Prod.snd).sum + (imin left (dav S x) + 0) + _ = n
        omega
      · rw [List.dropLast_concat] at he
        exact hall e he
      · rcases List.mem_append.mp he with h | h
        · exact hall e h
        · rw [List.mem_singleton] at h
          subst h
          show imin left (dav S x) = dav S ((x : Nat) : Int).toNat
          rw [Int.toNat_natCast]
          exact hi.2.2 (by omega)
    · have ed : dSt S (es, left) x = (es, left) := if_neg h0
      rw [ed]
      exact ih _ _ g6 hnd.2 hL' hold ⟨g1, g2, g3, g4, g5⟩
theorem dPl_ok (hI : iAll z k S) (L : List Nat) (hn : 0 ≤ n) (hnd : L.Nodup) (hL : ∀ l ∈ L, l < sn S 6 ∧ sT S 6 1 l = sT S 8 1 o) : esOk S o n (dPl S L n).1 (dPl S L n).2 ∧ 0 ≤ (dPl S L n).2 ∧ ∀ e ∈ (dPl S L n).1, e.1.toNat ∈ L :=
  dPl_ok' hI L L [] n hn hnd (fun l hl => ⟨(hL l hl).1, (hL l hl).2, hl⟩) (fun e he => absurd he List.not_mem_nil) ⟨fun e he => absurd he List.not_mem_nil, List.nodup_nil, by show 0 + n = n; omega, fun e he => absurd he List.not_mem_nil, fun _ e he => absurd he List.not_mem_nil⟩
theorem dCand_ok (hI : iAll z k S) (ho : o < sn S 8) : (dCand S o (sn S 6)).Nodup ∧ ∀ l ∈ dCand S o (sn S 6), l < sn S 6 ∧ sT S 6 1 l = sT S 8 1 o := by
  have O := hI.or o ho
  have h13 := O.2.2.2.2.2.2.2.2.2.2.1
  have hp := O.2.2.2.2.2.2.2.2.2.2.2.2.2.2.2.2
  have hf : ∀ l ∈ (List.range (sn S 6)).filter (fun l => decide (sT S 6 1 l = sT S 8 1 o ∧ (l : Int) ≠ sT S 8 13 o)), l < sn S 6 ∧ sT S 6 1 l = sT S 8 1 o ∧ (l : Int) ≠ sT S 8 13 o := fun l hl => by
    obtain ⟨h1, h2⟩ := List.mem_filter.mp hl
    have h2 := of_decide_eq_true h2
    exact ⟨List.mem_range.mp h1, h2.1, h2.2⟩
  have hn : ((List.range (sn S 6)).filter (fun l => decide (sT S 6 1 l = sT S 8 1 o ∧ (l : Int) ≠ sT S 8 13 o))).Nodup := List.nodup_range.filter _
  unfold dCand
  by_cases h : sT S 8 13 o < 0
  · rw [if_pos h, List.nil_append]
    exact ⟨hn, fun l hl => ⟨(hf l hl).1, (hf l hl).2.1⟩⟩
  · rw [if_neg h]
    refine ⟨List.nodup_append.mpr ⟨List.nodup_cons.mpr ⟨List.not_mem_nil, List.nodup_nil⟩, hn, fun a ha b hb e => ?_⟩, fun l hl => ?_⟩
    · rw [List.mem_singleton] at ha
      have := (hf b hb).2.2
      omega
    · rcases List.mem_append.mp hl with h' | h'
      · rw [List.mem_singleton] at h'
        subst h'
        exact ⟨by omega, hp (by omega)⟩
      · exact ⟨(hf l h').1, (hf l h').2.1⟩
end ZCB1
