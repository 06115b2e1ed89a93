/-! THE INTERPRETER IS SOUND: what zx answers, the machine does -/
set_option maxRecDepth 100000
def zoQ (g : zG) (o : Option Value ⊕ String) (σ : zS) : Array Value → State → Outcome → State → Prop := match o with
  | .inl v => zQ g v σ
  | .inr _ => zQ0
def zoX (g : zG) (o : Option Value ⊕ String) (σ : zS) : String → State → State → Prop := match o with
  | .inl _ => zX0
  | .inr E => zX g E σ
def zBody (g : zG) (l : Launch) (n : Nat) : Prop := ∀ (d k pc : Nat) (lv : zp_L) (st : List Value) (σ : zS) (o : Option Value ⊕ String) (σ' : zS), zx g n d k pc lv st σ = some (o, σ') →
  ∀ (p : Program) (e : Env) (R : Room) (s : State) (m : MethodId) (args : Array Value) (below : List Frame) (meth : Method) (c : Code) (H : Heap) (locs : List Loc) (cells slots : Nat) (ls : Array Slot) (μ : zMt) (b : Nat × List zIt),
  zBL[k]? = some b → zML[k]? = some μ → zCtx g p s m args meth c μ b.1 → c.exceptionTable.toList = tableOf μ.2.2.2.2 → lv_has ls μ.2.2.1 lv →
  zw_P (zg_D g) (zg_A g) (zg_cl g) σ.1 H → H.size = σ.2.1 → zg_n g ≤ σ.2.1 → va_S (zA g) s.heap H locs → d + 6 ≤ R.frames → 64 * (d + 6) ≤ R.locals →
  ∀ mc ms : Nat, mc = cells + (σ'.2.1 - σ.2.1) → ms = slots + (σ'.2.2 - σ.2.2) → mc ≤ R.cells → ms ≤ R.slots →
  W p l e R s m args below meth c H locs cells slots (vx_MQ below (zoQ g o σ') (zoX g o σ') args s mc ms (zA g)) (F0 m pc ls st)
/-- a callee's contract out of its body's runs -/
theorem zmet_of {g : zG} {l : Launch} (hg : zWf g) {n : Nat} (hB : zBody g l n) {d k : Nat} {As : List Value} {σ σ' : zS} {o : Option Value ⊕ String} {μ : zMt} (h : zx g n d k 0 (lv_args 0 As) [] σ = some (o, σ')) (hμ : zML[k]? = some μ) (hlen : (lg_sl As).length ≤ μ.2.2.1) :
    zMet g l μ (d + 6) As σ (zoQ g o σ') (zoX g o σ') (σ'.2.1 - σ.2.1) (σ'.2.2 - σ.2.2) := by
  obtain ⟨m1, m2, m3⟩ := zML_good _ (List.mem_of_getElem? hμ)
  have hb0 : ∃ b, zBL[k]? = some b := by
    cases n with
    | zero => cases h
    | succ n =>
      unfold zx at h
      split at h
      · exact ⟨_, by assumption⟩
      · cases h
  obtain ⟨b, hb⟩ := hb0
  obtain ⟨g1, g2, g3⟩ := zBL_good k b hb μ hμ
  have body : ∀ (p : Program) (e : Env) (s : State) (m : MethodId) (args : Array Value) (below : List Frame) (meth : Method) (c : Code) (s₁ : State) (ws : List Cond) (w0 : Cond), ws = w0 :: lw_all → BodyLoose p l μ.1 (headSpec ws ({ frames := d + 6, cells := σ'.2.1 - σ.2.1, slots := σ'.2.2 - σ.2.2, locals := 64 * (d + 6) } : Room)) μ.2.1 μ.2.2.1 μ.2.2.2.1 e s m args below meth c s₁ → c.maxLocals = μ.2.2.1 → c.exceptionTable.toList = tableOf μ.2.2.2.2 → va_Pc As (fun U => zI g σ U) args s →
      W p l e ({ frames := d + 6, cells := σ'.2.1 - σ.2.1, slots := σ'.2.2 - σ.2.2, locals := 64 * (d + 6) } : Room) s m args below meth c s.heap [] 0 0 (vx_MQ below (zoQ g o σ') (zoX g o σ') args s (σ'.2.1 - σ.2.1) (σ'.2.2 - σ.2.2) (zA g)) (entryFrame m args μ.2.2.1) := by
    intro p e s m args below meth c s₁ ws w0 hws B hml htab hv
    obtain ⟨rfl, hI⟩ := hv
    have hts := atoms_spec (ws := ws) B.pre
    rw [hws] at hts
    have hts : ∀ w ∈ lw_all, w.before _ s = true := fun w h => hts w (List.mem_cons_of_mem _ h)
    rw [lg_entry_eq]
    exact hB d k 0 (lv_args 0 As) [] σ o σ' h p e _ s m _ below meth c s.heap [] 0 0 _ μ b hb hμ ⟨B.exec, B.bytes, hml, B.returns, B.notSynchronized, (name_of_methodNamed B.named B.method).1, ⟨μ.1.cls, g1, findClass_of_methodNamed B.named⟩, hts, hI.2.2.2, hg.1⟩ htab (lv_entry As hlen) hI.1 hI.2.1 hI.2.2.1 va_S.rf (Nat.le_refl _) (Nat.le_refl _) _ _ (Nat.zero_add _).symm (Nat.zero_add _).symm (Nat.le_refl _) (Nat.le_refl _)
  unfold zMet
  by_cases hh : μ.2.2.2.2 = []
  · rw [zws_nil hh]
    refine vx_ofW (cc := μ.2.1) (maxL := μ.2.2.1) (ret := μ.2.2.2.1) m1 rfl (fun p e s m args below meth c s₁ B hml htab hv => ?_)
    have htab2 : c.exceptionTable.toList = tableOf μ.2.2.2.2 := by
      rw [hh]
      cases ht : c.exceptionTable.toList with
      | nil => rfl
      | cons x r => exact (htab x (by rw [ht]; exact List.mem_cons_self)).elim
    exact body p e s m args below meth c s₁ _ _ rfl B hml htab2 hv
  · rw [zws_ne hh]
    refine vx_ofWH (cc := μ.2.1) (maxL := μ.2.2.1) (ret := μ.2.2.2.1) (hh := μ.2.2.2.2) m1 rfl (fun p e s m args below meth c s₁ B hml hv => ?_)
    have hts := atoms_spec (ws := wsW_ μ.1 μ.2.1 μ.2.2.1 μ.2.2.2.1 μ.2.2.2.2) B.pre
    exact body p e s m args below meth c s₁ _ _ rfl B hml (vx_table (x := μ.1) B (hts _ List.mem_cons_self)) hv
theorem zhas_tail {ls : Array Slot} {nL : Nat} {x : Nat × Value} {lv : zp_L} (h : lv_has ls nL (x :: lv)) : lv_has ls nL lv := ⟨h.1, h.2.1, fun q hq => h.2.2 q (List.mem_cons_of_mem _ hq)⟩
theorem zBL_45 {k : Nat} {μ : zMt} {g : zG} {n d : Nat} {lv : zp_L} {σ : zS} {r : zO} (hμ : zML[k]? = some μ) (h : zx g n d k 0 lv [] σ = some r) : μ.2.2.1 ≤ 45 := by
  cases n with
  | zero => cases h
  | succ n =>
    unfold zx at h
    split at h
    · rename_i b' μ0 hb' _
      exact (zBL_good k b' hb' μ hμ).2.2
    · cases h
section ZCC
variable {p : Program} {l : Launch} {e : Env} {R : Room} {s : State} {m : MethodId} {args : Array Value} {below : List Frame} {meth : Method} {c : Code} {H : Heap} {locs : List Loc} {cells slots : Nat} {Q : State → Prop}
variable {ls : Array Slot} {g : zG} {μ μ' : zMt} {own pc d n : Nat} {st : List Value} {σ σ1 : zS} {i : Instr} {y : Nat × List Value × List Value × Nat} {v : Option Value} {E : String}
theorem zcall_ret (hg : zWf g) (hj : ∀ q ∈ zji, q ∈ zg_f g) (ih : zBody g l n) (C : zCtx g p s m args meth c μ own) (hcall : zcall g own i st σ = some y) (hrun : zx g n d y.1 0 (lv_args 0 y.2.1) [] σ = some (.inl v, σ1)) (hck : zck y.1 false = some μ') (hlen : (lg_sl y.2.1).length ≤ μ'.2.2.1) (hcat : (y.2.2.1.map fun v => v.category).sum ≤ 8) (hd : decode μ.2.1 pc = .ok (i, y.2.2.2))
    (hP : zw_P (zg_D g) (zg_A g) (zg_cl g) σ.1 H) (hz : H.size = σ.2.1) (hn0 : zg_n g ≤ σ.2.1) (hS : va_S (zA g) s.heap H locs) (hsz : ls.size = μ.2.2.1) (hfr : d + 6 + 1 ≤ R.frames) (hlo : 64 * (d + 6 + 1) ≤ R.locals) (hc0 : cells + (σ1.2.1 - σ.2.1) ≤ R.cells) (hs0 : slots + (σ1.2.2 - σ.2.2) ≤ R.slots)
    (kk : ∀ (H1 : Heap) (locs1 : List Loc), zw_P (zg_D g) (zg_A g) (zg_cl g) σ1.1 H1 → H1.size = σ1.2.1 → va_S (zA g) s.heap H1 locs1 → W p l e R s m args below meth c H1 locs1 (cells + (σ1.2.1 - σ.2.1)) (slots + (σ1.2.2 - σ.2.2)) Q (F0 m (pc + y.2.2.2) ls (v.toList ++ y.2.2.1))) : W p l e R s m args below meth c H locs cells slots Q (F0 m pc ls st) := by
  have hM := zmet_of hg ih hrun (zck_some hck).1 hlen
  rcases zcall_ok (l := l) (e := e) (below := below) hg hj hcall ⟨C, hP, hz, hn0, hS, hsz, hcat, hfr, hlo, hc0, hs0⟩ hck (zBL_45 (zck_some hck).1 hrun) hM hd rfl with ⟨hy, hr⟩ | ⟨hy, hr⟩
  · rw [hy] at kk
    exact zc_back (a := y.2.1.toArray) hr hS kk
  · rw [hy] at kk
    exact zc_backF (a := y.2.1.toArray) hr hS kk
theorem zcall_thr (hg : zWf g) (hj : ∀ q ∈ zji, q ∈ zg_f g) (ih : zBody g l n) (C : zCtx g p s m args meth c μ own) (hcall : zcall g own i st σ = some y) (hrun : zx g n d y.1 0 (lv_args 0 y.2.1) [] σ = some (.inr E, σ1)) (hck : zck y.1 false = some μ') (hlen : (lg_sl y.2.1).length ≤ μ'.2.2.1) (hcat : (y.2.2.1.map fun v => v.category).sum ≤ 8) (hd : decode μ.2.1 pc = .ok (i, y.2.2.2)) (hy3 : y.2.2.2 = 3)
    (hP : zw_P (zg_D g) (zg_A g) (zg_cl g) σ.1 H) (hz : H.size = σ.2.1) (hn0 : zg_n g ≤ σ.2.1) (hS : va_S (zA g) s.heap H locs) (hsz : ls.size = μ.2.2.1) (hfr : d + 6 + 1 ≤ R.frames) (hlo : 64 * (d + 6 + 1) ≤ R.locals) (hc0 : cells + (σ1.2.1 - σ.2.1) ≤ R.cells) (hs0 : slots + (σ1.2.2 - σ.2.2) ≤ R.slots)
    (kx : ∀ (q : Nat) (ce : Cell) (H1 : Heap) (locs1 : List Loc), zw_P (zg_D g) (zg_A g) (zg_cl g) σ1.1 H1 → H1.size = σ1.2.1 → va_S (zA g) s.heap H1 locs1 → H1[q]? = some ce → ce.vm = .none → s.vm.findClass E = some ce.cls → vx_W p l e R s m args below meth c H1 locs1 (cells + (σ1.2.1 - σ.2.1)) (slots + (σ1.2.2 - σ.2.2)) Q (F0 m pc ls y.2.2.1) q) : W p l e R s m args below meth c H locs cells slots Q (F0 m pc ls st) := by
  have hM := zmet_of hg ih hrun (zck_some hck).1 hlen
  rcases zcall_ok (l := l) (e := e) (below := below) hg hj hcall ⟨C, hP, hz, hn0, hS, hsz, hcat, hfr, hlo, hc0, hs0⟩ hck (zBL_45 (zck_some hck).1 hrun) hM hd rfl with ⟨hy, hr⟩ | ⟨hy, hr⟩
  · exact zc_thrown (a := y.2.1.toArray) hr hS kx
  · omega
end ZCC
/-- a body's runs are sound -/
def zGood (g : zG) (l : Launch) (b : Nat × List zIt) (μ : zMt) (d : Nat) (G : Nat → zp_L → List Value → zS → Option zO) : Prop := ∀ (pc : Nat) (lv : zp_L) (st : List Value) (σ : zS) (o : Option Value ⊕ String) (σ' : zS), G pc lv st σ = some (o, σ') →
  ∀ (p : Program) (e : Env) (R : Room) (s : State) (m : MethodId) (args : Array Value) (below : List Frame) (meth : Method) (c : Code) (H : Heap) (locs : List Loc) (cells slots : Nat) (ls : Array Slot),
  zCtx g p s m args meth c μ b.1 → c.exceptionTable.toList = tableOf μ.2.2.2.2 → lv_has ls μ.2.2.1 lv →
  zw_P (zg_D g) (zg_A g) (zg_cl g) σ.1 H → H.size = σ.2.1 → zg_n g ≤ σ.2.1 → va_S (zA g) s.heap H locs → d + 6 ≤ R.frames → 64 * (d + 6) ≤ R.locals →
  ∀ mc ms : Nat, mc = cells + (σ'.2.1 - σ.2.1) → ms = slots + (σ'.2.2 - σ.2.2) → mc ≤ R.cells → ms ≤ R.slots →
  W p l e R s m args below meth c H locs cells slots (vx_MQ below (zoQ g o σ') (zoX g o σ') args s mc ms (zA g)) (F0 m pc ls st)
set_option maxHeartbeats 4000000 in
theorem zxs_sound {g : zG} {l : Launch} (hg : zWf g) (hnc : ∀ r ∈ znc, r ∈ zg_c g) (hj : ∀ q ∈ zji, q ∈ zg_f g) (hl : l.stackTraces = false) (hlk : zlack l) {n : Nat} (ih : zBody g l n) {b : Nat × List zIt} {μ : zMt} (g2 : zI_good μ.2.1 b.2) {d : Nat} {G : Nat → zp_L → List Value → zS → Option zO}
    (hGm : ∀ (pc : Nat) (lv : zp_L) (st : List Value) (σ : zS) (o : Option Value ⊕ String) (σ' : zS), G pc lv st σ = some (o, σ') → zle σ σ') (hG : zGood g l b μ d G) : zGood g l b μ d (fun pc lv st σ => zxs g (fun d k pc lv st σ => zx g n d k pc lv st σ) b μ G d pc lv st σ) := by
  intro pc lv st σ o σ' h p e R s m args below meth c H locs cells slots ls C htab hls hP hz hn0 hS hfr hlo mc ms hmc hms hrc hrs
  have hmono := zxs_mono (fun d k pc lv st σ o σ' h => zx_mono g n d k pc lv st σ o σ' h) hGm h
  simp only [zxs] at h
  split at h
  · cases h
  · rename_i x hx
    have hd : decode μ.2.1 pc = .ok (x.1, x.2) := zat_ok g2 hx
    have hx0 := C.1
    have hb0 := C.2.1
    have hml := C.2.2.1
    split at h
    · cases h
    · -- on to a state
      rename_i f hs
      have hm2 := hGm _ _ _ _ _ _ h
      rcases zstep_keep hs with ⟨f0, e1, e2⟩ | h2 | ⟨v, e1, -⟩ | ⟨y, e1, -⟩
      · cases e1
        refine zp_ok hx0 hb0 e2 hd hls (fun ls' hls' => ?_)
        exact hG _ _ _ _ _ _ h p e R s m args below meth c H locs cells slots ls' C htab hls' hP hz hn0 hS hfr hlo mc ms hmc hms hrc hrs
      · have hk : zkeep lv σ f := by
          rcases zheap_keep h2 with ⟨f1, e1, e2⟩ | ⟨y, e1⟩
          · cases e1; exact e2
          · cases e1
        obtain ⟨k1, k2, k3⟩ := hk
        refine zheap_ok C hg hl hlk g2 h2 hP hz hn0 hS hls.1 (by omega) (by omega) hd (fun f1 hf1 => ?_) (fun y hy => by cases hy) (fun f1 hf1 H1 locs1 q1 q2 q3 => ?_) (fun y hy => by cases hy)
        · cases hf1
          have := hm2.1
          have := hm2.2
          exact ⟨by omega, by omega⟩
        · cases hf1
          have := hm2.1
          have := hm2.2
          exact hG _ _ _ _ _ _ h p e R s m args below meth c H1 locs1 _ _ ls C htab (by rw [k1]; exact hls) q1 q2 (by omega) q3 hfr hlo mc ms (by omega) (by omega) hrc hrs
      · cases e1
      · cases e1
    · -- it returns
      rename_i v σ1 hs
      obtain ⟨rfl, rfl⟩ := Prod.mk.inj (Option.some.inj h)
      rcases zstep_keep hs with ⟨f0, e1, -⟩ | h2 | ⟨v0, e1, hret⟩ | ⟨y, e1, -⟩
      · cases e1
      · rcases zheap_keep h2 with ⟨f0, e1, -⟩ | ⟨y, e1⟩
        · cases e1
        · cases e1
      · cases e1
        rw [Nat.sub_self, Nat.add_zero] at hmc hms
        subst hmc
        subst hms
        exact zr_ret_ok C hret hP hz hn0 hS hd
      · cases e1
    · -- it throws
      rename_i y σ1 hs
      rcases zstep_keep hs with ⟨f0, e1, -⟩ | h2 | ⟨v0, e1, -⟩ | ⟨y0, e1, -⟩
      · cases e1
      · rcases zheap_keep h2 with ⟨f0, e1, -⟩ | ⟨y0, e1⟩
        · cases e1
        · cases e1
          split at h
          · rename_i hhd
            obtain ⟨rfl, rfl⟩ := Prod.mk.inj (Option.some.inj h)
            have e3 : σ.2.1 + 1 - σ.2.1 = 1 := by omega
            have e4 : σ.2.2 + 6 - σ.2.2 = 6 := by omega
            simp only [e3, e4] at hmc hms
            subst hmc
            subst hms
            refine zheap_ok C hg hl hlk g2 h2 hP hz hn0 hS hls.1 (by omega) (by omega) hd (fun f1 hf1 => by cases hf1) (fun y hy => ⟨hrc, hrs⟩) (fun f1 hf1 => by cases hf1) (fun y1 hy1 q ce H1 locs1 rest q1 q2 q3 q4 q5 q6 => ?_)
            cases hy1
            exact zhd_leave (σ := (σ.1, σ.2.1 + 1, σ.2.2 + 6)) C hnc htab hhd q4 q5 q6 q1 q2 (Nat.le_succ_of_le hn0) q3
          · cases h
      · cases e1
      · cases e1
    · -- a call
      rename_i y hs
      rcases zstep_keep hs with ⟨f0, e1, -⟩ | h2 | ⟨v0, e1, -⟩ | ⟨y0, e1, hcall⟩
      · cases e1
      · rcases zheap_keep h2 with ⟨f0, e1, -⟩ | ⟨y0, e1⟩
        · cases e1
        · cases e1
      · cases e1
      · cases e1
        cases d with
        | zero => cases h
        | succ d' =>
          simp only at h
          split at h
          · cases h
          · rename_i μ' hck
            split at h
            · rename_i hc
              obtain ⟨hxl, hc6, hlen⟩ := hc
              have hcat : (List.map (fun v => v.category) y.2.2.1).sum ≤ 8 := of_decide_eq_true hc6
              rw [hxl] at hd
              split at h
              · cases h
              · -- the callee returns
                rename_i v σ1 hrun
                obtain ⟨i1, i2⟩ := zx_mono g n _ _ _ _ _ _ _ _ hrun
                obtain ⟨i3, i4⟩ := hGm _ _ _ _ _ _ h
                refine zcall_ret hg hj ih C hcall hrun hck hlen hcat hd hP hz hn0 hS hls.1 (by omega) (by omega) (by omega) (by omega) (fun H1 locs1 q1 q2 q3 => ?_)
                exact hG _ _ _ _ _ _ h p e R s m args below meth c H1 locs1 _ _ ls C htab hls q1 q2 (Nat.le_trans hn0 i1) q3 hfr hlo mc ms (by omega) (by omega) hrc hrs
              · -- the callee throws
                rename_i E σ1 hrun
                obtain ⟨i1, i2⟩ := zx_mono g n _ _ _ _ _ _ _ _ hrun
                split at h
                · rename_i hy3
                  split at h
                  · cases h
                  · rename_i hhd
                    obtain ⟨rfl, rfl⟩ := Prod.mk.inj (Option.some.inj h)
                    subst hmc
                    subst hms
                    refine zcall_thr hg hj ih C hcall hrun hck hlen hcat hd hy3 hP hz hn0 hS hls.1 (by omega) (by omega) hrc hrs (fun q ce H1 locs1 q1 q2 q3 q4 q5 q6 => ?_)
                    exact zhd_leave C hnc htab hhd q4 q5 q6 q1 q2 (Nat.le_trans hn0 i1) q3
                  · rename_i h9 hhd
                    split at h
                    · rename_i z hz9
                      obtain ⟨i3, i4⟩ := hGm _ _ _ _ _ _ h
                      refine zcall_thr hg hj ih C hcall hrun hck hlen hcat hd hy3 hP hz hn0 hS hls.1 (by omega) (by omega) (by omega) (by omega) (fun q ce H1 locs1 q1 q2 q3 q4 q5 q6 => ?_)
                      refine zhd_catch C hnc htab hhd q4 q5 q6 ?_
                      unfold zland at hz9
                      split at hz9
                      · rename_i j hj9
                        split at hz9
                        · rename_i hjl
                          obtain rfl := Option.some.inj hz9
                          refine lv_astore hx0 hb0 (zat_ok g2 hj9) hls hjl rfl (fun ls' hls' => ?_)
                          exact hG _ _ _ _ _ _ h p e R s m args below meth c H1 locs1 _ _ ls' C htab (zhas_tail hls') q1 q2 (Nat.le_trans hn0 i1) q3 hfr hlo mc ms (by omega) (by omega) hrc hrs
                        · cases hz9
                      · rename_i j hj9
                        split at hz9
                        · rename_i hjl
                          obtain rfl := Option.some.inj hz9
                          refine lv_astore_n hx0 hb0 (zat_ok g2 hj9) rfl hls hjl rfl (fun ls' hls' => ?_)
                          exact hG _ _ _ _ _ _ h p e R s m args below meth c H1 locs1 _ _ ls' C htab (zhas_tail hls') q1 q2 (Nat.le_trans hn0 i1) q3 hfr hlo mc ms (by omega) (by omega) hrc hrs
                        · cases hz9
                      · cases hz9
                    · cases h
                · cases h
            · cases h
theorem zx_sound {g : zG} {l : Launch} (hg : zWf g) (hnc : ∀ r ∈ znc, r ∈ zg_c g) (hj : ∀ q ∈ zji, q ∈ zg_f g) (hl : l.stackTraces = false) (hlk : zlack l) : ∀ n : Nat, zBody g l n := by
  intro n
  induction n with
  | zero => intro d k pc lv st σ o σ' h; cases h
  | succ n ih =>
    intro d k pc lv st σ o σ' h p e R s m args below meth c H locs cells slots ls μ b hb hμ C
    obtain ⟨g1, g2, g3⟩ := zBL_good k b hb μ hμ
    unfold zx at h
    rw [hb, hμ] at h
    exact zxs_sound hg hnc hj hl hlk ih g2 (fun pc lv st σ o σ' h => zx_mono g n d k pc lv st σ o σ' h) (fun pc lv st σ o σ' h p e R s m args below meth c H locs cells slots ls C => ih d k pc lv st σ o σ' h p e R s m args below meth c H locs cells slots ls μ b hb hμ C) pc lv st σ o σ' h p e R s m args below meth c H locs cells slots ls C
theorem zxT_sound {g : zG} {l : Launch} (hg : zWf g) (hnc : ∀ r ∈ znc, r ∈ zg_c g) (hj : ∀ q ∈ zji, q ∈ zg_f g) (hl : l.stackTraces = false) (hlk : zlack l) {b : Nat × List zIt} {μ : zMt} (g2 : zI_good μ.2.1 b.2) : ∀ n d : Nat, zGood g l b μ d (fun pc lv st σ => zxT g b μ n d pc lv st σ) := by
  intro n
  induction n with
  | zero => intro d pc lv st σ o σ' h; cases h
  | succ n ih =>
    intro d pc lv st σ o σ' h
    exact zxs_sound hg hnc hj hl hlk (zx_sound hg hnc hj hl hlk n) g2 (fun pc lv st σ o σ' h => zxT_mono g b μ n d pc lv st σ o σ' h) (ih d) pc lv st σ o σ' h
