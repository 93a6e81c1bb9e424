/-! SOUNDNESS 4: calls, throws, ends; the run -/
set_option maxRecDepth 100000
def am_ws (mi : am_Mi) : List Cond := match mi.2.2.2 with
  | [] => ws_ mi.1.1 mi.1.2 mi.2.1.2 mi.2.2.1
  | h :: t => wsW_ mi.1.1 mi.1.2 mi.2.1.2 mi.2.2.1 (h :: t)
def am_rm (d mc ms : Nat) : Room := { frames := d, cells := mc, slots := ms, locals := 128 * d }
def am_Pc (D : va_G) (dA : Nat → ClassId) (b0 : Nat) (Γ : Nat → Value) (hl : am_H) (as : List Value) (σ : am_S) : Array Value → State → Prop := fun v U => v = as.toArray ∧ am_I D dA b0 Γ hl U U.heap ∧ am_Rp D dA b0 hl σ U.heap
def am_Qc (D : va_G) (dA : Nat → ClassId) (b0 : Nat) (hl : am_H) (r : am_Rs) (σ' : am_S) : Array Value → State → Outcome → State → Prop := fun _ st o t => ∃ v, r = .inl v ∧ o = .returned v ∧ am_Rp D dA b0 hl σ' t.heap ∧ va_F (am_A b0) st t
def am_XC (D : va_G) (dA : Nat → ClassId) (b0 : Nat) (hl : am_H) (r : am_Rs) (σ' : am_S) : String → Addr → State → State → Prop := fun E q st t => ∃ ci, r = .inr (ci, q) ∧ E = am_nm ci ∧ am_Rp D dA b0 hl σ' t.heap ∧ va_F (am_A b0) st t
def am_Met (l : Launch) (D : va_G) (dA : Nat → ClassId) (b0 : Nat) (Γ : Nat → Value) (hl : am_H) (d : Nat) (mi : am_Mi) (as : List Value) (σ : am_S) (r : am_Rs) (σ' : am_S) : Prop :=
  vx_Met l mi.1.1 (am_ws mi) (am_rm d (σ'.2.1 - σ.2.1) (σ'.2.2 - σ.2.2)) (am_Pc D dA b0 Γ hl as σ) (am_Qc D dA b0 hl r σ') (am_XC D dA b0 hl r σ') (σ'.2.1 - σ.2.1) (σ'.2.2 - σ.2.2) (am_A b0)
def am_good (l : Launch) (D : va_G) (dA : Nat → ClassId) (b0 : Nat) (Γ : Nat → Value) (hl : am_H) (call : Nat → List Value → am_S → Option am_O) (d : Nat) : Prop :=
  ∀ M as σ r σ', call M as σ = some (r, σ') → σ.2.1 ≤ σ'.2.1 ∧ σ.2.2 ≤ σ'.2.2 ∧ ∃ mi d', am_mt M = some mi ∧ d = d' + 1 ∧ am_Met l D dA b0 Γ hl d' mi as σ r σ'
theorem am_blind (D : va_G) (dA : Nat → ClassId) (b0 : Nat) (Γ : Nat → Value) (hl : am_H) (as : List Value) (σ : am_S) : FrameBlind (am_Pc D dA b0 Γ hl as σ) := by
  intro a U g mk ⟨h1, h2, h3⟩
  exact ⟨h1, am_I.warm (s := U) (U := U.calling g mk a) (State.WarmedH.refl U) h2, h3⟩
theorem am_ret0 {M : Nat} {mi : am_Mi} (h : am_mt M = some mi) (hn : mi.1.1.name = "<init>") : mi.2.2.1 = none := by
  have key : ∀ l ∈ am_mtL, ∀ mi ∈ l, mi.1.1.name = "<init>" → mi.2.2.1 = none := by decide +kernel
  have h1 : mi ∈ am_mtL.getD (M / 32) [] := List.mem_of_getElem? h
  rw [List.getD_eq_getElem?_getD] at h1
  cases h2 : am_mtL[M / 32]? with
  | none => rw [h2] at h1; exact absurd h1 List.not_mem_nil
  | some l => rw [h2] at h1; exact key l (List.mem_of_getElem? h2) mi h1 hn
section AMC
variable {p : Program} {l : Launch} {e : Env} {R : Room} {s : State} {m : MethodId} {args : Array Value} {below : List Frame} {meth : Method} {c : Code} {H : Heap} {locs : List Loc} {cells slots : Nat} {Q : State → Prop}
variable {pc : Nat} {ls : Array Slot} {D : va_G} {dA : Nat → ClassId} {b0 d : Nat} {Γ : Nat → Value} {hl : am_H} {σ : am_S} {L : am_L} {S rest : List Value} {o : Nat}
theorem am_pre (hI : am_I D dA b0 Γ hl s s.heap) (hS : am_Sd D dA b0 hl s σ H locs) (as : List Value) : PreS s H (am_Pc D dA b0 Γ hl as σ) as := by
  refine ⟨am_blind _ _ _ _ _ _ _, fun U hU hW => ⟨rfl, ?_, by rw [hU]; exact hS.1⟩⟩
  rw [hU]
  exact (hI.kept hS.2.1 hS.2.2.1).warm hW
theorem am_preV (hI : am_I D dA b0 Γ hl s s.heap) (hts : ∀ w ∈ lw_all, w.before args s = true) (hS : am_Sd D dA b0 hl s σ H locs) {b ci : Nat} (hck : am_ck σ.1 b = some ci) (as : List Value) : PreV s H (am_nm ci) b (am_Pc D dA b0 Γ hl (.ref b :: as) σ) as := by
  have hIH : am_I D dA b0 Γ hl s H := hI.kept hS.2.1 hS.2.2.1
  obtain ⟨h1, h2⟩ := am_pre hI hS (.ref b :: as)
  refine ⟨h1, ?_, h2⟩
  unfold am_ck at hck
  split at hck
  · rename_i ci' fs hf
    cases hck
    exact (hS.1.rd hIH hts hf).1
  · cases hck
theorem am_words {mi : am_Mi} (hm : am_mOk mi) (h0 : mi.2.2.2 = []) : am_ws mi = ws_ mi.1.1 mi.1.2 mi.2.1.2 mi.2.2.1 ∧ Cond.code mi.1.1 mi.1.2 mi.2.1.2 mi.2.2.1 ∈ lw_all := by
  refine ⟨by unfold am_ws; rw [h0], ?_⟩
  rcases hm.2.2.2.2 with h | h
  · exact h.2
  · exact absurd h0 h.1
theorem am_wordsW {mi : am_Mi} (hm : am_mOk mi) (h0 : mi.2.2.2 ≠ []) : am_ws mi = wsW_ mi.1.1 mi.1.2 mi.2.1.2 mi.2.2.1 mi.2.2.2 ∧ Cond.codeWith mi.1.1 mi.1.2 mi.2.1.2 mi.2.2.1 mi.2.2.2 ∈ lw_all := by
  refine ⟨?_, ?_⟩
  · unfold am_ws
    cases h : mi.2.2.2 with
    | nil => exact absurd h h0
    | cons a t => rfl
  · rcases hm.2.2.2.2 with h | h
    · exact absurd h.1 h0
    · exact h.2
/-- what every call pays -/
theorem am_pay (hts : ∀ w ∈ lw_all, w.before args s = true) {mi : am_Mi} (hm : am_mOk mi) (h0 : mi.2.2.2 = []) {d' mc ms : Nat} (hfr : d' + 1 ≤ R.frames) (hlo : 128 * (d' + 1) ≤ R.locals) :
    (am_rm d' mc ms).cells = mc ∧ (am_rm d' mc ms).slots = ms ∧ (am_rm d' mc ms).frames + 1 ≤ R.frames ∧ 8 + (mi.2.1.2 + 11) + (am_rm d' mc ms).locals ≤ R.locals ∧ (∀ w ∈ am_ws mi, ∀ (a' : Array Value) (U : State), s.WarmedH U.vm → w.before a' U = true) ∧ Cond.code mi.1.1 mi.1.2 mi.2.1.2 mi.2.2.1 ∈ am_ws mi := by
  obtain ⟨h1, h2⟩ := am_words hm h0
  refine ⟨rfl, rfl, hfr, ?_, ?_, by rw [h1]; exact List.mem_cons_self⟩
  · show 8 + (mi.2.1.2 + 11) + 128 * d' ≤ R.locals
    have := hm.2.2.2.1
    omega
  · rw [h1]
    exact pay_in hts (lw_meth h2)
theorem am_payW (hts : ∀ w ∈ lw_all, w.before args s = true) {mi : am_Mi} (hm : am_mOk mi) (h0 : mi.2.2.2 ≠ []) {d' mc ms : Nat} (hfr : d' + 1 ≤ R.frames) (hlo : 128 * (d' + 1) ≤ R.locals) :
    (am_rm d' mc ms).cells = mc ∧ (am_rm d' mc ms).slots = ms ∧ (am_rm d' mc ms).frames + 1 ≤ R.frames ∧ 8 + (mi.2.1.2 + 11) + (am_rm d' mc ms).locals ≤ R.locals ∧ (∀ w ∈ am_ws mi, ∀ (a' : Array Value) (U : State), s.WarmedH U.vm → w.before a' U = true) ∧ Cond.codeWith mi.1.1 mi.1.2 mi.2.1.2 mi.2.2.1 mi.2.2.2 ∈ am_ws mi := by
  obtain ⟨h1, h2⟩ := am_wordsW hm h0
  refine ⟨rfl, rfl, hfr, ?_, ?_, by rw [h1]; exact List.mem_cons_self⟩
  · show 8 + (mi.2.1.2 + 11) + 128 * d' ≤ R.locals
    have := hm.2.2.2.1
    omega
  · rw [h1]
    exact pay_in hts (lw_methW h2)
theorem am_np {y : MethodName} {n : Nat} (h : (parseMethodDescriptor y.desc).map (fun d => d.parameters.length) = some n) : ∀ sig, parseMethodDescriptor y.desc = some sig → n = sig.parameters.length := by
  intro sig hs
  rw [hs] at h
  exact (Option.some.inj h).symm
theorem am_run3_W {mc ms : Nat} {a : Array Value} {r : am_Rs} {σ' : am_S} (hr : vx_Run p l e R s m args below meth c H locs cells slots mc ms (F0 m pc ls S) rest (am_Qc D dA b0 hl r σ' a) (am_XC D dA b0 hl r σ') (am_A b0)) (hS : am_Sd D dA b0 hl s σ H locs)
    (kx : ∀ ci q ce H' locs', r = .inr (ci, q) → am_Sd D dA b0 hl s σ' H' locs' → H'[q]? = some ce → ce.vm = .none → s.vm.findClass (am_nm ci) = some ce.cls → vx_W p l e R s m args below meth c H' locs' (cells + mc) (slots + ms) Q (F0 m pc ls rest) q)
    (kk : ∀ v H' locs', r = .inl v → am_Sd D dA b0 hl s σ' H' locs' → W p l e R s m args below meth c H' locs' (cells + mc) (slots + ms) Q (F0 m (pc + 3) ls (v.toList ++ rest))) : W p l e R s m args below meth c H locs cells slots Q (F0 m pc ls S) := by
  intro T hT X
  rcases hr T hT X with ⟨v, st₀, t, T', Lc, h0, X', hL, e1, e2, ⟨v', hv1, hv2, hrp, hF⟩, st⟩ | ⟨q, st₀, t, T', Lc, E, ce, h0, X', hL, e1, e2, ⟨ci, hv1, hE, hrp, hF⟩, hce, hcv, hcl, st⟩
  · cases hv2
    obtain ⟨k1, k2, k3⟩ := vx_keep h0 e1 hS.2 (A1 := am_A b0) (fun q _ h => h) (fun q h => h) hL hF
    obtain ⟨t2, a1, b1⟩ := kk v T'.heap (locs ++ Lc) hv1 ⟨by rw [e1]; exact hrp, k3⟩ T' rfl X'
    exact ⟨t2, st t2 a1, b1⟩
  · obtain ⟨k1, k2, k3⟩ := vx_keep h0 e1 hS.2 (A1 := am_A b0) (fun q _ h => h) (fun q h => h) hL hF
    subst hE
    obtain ⟨t2, a1, b1⟩ := kx ci q ce T'.heap (locs ++ Lc) hv1 ⟨by rw [e1]; exact hrp, k3⟩ (by rw [e1]; exact hce) hcv hcl T' rfl X'
    exact ⟨t2, st.trans a1, b1⟩
theorem am_run5_W {mc ms : Nat} {a : Array Value} {r : am_Rs} {σ' : am_S} (hr : vx_Run5 p l e R s m args below meth c H locs cells slots mc ms (F0 m pc ls S) rest (am_Qc D dA b0 hl r σ' a) (am_XC D dA b0 hl r σ') (am_A b0)) (hS : am_Sd D dA b0 hl s σ H locs)
    (kx : ∀ ci q ce H' locs', r = .inr (ci, q) → am_Sd D dA b0 hl s σ' H' locs' → H'[q]? = some ce → ce.vm = .none → s.vm.findClass (am_nm ci) = some ce.cls → vx_W p l e R s m args below meth c H' locs' (cells + mc) (slots + ms) Q (F0 m pc ls rest) q)
    (kk : ∀ v H' locs', r = .inl v → am_Sd D dA b0 hl s σ' H' locs' → W p l e R s m args below meth c H' locs' (cells + mc) (slots + ms) Q (F0 m (pc + 5) ls (v.toList ++ rest))) : W p l e R s m args below meth c H locs cells slots Q (F0 m pc ls S) := by
  intro T hT X
  rcases hr T hT X with ⟨v, st₀, t, T', Lc, h0, X', hL, e1, e2, ⟨v', hv1, hv2, hrp, hF⟩, st⟩ | ⟨q, st₀, t, T', Lc, E, ce, h0, X', hL, e1, e2, ⟨ci, hv1, hE, hrp, hF⟩, hce, hcv, hcl, st⟩
  · cases hv2
    obtain ⟨k1, k2, k3⟩ := vx_keep h0 e1 hS.2 (A1 := am_A b0) (fun q _ h => h) (fun q h => h) hL hF
    obtain ⟨t2, a1, b1⟩ := kk v T'.heap (locs ++ Lc) hv1 ⟨by rw [e1]; exact hrp, k3⟩ T' rfl X'
    exact ⟨t2, st t2 a1, b1⟩
  · obtain ⟨k1, k2, k3⟩ := vx_keep h0 e1 hS.2 (A1 := am_A b0) (fun q _ h => h) (fun q h => h) hL hF
    subst hE
    obtain ⟨t2, a1, b1⟩ := kx ci q ce T'.heap (locs ++ Lc) hv1 ⟨by rw [e1]; exact hrp, k3⟩ (by rw [e1]; exact hce) hcv hcl T' rfl X'
    exact ⟨t2, st.trans a1, b1⟩
theorem am_ie_ok {o idx k ci : Nat} {x : Nat × Nat} (h : am_ie o idx k ci = some x) : am_iOk o (idx, k, ci, x.1, x.2) := by
  unfold am_ie at h
  obtain ⟨y, h1, h2⟩ := Option.map_eq_some_iff.mp h
  obtain ⟨g1, g2⟩ := am_find_ok h1
  simp only [Bool.and_eq_true, beq_iff_eq] at g2
  have := am_ti_ok o y g1
  obtain ⟨y1, y2, y3, y4⟩ := y
  dsimp only at g2 h2
  obtain ⟨rfl, rfl, rfl⟩ := g2
  subst h2
  exact this
/-- the call by a static link -/
theorem am_stat_run (hexec : p.tables.exec = Jvm.exec) {mi0 : am_Mi} (hb : c.code = mi0.1.2) (hml : c.maxLocals = mi0.2.1.2) (hsz : ls.size = mi0.2.1.2) (hts : ∀ w ∈ lw_all, w.before args s = true) (hown : s.vm.findClass (am_nm o) = some m.cls) (hI : am_I D dA b0 Γ hl s s.heap) (hS : am_Sd D dA b0 hl s σ H locs)
    {idx k M na d' : Nat} (hk : k = 0 ∨ k = 6) (hd : decode mi0.1.2 pc = .ok (.invokestatic idx, 3)) (he : am_iOk o (idx, k, 99, M, na)) {mi : am_Mi} (hM : am_mt M = some mi) {as : List Value} (hna : as.length = na) (hw : am_wd rest ≤ 8) {r : am_Rs} {σ' : am_S} (hmet : am_Met l D dA b0 Γ hl d' mi as σ r σ') (hfr : d' + 1 ≤ R.frames) (hlo : 128 * (d' + 1) ≤ R.locals)
    (hf : cells + (σ'.2.1 - σ.2.1) ≤ R.cells ∧ slots + (σ'.2.2 - σ.2.2) ≤ R.slots) :
    vx_Run p l e R s m args below meth c H locs cells slots (σ'.2.1 - σ.2.1) (σ'.2.2 - σ.2.2) (F0 m pc ls (as.reverse ++ rest)) rest (am_Qc D dA b0 hl r σ' as.toArray) (am_XC D dA b0 hl r σ') (am_A b0) := by
  have hm := am_mt_ok hM
  obtain ⟨mi', w1, w2, w3, w4⟩ := he
  dsimp only at w1 w2 w4
  cases w1.symm.trans hM
  have hW : 2 * (F0 m pc ls (as.reverse ++ rest)).monitorRoom + (rest.map fun v => v.category).sum ≤ 8 := lv_room hw
  rcases w4 with ⟨-, q1, q2⟩ | ⟨q, -⟩ | ⟨q, -⟩ | ⟨q, -⟩ | ⟨q, -⟩ | ⟨q, -⟩ | ⟨-, h0, ⟨host, q1⟩, q2⟩ | ⟨q, -⟩
  · by_cases h0 : mi.2.2.2 = []
    · exact vx_runS (own := am_nm o) (n := na) ⟨hexec, hb, hml, hown, hts⟩ hmet ⟨by
        obtain ⟨a1, a2, a3, a4, a5, a6⟩ := am_pay (mc := σ'.2.1 - σ.2.1) (ms := σ'.2.2 - σ.2.2) hts hm h0 hfr hlo
        exact ⟨a1, a2, a3, a4, a5, a6, hts _ (am_words hm h0).2, hts _ w3, hm.2.2.1, am_np w2, hts _ q1⟩, hts _ q2⟩ (am_pre hI hS as) rfl hna hsz rfl hW hd hf
    · exact vx_runSX (own := am_nm o) (n := na) (hh := mi.2.2.2) ⟨hexec, hb, hml, hown, hts⟩ hmet (by
        exact ⟨am_payW (mc := σ'.2.1 - σ.2.1) (ms := σ'.2.2 - σ.2.2) hts hm h0 hfr hlo, hts _ (am_wordsW hm h0).2, hts _ w3, hm.2.2.1, am_np w2, hts _ q1, hts _ q2⟩) (am_pre hI hS as) rfl hna hsz rfl hW hd hf
  · omega
  · omega
  · omega
  · omega
  · omega
  · exact vx_runSN (own := am_nm o) (host := host) (n := na) ⟨hexec, hb, hml, hown, hts⟩ hmet ⟨⟨am_pay (mc := σ'.2.1 - σ.2.1) (ms := σ'.2.2 - σ.2.2) hts hm h0 hfr hlo, hts _ (am_words hm h0).2, hts _ w3, hm.2.2.1, am_np w2, va_Nw.use rfl (hI.2.2.2.2.2.1.2.1 _ q1)⟩, hts _ q2, trivial⟩ (am_pre hI hS as) rfl hna hsz rfl hW hd hf
  · omega
theorem am_virt_run (hexec : p.tables.exec = Jvm.exec) {mi0 : am_Mi} (hb : c.code = mi0.1.2) (hml : c.maxLocals = mi0.2.1.2) (hsz : ls.size = mi0.2.1.2) (hts : ∀ w ∈ lw_all, w.before args s = true) (hown : s.vm.findClass (am_nm o) = some m.cls) (hI : am_I D dA b0 Γ hl s s.heap) (hS : am_Sd D dA b0 hl s σ H locs)
    {idx k ci M na d' b : Nat} (hk : k = 1 ∨ k = 4) (hd : decode mi0.1.2 pc = .ok (.invokevirtual idx, 3)) (he : am_iOk o (idx, k, ci, M, na)) (hck : am_ck σ.1 b = some ci) {mi : am_Mi} (hM : am_mt M = some mi) {as : List Value} (hna : as.length = na) (hw : am_wd rest ≤ 8) {r : am_Rs} {σ' : am_S} (hmet : am_Met l D dA b0 Γ hl d' mi (.ref b :: as) σ r σ') (hfr : d' + 1 ≤ R.frames) (hlo : 128 * (d' + 1) ≤ R.locals)
    (hf : cells + (σ'.2.1 - σ.2.1) ≤ R.cells ∧ slots + (σ'.2.2 - σ.2.2) ≤ R.slots) :
    vx_Run p l e R s m args below meth c H locs cells slots (σ'.2.1 - σ.2.1) (σ'.2.2 - σ.2.2) (F0 m pc ls (as.reverse ++ .ref b :: rest)) rest (am_Qc D dA b0 hl r σ' (Value.ref b :: as).toArray) (am_XC D dA b0 hl r σ') (am_A b0) := by
  have hm := am_mt_ok hM
  obtain ⟨mi', w1, w2, w3, w4⟩ := he
  dsimp only at w1 w2 w4
  cases w1.symm.trans hM
  have hW : 2 * (F0 m pc ls (as.reverse ++ .ref b :: rest)).monitorRoom + (rest.map fun v => v.category).sum ≤ 8 := lv_room hw
  rcases w4 with ⟨q, -⟩ | ⟨-, q1, q2, q3, q4⟩ | ⟨q, -⟩ | ⟨q, -⟩ | ⟨-, h0, q1, q2, q3, q4⟩ | ⟨q, -⟩ | ⟨q, -⟩ | ⟨q, -⟩
  · omega
  · by_cases h0 : mi.2.2.2 = []
    · exact vx_runV (own := am_nm o) (C := am_nm ci) (n := na) ⟨hexec, hb, hml, hown, hts⟩ hmet ⟨by
        obtain ⟨a1, a2, a3, a4, a5, a6⟩ := am_pay (mc := σ'.2.1 - σ.2.1) (ms := σ'.2.2 - σ.2.2) hts hm h0 hfr hlo
        exact ⟨a1, a2, a3, a4, a5, a6, hts _ (am_words hm h0).2, hts _ w3, hm.2.2.1, am_np w2, hts _ q1⟩, hts _ q2, hts _ q3⟩ (am_preV hI hts hS hck as) rfl hna hsz rfl hW hd hf
    · exact vx_runVX (own := am_nm o) (C := am_nm ci) (n := na) (hh := mi.2.2.2) ⟨hexec, hb, hml, hown, hts⟩ hmet ⟨am_payW (mc := σ'.2.1 - σ.2.1) (ms := σ'.2.2 - σ.2.2) hts hm h0 hfr hlo, hts _ (am_wordsW hm h0).2, hts _ w3, hm.2.2.1, am_np w2, hts _ q1, hts _ q2, hts _ q3⟩ (am_preV hI hts hS hck as) rfl hna hsz rfl hW hd hf
  · omega
  · omega
  · refine vx_runU (own := am_nm o) (C := am_nm ci) (owner := mi.1.1.cls) (x := mi.1.1) (n := na) ⟨hexec, hb, hml, hown, hts⟩ hmet ⟨am_pay (mc := σ'.2.1 - σ.2.1) (ms := σ'.2.2 - σ.2.2) hts hm h0 hfr hlo, hts _ (am_words hm h0).2, hts _ w3, hm.2.2.1, am_np w2, hts _ q1, hts _ q2, va_Decl.of (hts _ q4) (hts _ (am_words hm h0).2), ?_, hts _ q4⟩ (am_preV hI hts hS hck as) rfl hna hsz rfl hW hd hf
    rcases q3 with q3 | ⟨rfl, q5⟩
    · exact hts _ q3
    · obtain ⟨b1, b2, b3⟩ := hI.2.2.2.2.2.2.1
      rcases q5 with q5 | q5 | q5 <;> rw [q5]
      · exact va_Nw.use rfl b1
      · exact va_Nw.use rfl b2
      · exact va_Nw.use rfl b3
  · omega
  · omega
  · omega
theorem am_face_run (hexec : p.tables.exec = Jvm.exec) {mi0 : am_Mi} (hb : c.code = mi0.1.2) (hml : c.maxLocals = mi0.2.1.2) (hsz : ls.size = mi0.2.1.2) (hts : ∀ w ∈ lw_all, w.before args s = true) (hown : s.vm.findClass (am_nm o) = some m.cls) (hI : am_I D dA b0 Γ hl s s.heap) (hS : am_Sd D dA b0 hl s σ H locs)
    {idx cnt ci M na d' b : Nat} (hc16 : ci < 16) (hd : decode mi0.1.2 pc = .ok (.invokeinterface idx cnt, 5)) (he : am_iOk o (idx, 3, ci, M, na)) (hck : am_ck σ.1 b = some ci) {mi : am_Mi} (hM : am_mt M = some mi) {as : List Value} (hna : as.length = na) (hw : am_wd rest ≤ 8) {r : am_Rs} {σ' : am_S} (hmet : am_Met l D dA b0 Γ hl d' mi (.ref b :: as) σ r σ') (hfr : d' + 1 ≤ R.frames) (hlo : 128 * (d' + 1) ≤ R.locals)
    (hf : cells + (σ'.2.1 - σ.2.1) ≤ R.cells ∧ slots + (σ'.2.2 - σ.2.2) ≤ R.slots) :
    vx_Run5 p l e R s m args below meth c H locs cells slots (σ'.2.1 - σ.2.1) (σ'.2.2 - σ.2.2) (F0 m pc ls (as.reverse ++ .ref b :: rest)) rest (am_Qc D dA b0 hl r σ' (Value.ref b :: as).toArray) (am_XC D dA b0 hl r σ') (am_A b0) := by
  have hm := am_mt_ok hM
  obtain ⟨mi', w1, w2, w3, w4⟩ := he
  dsimp only at w1 w2 w4
  cases w1.symm.trans hM
  have hW : 2 * (F0 m pc ls (as.reverse ++ .ref b :: rest)).monitorRoom + (rest.map fun v => v.category).sum ≤ 8 := lv_room hw
  rcases w4 with ⟨q, -⟩ | ⟨q, -⟩ | ⟨q, -⟩ | ⟨-, h0, x, q1, q2, q3, q4, q5⟩ | ⟨q, -⟩ | ⟨q, -⟩ | ⟨q, -⟩ | ⟨q, -⟩
  · omega
  · omega
  · omega
  · obtain ⟨r0, hr0⟩ : ∃ r0, am_cl[ci]? = some r0 := ⟨_, List.getElem?_eq_getElem hc16⟩
    have hKn := (hI.1.1 ci r0 hr0).2
    rw [(am_cl_ok ci r0 hr0).2.2.2.1] at hKn
    have hF := hI.2.2.2.2.2.1.2.2.2.2.1 _ q4
    obtain ⟨f1, f2, f3, f4, f5⟩ := hF
    rw [← q5] at w2
    exact vx_runF (own := am_nm o) (C := am_nm ci) (x := x) (n := na) hKn ⟨hexec, hb, hml, hown, hts⟩ hmet ⟨am_pay (mc := σ'.2.1 - σ.2.1) (ms := σ'.2.2 - σ.2.2) hts hm h0 hfr hlo, hts _ q1, va_any rfl f1, va_any rfl f2, hts _ q2, hts _ q3, va_any rfl f3, va_any rfl f4, va_any rfl f5, hts _ w3, hts _ (am_words hm h0).2, (am_fw_ok _ q4).2.2.2.2.2, am_np w2⟩ (am_preV hI hts hS hck as) rfl hna hsz rfl hW hd hf
  · omega
  · omega
  · omega
  · omega
theorem am_spec_run (hexec : p.tables.exec = Jvm.exec) {mi0 : am_Mi} (hb : c.code = mi0.1.2) (hml : c.maxLocals = mi0.2.1.2) (hsz : ls.size = mi0.2.1.2) (hts : ∀ w ∈ lw_all, w.before args s = true) (hown : s.vm.findClass (am_nm o) = some m.cls) (hI : am_I D dA b0 Γ hl s s.heap) (hS : am_Sd D dA b0 hl s σ H locs)
    {idx k cj ci M na d' b : Nat} (hk : k = 2 ∨ k = 5 ∨ k = 7) (hc16 : ci < 16) (hd : decode mi0.1.2 pc = .ok (.invokespecial idx, 3)) (he : am_iOk o (idx, k, cj, M, na)) (hck : am_ck σ.1 b = some ci) {mi : am_Mi} (hM : am_mt M = some mi) {as : List Value} (hna : as.length = na) (hw : am_wd rest ≤ 8) {r : am_Rs} {σ' : am_S} (hmet : am_Met l D dA b0 Γ hl d' mi (.ref b :: as) σ r σ') (hfr : d' + 1 ≤ R.frames) (hlo : 128 * (d' + 1) ≤ R.locals)
    (hf : cells + (σ'.2.1 - σ.2.1) ≤ R.cells ∧ slots + (σ'.2.2 - σ.2.2) ≤ R.slots) :
    vx_Run p l e R s m args below meth c H locs cells slots (σ'.2.1 - σ.2.1) (σ'.2.2 - σ.2.2) (F0 m pc ls (as.reverse ++ .ref b :: rest)) rest (am_Qc D dA b0 hl r σ' (Value.ref b :: as).toArray) (am_XC D dA b0 hl r σ') (am_A b0) := by
  have hm := am_mt_ok hM
  obtain ⟨mi', w1, w2, w3, w4⟩ := he
  dsimp only at w1 w2 w4
  cases w1.symm.trans hM
  have hW : 2 * (F0 m pc ls (as.reverse ++ .ref b :: rest)).monitorRoom + (rest.map fun v => v.category).sum ≤ 8 := lv_room hw
  rcases w4 with ⟨q, -⟩ | ⟨q, -⟩ | ⟨qk, h0, q1, q2, q3⟩ | ⟨q, -⟩ | ⟨q, -⟩ | ⟨-, h0, q1, q2, q3, q4, q5⟩ | ⟨q, -⟩ | ⟨qk, h0, ⟨host, q1⟩, q2, q3⟩
  · omega
  · omega
  · have hrn := am_ret0 hM q3
    obtain ⟨a1, a2, a3, a4, a5, a6⟩ := am_pay (mc := σ'.2.1 - σ.2.1) (ms := σ'.2.2 - σ.2.2) hts hm h0 hfr hlo
    have hcw := hts _ (am_words hm h0).2
    rw [hrn] at a6 hcw
    exact vx_runI (own := am_nm o) (n := na) ⟨hexec, hb, hml, hown, hts⟩ hmet ⟨⟨a1, a2, a3, a4, a5, a6, hcw, hts _ w3, hm.2.2.1, am_np w2, hts _ q1⟩, q3, hts _ q2⟩ (am_pre hI hS (.ref b :: as)) rfl hna hsz rfl hW hd hf
  · omega
  · omega
  · obtain ⟨r0, hr0⟩ : ∃ r0, am_cl[ci]? = some r0 := ⟨_, List.getElem?_eq_getElem hc16⟩
    have hKn := (hI.1.1 ci r0 hr0).2
    rw [(am_cl_ok ci r0 hr0).2.2.2.1] at hKn
    exact vx_runSU (own := am_nm o) (C := am_nm ci) (n := na) hKn ⟨hexec, hb, hml, hown, hts⟩ hmet ⟨am_pay (mc := σ'.2.1 - σ.2.1) (ms := σ'.2.2 - σ.2.2) hts hm h0 hfr hlo, hts _ q1, hts _ q2, hts _ q3, hts _ q4, hts _ w3, hts _ (am_words hm h0).2, q5, am_np w2⟩ (am_preV hI hts hS hck as) rfl hna hsz rfl hW hd hf
  · omega
  · have hrn := am_ret0 hM q3
    obtain ⟨a1, a2, a3, a4, a5, a6⟩ := am_pay (mc := σ'.2.1 - σ.2.1) (ms := σ'.2.2 - σ.2.2) hts hm h0 hfr hlo
    have hcw := hts _ (am_words hm h0).2
    rw [hrn] at a6 hcw
    exact vx_runIN (own := am_nm o) (host := host) (n := na) ⟨hexec, hb, hml, hown, hts⟩ hmet ⟨⟨⟨a1, a2, a3, a4, a5, a6⟩, hcw, hts _ w3, hm.2.2.1, am_np w2, va_Nw.use rfl (hI.2.2.2.2.2.1.2.1 _ q1)⟩, q3, hts _ q2⟩ (am_pre hI hS (.ref b :: as)) rfl hna hsz rfl hW hd hf
end AMC
