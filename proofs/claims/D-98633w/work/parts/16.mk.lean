/-! SOUNDNESS 6: an exception made; Math, Object's constructor, getClass -/
set_option maxRecDepth 100000
section AMK
variable {p : Program} {l : Launch} {e : Env} {R : Room} {s : State} {m : MethodId} {args : Array Value} {below : List Frame} {meth : Method} {c : Code} {H : Heap} {locs : List Loc} {cells slots : Nat} {Q : State → Prop}
variable {ls : Array Slot} {rest : List Value}
theorem am_make0 {cc : ByteArray} {pc : Nat} (hexec : p.tables.exec = Jvm.exec) (hb : c.code = cc) (hl : l.stackTraces = false) {own cls : String} {names : List String} {ik ic : Nat} {A : Nat → Prop}
    (hown : s.vm.findClass own = some m.cls) (hcls : Bundle.fit cls = true) (hnames : ∀ n ∈ names, Bundle.fit n = true)
    (hk : (Cond.classLink own ik cls).before args s = true) (hini : (Cond.initialized cls).before args s = true) (hat : ∀ w ∈ vx_at0 own ic cls names, w.before args s = true)
    (hgood : ∀ w ∈ Cond.classLink own ik cls :: Cond.initialized cls :: vx_at0 own ic cls names, vx_ot w = true)
    (hU : vx_Zq Bundle.tN "UNASSIGNED_STACK" Bundle.steD A s s.heap) (hN : vx_Zq Bundle.tN "SUPPRESSED_SENTINEL" Bundle.listD A s s.heap) (hS : va_S A s.heap H locs) (hsize : ls.size = c.maxLocals)
    (d0 : decode cc pc = .ok (.new ik, 3)) (d3 : decode cc (pc + 3) = .ok (.dup, 1)) (d4 : decode cc (pc + 4) = .ok (.invokespecial ic, 3))
    (hRframes : names.length + 3 < R.frames) (hRlocals : (rest.map fun v => v.category).sum + (13 * (names.length + 1) + 42) ≤ R.locals) (hRcells : cells + 1 ≤ R.cells) (hRslots : slots + 6 ≤ R.slots)
    (kk : ∀ (ce : Cell) (H1 : Heap), H1[H.size]? = some ce → ce.vm = .none → s.vm.findClass cls = some ce.cls → H1.size = H.size + 1 → (∀ q, q < H.size → H1[q]? = H[q]?) → W p l e R s m args below meth c H1 locs (cells + 1) (slots + 6) Q (F0 m (pc + 7) ls (.ref H.size :: rest))) :
    W p l e R s m args below meth c H locs cells slots Q (F0 m pc ls rest) := by
  intro T hT X
  subst hT
  have htr : e.platform.stackTraces = false := (show e.platform.stackTraces = l.stackTraces by rw [X.admits.platform]).trans hl
  have Y := vx_rebase X (R' := { frames := R.frames, locals := R.locals, cells := 1, slots := 6 }) (Nat.le_refl _) (Nat.le_refl _) hRcells hRslots
  obtain ⟨s', hA'⟩ : ∃ z, z = (T.setVm s.vm).setFrames (.invoking m args :: below) := ⟨_, rfl⟩
  rw [← hA'] at Y
  have hvm : s'.vm = s.vm := by rw [hA']; rfl
  have hhp : s'.heap = T.heap := by rw [hA']; rfl
  have hW0 : s.WarmedH s'.vm := by rw [hvm]; exact State.WarmedH.refl s
  have hat' : ∀ w ∈ vx_at0 own ic cls names, w.before args s' = true := fun w hw => vx_ot_at hW0 hvm.symm (hgood w (List.mem_cons_of_mem _ (List.mem_cons_of_mem _ hw))) (hat w hw)
  have hk' : (Cond.classLink own ik cls).before args s' = true := vx_ot_at hW0 hvm.symm (hgood _ List.mem_cons_self) hk
  have hini' : (Cond.initialized cls).before args s' = true := vx_ot_at hW0 hvm.symm (hgood _ (List.mem_cons_of_mem _ List.mem_cons_self)) hini
  have hU' : vx_Zq Bundle.tN "UNASSIGNED_STACK" Bundle.steD A s' s'.heap := by rw [hhp]; exact vx_Zq.moved hW0.alike (hU.kept hS.2.1)
  have hN' : vx_Zq Bundle.tN "SUPPRESSED_SENTINEL" Bundle.listD A s' s'.heap := by rw [hhp]; exact vx_Zq.moved hW0.alike (hN.kept hS.2.1)
  have h : ∀ w ∈ Bundle.ownAtoms0 own ic cls names, w.before args s' = true := vx_own hat' (vx_isRefq hU'.1) (vx_isRefq hN'.1) hU'.2.word hN'.2.word
  have hown' : s'.vm.findClass own = some m.cls := by rw [hvm]; exact hown
  have hins : (Cond.instantiable cls 6).before args s' = true := h _ (by simp [Bundle.ownAtoms0])
  obtain ⟨vm₁, cX, kX, hfX, hkX, -, -, X₁, st1⟩ := Y.newCold hexec (own := own) (C := cls) (index := ik) (n := 6) hown' hk' hins hini'
    (g := F0 m pc ls rest) rfl (by rw [hb]; exact d0) (Nat.le_refl _) (Nat.le_refl _)
  generalize hT1 : (T.setVm vm₁).pushCell { cls := cX, slots := kX.instanceTypes.map defaultValue, vm := .none } = T1 at X₁ st1
  have hcat : (Value.ref T.heap.size).category = 1 := rfl
  have hcellA : T1.heap[T.heap.size]? = some (freshCell cX kX) := by rw [← hT1]; exact State.heap_pushCell_size _ _
  have d3' : decode c.code (pc + 3) = .ok (.dup, 1) := by rw [hb]; exact d3
  obtain ⟨V, ce, L, Z, hL, hlt, hcl9, hvm9, st⟩ := vx_ctorMade0 X₁ hexec htr (own := own) (cls := cls) (names := names) (ic := ic) hown' hcls hnames h (fun x hx => nomatch hx) hfX hkX hcellA (by rw [hhp]; exact Nat.le_refl _)
    (g := { method := m, pc := pc + 4, locals := ls, stack := .ref T.heap.size :: .ref T.heap.size :: rest, locked := none }) rfl hsize (rest := rest) rfl
    (by rw [hb]; exact d4) hRframes (by simp only [List.map_cons, List.sum_cons, hcat]; omega)
  have Z0 := Stand.forget (locs := []) Z (fun y hy => by rw [hL y hy, hhp]; exact Nat.le_refl _)
  obtain ⟨f1, f2⟩ := vx_frame Z0.same
  rw [hhp] at f1 f2
  have hcid : s.vm.findClass cls = some ce.cls := by
    rw [hcl9]
    rw [hvm] at hfX
    exact hfX
  have hh : (V.setCell T.heap.size ce).heap[T.heap.size]? = some ce := heapAt_setCell_self (s := V) ce hlt
  subst hA'
  have X5 := vx_back9 X Y Z0
  have X6 : Stand p l e R s m args below meth c (V.setCell T.heap.size ce) locs (cells + 1) (slots + 6) := { X5 with same := X5.same.mono (by omega) (by omega) }
  have hup : (V.setCell T.heap.size ce).heap.size ≤ T.heap.size + 1 := Z0.same.2.2.1
  have hlo : T.heap.size < (V.setCell T.heap.size ce).heap.size := (Array.getElem?_eq_some_iff.mp hh).1
  obtain ⟨t, a1, b1⟩ := kk ce (V.setCell T.heap.size ce).heap hh hvm9 hcid (by omega) (fun q hq => f2 q hq (fun z hz => nomatch hz)) _ rfl X6
  refine ⟨t, st1 _ ?_, b1⟩
  show Steps p.tables e below (T1.setTop { method := m, pc := pc + 3, locals := ls, stack := .ref T.heap.size :: rest, locked := none }) _
  jvm_step X₁.here [X₁.here.top, hexec, d3', Value.category]
  exact st _ a1
end AMK
def am_mkN : List String := ["java/lang/RuntimeException", "java/lang/Exception"]
def am_mkB (X : String) : List Cond := [.castable X X, .declares ⟨"java/lang/RuntimeException", "<init>", "()V"⟩, .declares ⟨"java/lang/Exception", "<init>", "()V"⟩, .declares ⟨"java/lang/Throwable", "<init>", "()V"⟩]
theorem am_mk14 : (∀ w ∈ (vx_at0 "ValleyMass" 3 "java/util/NoSuchElementException" am_mkN).filter goodWord, w ∈ lw_tbl) ∧ (∀ w ∈ (vx_at0 "ValleyMass" 3 "java/util/NoSuchElementException" am_mkN).filter (fun w => !goodWord w), w ∈ am_mkB "java/util/NoSuchElementException") ∧ (∀ w ∈ Cond.classLink "ValleyMass" 1 "java/util/NoSuchElementException" :: Cond.initialized "java/util/NoSuchElementException" :: vx_at0 "ValleyMass" 3 "java/util/NoSuchElementException" am_mkN, vx_ot w = true) := by decide +kernel
theorem am_mk15 : (∀ w ∈ (vx_at0 "ValleyMass" 9 "java/lang/IllegalArgumentException" am_mkN).filter goodWord, w ∈ lw_tbl) ∧ (∀ w ∈ (vx_at0 "ValleyMass" 9 "java/lang/IllegalArgumentException" am_mkN).filter (fun w => !goodWord w), w ∈ am_mkB "java/lang/IllegalArgumentException") ∧ (∀ w ∈ Cond.classLink "ValleyMass" 7 "java/lang/IllegalArgumentException" :: Cond.initialized "java/lang/IllegalArgumentException" :: vx_at0 "ValleyMass" 9 "java/lang/IllegalArgumentException" am_mkN, vx_ot w = true) := by decide +kernel
section AMK2
variable {p : Program} {l : Launch} {e : Env} {R : Room} {s : State} {m : MethodId} {args : Array Value} {below : List Frame} {meth : Method} {c : Code} {H : Heap} {locs : List Loc} {cells slots : Nat} {Q : State → Prop}
variable {cc : ByteArray} {pc : Nat} {ls : Array Slot} {D : va_G} {dA : Nat → ClassId} {b0 d : Nat} {Γ : Nat → Value} {hl : am_H} {σ : am_S} {L : am_L} {S rest : List Value} {o : Nat}
theorem am_mkhat (hts : ∀ w ∈ lw_all, w.before args s = true) (hI : am_I D dA b0 Γ hl s s.heap) {X : String} {ic : Nat} (h1 : ∀ w ∈ (vx_at0 "ValleyMass" ic X am_mkN).filter goodWord, w ∈ lw_tbl) (h2 : ∀ w ∈ (vx_at0 "ValleyMass" ic X am_mkN).filter (fun w => !goodWord w), w ∈ am_mkB X) (hc : (X, X) ∈ am_oC) : ∀ w ∈ vx_at0 "ValleyMass" ic X am_mkN, w.before args s = true := by
  have hO := hI.2.2.2.2.2.1
  have hD := hO.2.2.2.2.2.2.2.1
  refine vx_hat (B := am_mkB X) (fun w hw => hts w (lw_g (h1 w hw) (List.mem_filter.mp hw).2)) h2 ?_
  exact vx_c (va_Nw.use rfl (hO.2.2.1 _ hc)) (vx_c (va_Nw.use rfl (hD _ (List.mem_of_getElem? (i := 0) rfl))) (vx_c (va_Nw.use rfl (hD _ (List.mem_of_getElem? (i := 1) rfl))) (vx_c (va_Nw.use rfl (hD _ (List.mem_of_getElem? (i := 2) rfl))) vx_n)))
theorem am_newx_W (hexec : p.tables.exec = Jvm.exec) (hl0 : l.stackTraces = false) (hb : c.code = cc) (hml : c.maxLocals = ls.size) (hts : ∀ w ∈ lw_all, w.before args s = true) (hown : s.vm.findClass (am_nm 0) = some m.cls) (hI : am_I D dA b0 Γ hl s s.heap) (hS : am_Sd D dA b0 hl s σ H locs) {ci idx : Nat} (hc : (ci = 14 ∧ idx = 1) ∨ (ci = 15 ∧ idx = 7))
    (hd : decode cc pc = .ok (.new idx, 3)) (d3 : decode cc (pc + 3) = .ok (.dup, 1)) (d4 : decode cc (pc + 4) = .ok (.invokespecial (if ci = 14 then 3 else 9), 3)) (hfr : 8 ≤ R.frames) (hlo : am_wd S + 100 ≤ R.locals) (hcells : cells + 1 ≤ R.cells) (hslots : slots + 6 ≤ R.slots)
    (k : ∀ H', am_Sd D dA b0 hl s (am_up σ.1 σ.2.1 (.inr (ci, [])), σ.2.1 + 1, σ.2.2 + 6) H' locs → W p l e R s m args below meth c H' locs (cells + 1) (slots + 6) Q (F0 m (pc + 7) ls (.ref σ.2.1 :: S))) : W p l e R s m args below meth c H locs cells slots Q (F0 m pc ls S) := by
  have hwd : (S.map fun v => v.category).sum = am_wd S := rfl
  have hlen : am_mkN.length = 2 := rfl
  have fin : ∀ (r : vw_C), am_cl[ci]? = some r → r.2.2 = 0 → (∀ (ce : Cell) (H1 : Heap), H1[H.size]? = some ce → ce.vm = .none → s.vm.findClass (am_nm ci) = some ce.cls → H1.size = H.size + 1 → (∀ q, q < H.size → H1[q]? = H[q]?) → W p l e R s m args below meth c H1 locs (cells + 1) (slots + 6) Q (F0 m (pc + 7) ls (.ref H.size :: S))) := by
    intro r hr hr0 ce H1 w1 w2 w3 z1 o1
    have hfc := (hI.1.1 ci r hr).2.1
    rw [(am_cl_ok ci r hr).2.2.2.1] at hfc
    have := k H1 ⟨hS.1.new (e := .inr (ci, [])) (n := 6) ⟨r, hr, ce, (by rw [← hS.1.1]; exact w1), Option.some.inj (w3.symm.trans hfc), w2, fun k hk => by rw [hr0] at hk; exact absurd hk (Nat.not_lt_zero k)⟩ (fun t x h => by cases h) z1 o1, ⟨Nat.le_trans hS.2.1 (by omega), fun q h1 h2 => (o1 q (Nat.lt_of_lt_of_le h1 hS.2.1)).trans (hS.2.2.1 q h1 h2), hS.2.2.2⟩⟩
    rw [← hS.1.1] at this
    exact this
  rcases hc with ⟨rfl, rfl⟩ | ⟨rfl, rfl⟩
  · exact am_make0 hexec hb hl0 (own := "ValleyMass") (cls := "java/util/NoSuchElementException") (names := am_mkN) (ik := 1) (ic := 3) (A := am_A b0) hown (by decide +kernel) (by decide +kernel) (hts _ (am_clink (o := 0) (idx := 1) (ci := 14) (by decide +kernel))) (hts _ q134) (am_mkhat hts hI am_mk14.1 am_mk14.2.1 (List.mem_of_getElem? (i := 9) rfl)) am_mk14.2.2
      hI.2.2.2.2.2.2.2.1 hI.2.2.2.2.2.2.2.2 hS.2 hml.symm hd d3 d4 (by rw [hlen]; omega) (by rw [hlen, hwd]; omega) hcells hslots (fin _ rfl rfl)
  · exact am_make0 hexec hb hl0 (own := "ValleyMass") (cls := "java/lang/IllegalArgumentException") (names := am_mkN) (ik := 7) (ic := 9) (A := am_A b0) hown (by decide +kernel) (by decide +kernel) (hts _ (am_clink (o := 0) (idx := 7) (ci := 15) (by decide +kernel))) (hts _ q110) (am_mkhat hts hI am_mk15.1 am_mk15.2.1 (List.mem_of_getElem? (i := 6) rfl)) am_mk15.2.2
      hI.2.2.2.2.2.2.2.1 hI.2.2.2.2.2.2.2.2 hS.2 hml.symm hd d3 d4 (by rw [hlen]; omega) (by rw [hlen, hwd]; omega) hcells hslots (fin _ rfl rfl)
end AMK2
