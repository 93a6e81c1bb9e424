/-! SOUNDNESS 7: Math, Object's constructor, getClass; calls whole -/
set_option maxRecDepth 100000
section AMR
variable {p : Program} {l : Launch} {e : Env} {R : Room} {s : State} {m : MethodId} {args : Array Value} {below : List Frame} {meth : Method} {c : Code} {H : Heap} {locs : List Loc} {cells slots : Nat} {Q : State → Prop}
variable {cc : ByteArray} {pc : Nat} {ls : Array Slot} {D : va_G} {dA : Nat → ClassId} {b0 d : Nat} {Γ : Nat → Value} {hl : am_H} {σ : am_S} {L : am_L} {S rest : List Value} {o : Nat}
theorem am_mx_W (hexec : p.tables.exec = Jvm.exec) (hb : c.code = cc) (hml : c.maxLocals = ls.size) (hts : ∀ w ∈ lw_all, w.before args s = true) (hown : s.vm.findClass (am_nm o) = some m.cls) {idx q : Nat} (h : (am_mx.find? (fun e => e.1 == o && e.2.1 == idx)).map (fun e => e.2.2) = some q) (hframes : 1 ≤ R.frames) (hlocals : am_wd rest + 100 ≤ R.locals) (hc : cells ≤ R.cells) (hs : slots ≤ R.slots) {x y : Int32} (hdg : decode cc pc = .ok (.invokestatic idx, 3))
    (kk : W p l e R s m args below meth c H locs cells slots Q (F0 m (pc + 3) ls (.int (if q = 0 then (if x < y then y else x) else (if y < x then y else x)) :: rest))) : W p l e R s m args below meth c H locs cells slots Q (F0 m pc ls (.int y :: .int x :: rest)) := by
  have hwd : (rest.map fun v => v.category).sum = am_wd rest := rfl
  obtain ⟨z, h1, h2⟩ := Option.map_eq_some_iff.mp h
  obtain ⟨g1, g2⟩ := am_find_ok h1
  simp only [Bool.and_eq_true, beq_iff_eq] at g2
  obtain ⟨rfl, rfl⟩ := g2
  subst h2
  rcases am_mx_ok z g1 with ⟨k1, k2⟩ | ⟨k1, k2⟩
  · rw [if_pos k1] at kk
    exact va_mmax hexec hb hml hown (hts _ k2) (hts _ q329) (hts _ q112) (hts _ q330) hframes (by rw [hwd]; omega) hc hs hdg kk
  · rw [if_neg (by omega)] at kk
    exact va_mmin hexec hb hml hown (hts _ k2) (hts _ q366) (hts _ q112) (hts _ q367) hframes (by rw [hwd]; omega) hc hs hdg kk
theorem am_objI_W (hexec : p.tables.exec = Jvm.exec) (hb : c.code = cc) (hml : c.maxLocals = ls.size) (hts : ∀ w ∈ lw_all, w.before args s = true) (hown : s.vm.findClass (am_nm o) = some m.cls) {idx : Nat} (h : (o, idx) ∈ am_objI) (hframes : 1 ≤ R.frames) (hlocals : am_wd rest + 100 ≤ R.locals) {a : Addr} (hdg : decode cc pc = .ok (.invokespecial idx, 3))
    (kk : W p l e R s m args below meth c H locs cells slots Q (F0 m (pc + 3) ls rest)) : W p l e R s m args below meth c H locs cells slots Q (F0 m pc ls (.ref a :: rest)) := by
  have hwd : (rest.map fun v => v.category).sum = am_wd rest := rfl
  exact W.objInit hexec hb hown (hts _ (am_objI_ok _ h)) (hts _ q141) (hts _ q142) rfl hml.symm rfl hdg hframes (by show 2 * 0 + _ + 12 ≤ _; omega) kk
theorem am_getA_W (hexec : p.tables.exec = Jvm.exec) (hb : c.code = cc) (hml : c.maxLocals = ls.size) (hts : ∀ w ∈ lw_all, w.before args s = true) (hown : s.vm.findClass (am_nm 22) = some m.cls) (hI : am_I D dA b0 Γ hl s s.heap) (hS : am_Sd D dA b0 hl s σ H locs) {a : Nat} {x : vp_A} (h : σ.1 a = some (.inl (4, x))) (hframes : 1 ≤ R.frames) (hlocals : am_wd rest + 100 ≤ R.locals) (hdg : decode cc pc = .ok (.invokevirtual 86, 3))
    (kk : W p l e R s m args below meth c H locs cells slots Q (F0 m (pc + 3) ls (Γ 21 :: rest))) : W p l e R s m args below meth c H locs cells slots Q (F0 m pc ls (.ref a :: rest)) := by
  have hIH : am_I D dA b0 Γ hl s H := hI.kept hS.2.1 hS.2.2.1
  have hwd : (rest.map fun v => v.category).sum = am_wd rest := rfl
  obtain ⟨m1, m2, g1, g2, g3, g4⟩ := hI.2.2.2.2.1
  obtain ⟨cell, r1, r2, ⟨r3, -⟩, -, -, r6⟩ := hS.1.rd hIH hts h
  rw [g3] at kk
  exact va_getC hexec hb hml hown (hts _ q338) (va_Dc.use hI.2.2.2.2.2.1.2.2.2.2.2.1) (hts _ q2239) (hts _ q339) (hts _ q358) g4 ⟨cell, r1, by (cases hv : cell.vm with | statics c => exact absurd hv (r3 c) | _ => rfl), r6 rfl⟩ hframes (by rw [hwd]; omega) hdg kk
theorem am_getI_W (hexec : p.tables.exec = Jvm.exec) (hb : c.code = cc) (hml : c.maxLocals = ls.size) (hts : ∀ w ∈ lw_all, w.before args s = true) (hown : s.vm.findClass (am_nm 12) = some m.cls) (hI : am_I D dA b0 Γ hl s s.heap) (hS : am_Sd D dA b0 hl s σ H locs) {a cnt : Nat} (h : am_ck σ.1 a = some 12) (hframes : 1 ≤ R.frames) (hlocals : am_wd rest + 100 ≤ R.locals) (hdg : decode cc pc = .ok (.invokeinterface 52 cnt, 5))
    (kk : W p l e R s m args below meth c H locs cells slots Q (F0 m (pc + 5) ls (Γ 20 :: rest))) : W p l e R s m args below meth c H locs cells slots Q (F0 m pc ls (.ref a :: rest)) := by
  have hwd : (rest.map fun v => v.category).sum = am_wd rest := rfl
  have hIH : am_I D dA b0 Γ hl s H := hI.kept hS.2.1 hS.2.2.1
  obtain ⟨m1, m2, g1, ⟨c0, k0, y1, y2, y3⟩, g3, g4⟩ := hI.2.2.2.2.1
  have hD := va_Dc.use (A := args) hI.2.2.2.2.2.1.2.2.2.2.2.1
  have hG := hI.2.2.2.2.2.1.2.2.2.2.2.2.2.2
  obtain ⟨w1, w2⟩ := hG.words hD (hts _ q356)
  unfold am_ck at h
  split at h
  · rename_i ci fs hf
    cases h
    obtain ⟨⟨cell, r1, r2, r3⟩, -⟩ := hS.1.rd hIH hts hf
    cases y1.symm.trans r3
    rw [g1] at kk
    intro T hT X
    obtain ⟨vm', X', st⟩ := X.getClassOfI hexec (own := "java/util/ArrayList") (C := "java/util/ArrayList") (index := 52) (count := cnt) (xi := ⟨"java/util/Collection", "getClass", "()Ljava/lang/Class;"⟩) hown (hts _ q649) hD w1 w2 (hts _ q339) (va_any rfl hG.1) (va_any rfl hG.2.1) (va_Nw.use rfl (hI.2.2.2.2.2.1.2.2.1 ("java/util/ArrayList", "java/util/Collection") (by decide +kernel))) (hts _ q358) ⟨by decide, by decide⟩ (by decide) rfl rfl y1 y2 ⟨cell, by rw [hT]; exact r1, rfl, r2⟩ y3
      (g := F0 m pc ls (.ref a :: rest)) rfl (by rw [hml]) rfl (by rw [hb]; exact hdg) hframes (by show 2 * 0 + _ + _ ≤ _; have hw : nativeFrameWords "java/lang/Object" "getClass" 1 = 3 := (by decide); omega)
    obtain ⟨t, a1, b1⟩ := kk (T.setVm vm') hT X'
    exact ⟨t, st t a1, b1⟩
  · cases h
end AMR
