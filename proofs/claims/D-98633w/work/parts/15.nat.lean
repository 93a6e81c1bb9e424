/-! SOUNDNESS 5: natives, Math, Object's constructor, exceptions made; throws -/
set_option maxRecDepth 100000
section AMN
variable {p : Program} {l : Launch} {e : Env} {R : Room} {s : State} {m : MethodId} {args : Array Value} {below : List Frame} {meth : Method} {c : Code} {H : Heap} {locs : List Loc} {cells slots : Nat} {Q : State → Prop}
variable {cc : ByteArray} {pc : Nat} {ls : Array Slot} {D : va_G} {dA : Nat → ClassId} {b0 d : Nat} {Γ : Nat → Value} {hl : am_H} {σ : am_S} {L : am_L} {S rest : List Value} {o : Nat}
theorem am_nn {z : Int32} (hz : ¬ z < 0) : z.toInt = (z.toNatClampNeg : Int) := by
  have hz0 : (0 : Int) ≤ z.toInt := by
    have := Int32.not_lt.mp hz
    simpa using Int32.le_iff_toInt_le.mp this
  show z.toInt = ((z.toInt.toNat : Nat) : Int)
  omega
theorem am_cpq_W (hexec : p.tables.exec = Jvm.exec) (hb : c.code = cc) (hml : c.maxLocals = ls.size) (hts : ∀ w ∈ lw_all, w.before args s = true) {own : String} {idx : Nat} (hown : s.vm.findClass own = some m.cls) (hlink : (Cond.methodLink own idx arraycopyName).before args s = true) (hI : am_I D dA b0 Γ hl s s.heap) (hS : am_Sd D dA b0 hl s σ H locs) {a0 a : Nat} {sp dp n : Int32} {h' : am_H} (h : am_cpq b0 σ.1 a0 sp a dp n = some h')
    (hframes : 1 ≤ R.frames) (hlocals : am_wd rest + 100 ≤ R.locals) (hd : decode cc pc = .ok (.invokestatic idx, 3))
    (kk : ∀ H' locs', am_Sd D dA b0 hl s (h', σ.2) H' locs' → W p l e R s m args below meth c H' locs' cells slots Q (F0 m (pc + 3) ls rest)) : W p l e R s m args below meth c H locs cells slots Q (F0 m pc ls (.int n :: .int dp :: .ref a :: .int sp :: .ref a0 :: rest)) := by
  have hIH : am_I D dA b0 Γ hl s H := hI.kept hS.2.1 hS.2.2.1
  have hnat : (Cond.native arraycopyName).before args s = true := hts _ q370
  have hstat : (Cond.static arraycopyName).before args s = true := hts _ q369
  have hini : (Cond.initialized "java/lang/System").before args s = true := hts _ q122
  have hnf : nativeFrameWords "java/lang/System" "arraycopy" 5 + 11 ≤ 100 := by decide
  have hwd : (rest.map fun v => v.category).sum = am_wd rest := rfl
  unfold am_cpq at h
  split at h
  · rename_i n0 f n1 g hf0 hf1
    split at h
    · rename_i hc
      obtain ⟨h1, h2, h3, h4, h5, hba, hall⟩ := hc
      cases h
      obtain ⟨cs, r1, r2, ⟨r3, k0, hk0, cm0, hkk0⟩, r4, r5, -⟩ := hS.1.rd hIH hts hf0
      obtain ⟨g1, g2⟩ := am_own hS hba hf1
      obtain ⟨-, k1, hk1, cm1, hkk1⟩ := (hI.1.2 4 _ rfl).1 n1 (am_vf (n1, .inr (.inr (.inr (.inr g)))))
      obtain ⟨kA, comp, q1, q2, q3, -⟩ := (hI.1.2 4 _ rfl).2
      cases hk1.symm.trans q1
      cases hkk1.symm.trans q2
      obtain ⟨kE, hkE, -⟩ := Vm.findClass_spec q3
      intro T hT X
      dsimp only at r4 r5
      obtain ⟨vm', X', step⟩ := X.arraycopy hexec hown hlink hnat hstat hini (src := a0) (dst := a) (cs := cs) (cd := arrV (dA 4) n1 (am_vf (n1, .inr (.inr (.inr (.inr g)))))) (srcPos := sp) (destPos := dp) (n := n) (by rw [hT]; exact r1) (by rw [hT]; exact g1)
        r3 (fun _ h => by cases h) r2 (fun h => by cases h) hk0 hk1 hkk0 hkk1 rfl h1 h2 h3
        (by have r6 := r4.1; rw [am_nn h1, am_nn h3]; omega)
        (by rw [am_nn h2, am_nn h3, arrV_size]; omega)
        (fun vm₁ hal i hi => by
          have e : cs.slots.getD (sp.toNatClampNeg + i) .null = va_rf (f (sp.toNatClampNeg + i)) := by
            rw [Array.getD_eq_getD_getElem?, r5 _ (by omega)]
            rfl
          rw [e]
          have hv := List.all_eq_true.mp hall i (List.mem_range.mpr hi)
          cases hy : f (sp.toNatClampNeg + i) with
          | none => exact ⟨rfl, trivial⟩
          | some y =>
            rw [hy] at hv
            obtain ⟨cv, kv, w1, w2, w3, w4⟩ := am_as_ok hIH hS.1 hts (t := 4) (by decide) hv (comp := cm1) (fun E' hE' => by cases hE'; exact q3)
            obtain ⟨kC', hkC', -⟩ := hal.2.2 _ _ w3
            obtain ⟨kE', hkE', -⟩ := hal.2.2 _ _ hkE
            refine ⟨rfl, cv, (show T.heap[y]? = some cv by rw [hT]; exact w1), (fun q h => by rw [h] at w2; cases w2), ⟨kC', hkC'⟩, ⟨kE', hkE'⟩, ?_⟩
            show vm₁.assignable _ _ = true
            rw [hal.assignable]
            exact w4)
        (g := F0 m pc ls (.int n :: .int dp :: .ref a :: .int sp :: .ref a0 :: rest)) rfl (by rw [hml]) (rest := rest) rfl (by rw [hb]; exact hd) hframes (by show 2 * 0 + _ + _ ≤ _; omega)
      have e1 : copied cs (arrV (dA 4) n1 (am_vf (n1, .inr (.inr (.inr (.inr g)))))) sp dp n = arrV (dA 4) n1 (am_vf (n1, .inr (.inr (.inr (.inr (va_cpy f g sp.toNatClampNeg dp.toNatClampNeg n.toNatClampNeg)))))) := va_copiedX (fun z => va_rf z) cs (dA 4) f g r5 h4
      rw [e1] at X' step
      have hl : a < H.size := (Array.getElem?_eq_some_iff.mp g1).1
      have hheap : ((T.setVm vm').setCell a (arrV (dA 4) n1 (am_vf (n1, .inr (.inr (.inr (.inr (va_cpy f g sp.toNatClampNeg dp.toNatClampNeg n.toNatClampNeg)))))))).heap = H.setIfInBounds a (arrV (dA 4) n1 (am_vf (n1, .inr (.inr (.inr (.inr (va_cpy f g sp.toNatClampNeg dp.toNatClampNeg n.toNatClampNeg))))))) := by rw [← hT]; rfl
      have oq : ∀ q : Nat, q ≠ a → (H.setIfInBounds a (arrV (dA 4) n1 (am_vf (n1, .inr (.inr (.inr (.inr (va_cpy f g sp.toNatClampNeg dp.toNatClampNeg n.toNatClampNeg))))))))[q]? = H[q]? := fun q hq => by simp [Array.getElem?_setIfInBounds, Ne.symm hq]
      obtain ⟨t, a1, b1⟩ := kk _ _ ⟨hS.1.put hba (by
          show (H.setIfInBounds a _)[a]? = some (vp_cell (dA 4) _)
          rw [vp_cell_eq]
          simp [Array.getElem?_setIfInBounds, hl]) (fun t x h => by cases h; decide) (by simp) oq, ⟨by simp; exact hS.2.1, fun q g1 g2 => by
          rw [oq q (fun e => g2 (by rw [e]; exact hba))]
          exact hS.2.2.1 q g1 g2, fun q hq => by
          rcases List.mem_append.mp hq with h | h
          · exact hS.2.2.2 q h
          · obtain ⟨z, -, hz⟩ := List.mem_map.mp h
            rw [← hz]
            exact hba⟩⟩ _ hheap X'
      exact ⟨t, step t a1, b1⟩
    · cases h
  · rename_i n0 f n1 g hf0 hf1
    split at h
    · rename_i hc
      obtain ⟨h1, h2, h3, h4, h5, hba, hall⟩ := hc
      cases h
      obtain ⟨cs, r1, r2, ⟨r3, k0, hk0, cm0, hkk0⟩, r4, r5, -⟩ := hS.1.rd hIH hts hf0
      obtain ⟨g1, g2⟩ := am_own hS hba hf1
      obtain ⟨-, k1, hk1, cm1, hkk1⟩ := (hI.1.2 1 _ rfl).1 n1 (am_vf (n1, .inl g))
      intro T hT X
      dsimp only at r4 r5
      obtain ⟨vm', X', step⟩ := X.arraycopy hexec hown hlink hnat hstat hini (src := a0) (dst := a) (cs := cs) (cd := arrV (dA 1) n1 (am_vf (n1, .inl g))) (srcPos := sp) (destPos := dp) (n := n) (by rw [hT]; exact r1) (by rw [hT]; exact g1)
        r3 (fun _ h => by cases h) r2 (fun h => by cases h) hk0 hk1 hkk0 hkk1 (by simp [refKind, am_aty]) h1 h2 h3
        (by have r6 := r4.1; rw [am_nn h1, am_nn h3]; omega)
        (by rw [am_nn h2, am_nn h3, arrV_size]; omega)
        (fun vm₁ hal i hi => by
          have e : cs.slots.getD (sp.toNatClampNeg + i) .null = .int (f (sp.toNatClampNeg + i)) := by
            rw [Array.getD_eq_getD_getElem?, r5 _ (by omega)]
            rfl
          rw [e]
          exact ⟨List.all_eq_true.mp hall i (List.mem_range.mpr hi), trivial⟩)
        (g := F0 m pc ls (.int n :: .int dp :: .ref a :: .int sp :: .ref a0 :: rest)) rfl (by rw [hml]) (rest := rest) rfl (by rw [hb]; exact hd) hframes (by show 2 * 0 + _ + _ ≤ _; omega)
      have e1 : copied cs (arrV (dA 1) n1 (am_vf (n1, .inl g))) sp dp n = arrV (dA 1) n1 (am_vf (n1, .inl (va_cpy f g sp.toNatClampNeg dp.toNatClampNeg n.toNatClampNeg))) := va_copiedX (fun z => .int z) cs (dA 1) f g r5 h4
      rw [e1] at X' step
      have hl : a < H.size := (Array.getElem?_eq_some_iff.mp g1).1
      have hheap : ((T.setVm vm').setCell a (arrV (dA 1) n1 (am_vf (n1, .inl (va_cpy f g sp.toNatClampNeg dp.toNatClampNeg n.toNatClampNeg))))).heap = H.setIfInBounds a (arrV (dA 1) n1 (am_vf (n1, .inl (va_cpy f g sp.toNatClampNeg dp.toNatClampNeg n.toNatClampNeg)))) := by rw [← hT]; rfl
      have oq : ∀ q : Nat, q ≠ a → (H.setIfInBounds a (arrV (dA 1) n1 (am_vf (n1, .inl (va_cpy f g sp.toNatClampNeg dp.toNatClampNeg n.toNatClampNeg)))))[q]? = H[q]? := fun q hq => by simp [Array.getElem?_setIfInBounds, Ne.symm hq]
      obtain ⟨t, a1, b1⟩ := kk _ _ ⟨hS.1.put hba (by
          show (H.setIfInBounds a _)[a]? = some (vp_cell (dA 1) _)
          rw [vp_cell_eq]
          simp [Array.getElem?_setIfInBounds, hl]) (fun t x h => by cases h; decide) (by simp) oq, ⟨by simp; exact hS.2.1, fun q g1 g2 => by
          rw [oq q (fun e => g2 (by rw [e]; exact hba))]
          exact hS.2.2.1 q g1 g2, fun q hq => by
          rcases List.mem_append.mp hq with h | h
          · exact hS.2.2.2 q h
          · obtain ⟨z, -, hz⟩ := List.mem_map.mp h
            rw [← hz]
            exact hba⟩⟩ _ hheap X'
      exact ⟨t, step t a1, b1⟩
    · cases h
  · cases h
def am_pass (o E pc : Nat) (z : ExceptionTableEntry) : Prop := covers z pc = false ∨ (z.catchType ≠ 0 ∧ am_ce o z.catchType 0 = some 14 ∧ E = 15)
theorem am_hl_none {o pc E : Nat} : ∀ hh : List (Nat × Nat × Nat × Nat), am_hl o pc E hh = some none → ∀ z ∈ tableOf hh, am_pass o E pc z := by
  intro hh
  induction hh with
  | nil => intro _ z hz; cases hz
  | cons x r ih =>
    obtain ⟨x1, x2, x3, x4⟩ := x
    intro h z hz
    unfold am_hl at h
    rcases List.mem_cons.mp hz with rfl | hz
    · split at h
      · split at h
        · rename_i ci hci
          split at h
          · cases h
          · split at h
            · rename_i hc
              obtain ⟨⟨rfl, rfl⟩, h0⟩ := hc
              exact Or.inr ⟨h0, hci, rfl⟩
            · cases h
        · cases h
      · rename_i hc
        refine Or.inl ?_
        show (decide (x1 ≤ pc) && decide (pc < x2)) = false
        rw [Bool.and_eq_false_iff, decide_eq_false_iff_not, decide_eq_false_iff_not]
        by_cases hz : x1 ≤ pc
        · exact Or.inr fun q => hc ⟨hz, q⟩
        · exact Or.inl hz
    · split at h
      · split at h
        · split at h
          · cases h
          · split at h
            · exact ih h z hz
            · cases h
        · cases h
      · exact ih h z hz
theorem am_hl_some {o pc E t : Nat} : ∀ hh : List (Nat × Nat × Nat × Nat), am_hl o pc E hh = some (some t) → ∃ pre x suf, tableOf hh = pre ++ x :: suf ∧ (∀ z ∈ pre, am_pass o E pc z) ∧ covers x pc = true ∧ x.catchType ≠ 0 ∧ x.handlerPc = t ∧ am_ce o x.catchType 0 = some E ∧ (E = 5 ∨ E = 14 ∨ E = 15) := by
  intro hh
  induction hh with
  | nil => intro h; cases h
  | cons x r ih =>
    obtain ⟨x1, x2, x3, x4⟩ := x
    intro h
    unfold am_hl at h
    have step : am_pass o E pc ⟨x1, x2, x3, x4⟩ → am_hl o pc E r = some (some t) → ∃ pre x suf, tableOf ((x1, x2, x3, x4) :: r) = pre ++ x :: suf ∧ (∀ z ∈ pre, am_pass o E pc z) ∧ covers x pc = true ∧ x.catchType ≠ 0 ∧ x.handlerPc = t ∧ am_ce o x.catchType 0 = some E ∧ (E = 5 ∨ E = 14 ∨ E = 15) := by
      intro h1 h2
      obtain ⟨pre, x, suf, g1, g2, g3⟩ := ih h2
      refine ⟨⟨x1, x2, x3, x4⟩ :: pre, x, suf, ?_, ?_, g3⟩
      · show (⟨x1, x2, x3, x4⟩ : ExceptionTableEntry) :: tableOf r = _
        rw [g1]
        rfl
      · intro z hz
        rcases List.mem_cons.mp hz with rfl | hz
        · exact h1
        · exact g2 z hz
    split at h
    · rename_i hcov
      split at h
      · rename_i ci hci
        split at h
        · rename_i hc
          cases h
          obtain ⟨rfl, h1, h2⟩ := hc
          refine ⟨[], ⟨x1, x2, _, x4⟩, tableOf r, rfl, (fun z hz => by cases hz), ?_, h2, rfl, hci, h1⟩
          show (decide (x1 ≤ pc) && decide (pc < x2)) = true
          rw [Bool.and_eq_true, decide_eq_true_eq, decide_eq_true_eq]
          exact hcov
        · split at h
          · rename_i hc
            obtain ⟨⟨rfl, rfl⟩, h0⟩ := hc
            exact step (Or.inr ⟨h0, hci, rfl⟩) h
          · cases h
      · cases h
    · rename_i hc
      refine step (Or.inl ?_) h
      show (decide (x1 ≤ pc) && decide (pc < x2)) = false
      rw [Bool.and_eq_false_iff, decide_eq_false_iff_not, decide_eq_false_iff_not]
      by_cases hz : x1 ≤ pc
      · exact Or.inr fun q => hc ⟨hz, q⟩
      · exact Or.inl hz
theorem am_pass_ok (hts : ∀ w ∈ lw_all, w.before args s = true) (hI : am_I D dA b0 Γ hl s s.heap) {E : Nat} {z : ExceptionTableEntry} (h : am_pass o E pc z) : covers z pc = false ∨ (z.catchType ≠ 0 ∧ ∃ nm : String, (Cond.classLink (am_nm o) z.catchType nm).before args s = true ∧ va_Nc (am_nm E) nm s) := by
  rcases h with h | ⟨h1, h2, rfl⟩
  · exact Or.inl h
  · exact Or.inr ⟨h1, _, hts _ (am_clink h2), hI.2.2.2.2.2.1.2.2.2.2.2.2.1⟩
theorem am_thr_W {mi : am_Mi} (hts : ∀ w ∈ lw_all, w.before args s = true) (hown : s.vm.findClass (am_nm mi.2.1.1) = some m.cls) (hI : am_I D dA b0 Γ hl s s.heap) (hext : c.exceptionTable.toList = tableOf mi.2.2.2) {E a : Nat} {x : am_F ⊕ am_O} (h : am_thr mi pc L E a σ = some x) {ce : Cell} (hcell : H[a]? = some ce) (hv : ce.vm = .none) (hcl : s.vm.findClass (am_nm E) = some ce.cls)
    (kk : ∀ t, x = .inl ((t, L, [.ref a]), σ) → W p l e R s m args below meth c H locs cells slots Q (F0 m t ls [.ref a]))
    (kx : x = .inr (.inr (E, a), σ) → (∀ z ∈ c.exceptionTable.toList, covers z pc = false ∨ (z.catchType ≠ 0 ∧ ∃ nm : String, (Cond.classLink (am_nm mi.2.1.1) z.catchType nm).before args s = true ∧ va_Nc (am_nm E) nm s)) → vx_W p l e R s m args below meth c H locs cells slots Q (F0 m pc ls rest) a) :
    vx_W p l e R s m args below meth c H locs cells slots Q (F0 m pc ls rest) a := by
  unfold am_thr at h
  split at h
  · rename_i t ht
    cases h
    obtain ⟨pre, y, suf, g1, g2, g3, g4, rfl, g6, g7⟩ := am_hl_some _ ht
    have hcast : (Cond.castable (am_nm E) (am_nm E)).before args s = true := by
      rcases g7 with rfl | rfl | rfl
      · exact va_Nw.use rfl (hI.2.2.2.2.2.1.2.2.1 ("ValleyMass$Wrong", "ValleyMass$Wrong") (List.mem_of_getElem? (i := 7) rfl))
      · exact va_Nw.use rfl (hI.2.2.2.2.2.1.2.2.1 ("java/util/NoSuchElementException", "java/util/NoSuchElementException") (List.mem_of_getElem? (i := 9) rfl))
      · exact va_Nw.use rfl (hI.2.2.2.2.2.1.2.2.1 ("java/lang/IllegalArgumentException", "java/lang/IllegalArgumentException") (List.mem_of_getElem? (i := 6) rfl))
    exact vx_catch hown pre y suf (hext.trans g1) (fun z hz => am_pass_ok hts hI (g2 z hz)) g3 g4 (hts _ (am_clink g6)) hcast hcell hv hcl (kk _ rfl)
  · rename_i ht
    cases h
    exact kx rfl (fun z hz => am_pass_ok hts hI (am_hl_none _ ht z (by rw [← hext]; exact hz)))
  · cases h
end AMN
