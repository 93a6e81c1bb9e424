/-! SOUNDNESS 2: the world; arrays -/
set_option maxRecDepth 100000
def am_clN (ci : Nat) (n : Nat) : Nat := if ci < 14 then n else 6
theorem am_cl_ok : ∀ (ci : Nat) (r : vw_C), am_cl[ci]? = some r → (∀ w ∈ u_ws r.1 r.2.1 r.2.2, w ∈ lw_all) ∧ (∀ k, k < r.2.2 → parseFieldDescriptor (r.2.1 k).2.2.1 = some (am_ty ci k)) ∧ (∀ a, a < r.2.2 → ∀ b, b < r.2.2 → a ≠ b → (r.2.1 a).2.1 ≠ (r.2.1 b).2.1) ∧ r.1 = am_nm ci ∧ r.2.1 = am_ft ci ∧ Cond.instantiable r.1 (am_clN ci r.2.2) ∈ lw_all ∧ Cond.initialized r.1 ∈ lw_all := by
  intro ci r h
  match ci, h with
  | 0, h => cases h; exact ⟨in_X1, tyX1_ok, nmX1, rfl, rfl, q136, q100⟩
  | 1, h => cases h; exact ⟨in_X2, tyX2_ok, nmX2, rfl, rfl, q144, q101⟩
  | 2, h => cases h; exact ⟨in_X3, tyX3_ok, nmX3, rfl, rfl, q206, q105⟩
  | 3, h => cases h; exact ⟨in_X4, tyX4_ok, nmX4, rfl, rfl, q1576, q106⟩
  | 4, h => cases h; exact ⟨in_X5, tyX5_ok, nmX5, rfl, rfl, q740, q111⟩
  | 5, h => cases h; exact ⟨in_X6, tyX6_ok, nmX6, rfl, rfl, q942, q118⟩
  | 6, h => cases h; exact ⟨in_X7, tyX7_ok, nmX7, rfl, rfl, q974, q119⟩
  | 7, h => cases h; exact ⟨in_X8, tyX8_ok, nmX8, rfl, rfl, q1018, q124⟩
  | 8, h => cases h; exact ⟨in_X9, tyX9_ok, nmX9, rfl, rfl, q1074, q128⟩
  | 9, h => cases h; exact ⟨in_X10, tyX10_ok, nmX10, rfl, rfl, q1097, q129⟩
  | 10, h => cases h; exact ⟨in_X11, tyX11_ok, nmX11, rfl, rfl, q1107, q130⟩
  | 11, h => cases h; exact ⟨in_X12, tyX12_ok, nmX12, rfl, rfl, q1232, q133⟩
  | 12, h => cases h; exact ⟨in_J2, tyJ2_ok, nmJ2, rfl, rfl, q150, q104⟩
  | 13, h => cases h; exact ⟨in_J19, tyJ19_ok, nmJ19, rfl, rfl, q1123, q132⟩
  | 14, h => cases h; exact ⟨fun _ h => absurd h List.not_mem_nil, fun k hk => absurd hk (Nat.not_lt_zero k), fun a ha => absurd ha (Nat.not_lt_zero a), rfl, rfl, q1260, q134⟩
  | 15, h => cases h; exact ⟨fun _ h => absurd h List.not_mem_nil, fun k hk => absurd hk (Nat.not_lt_zero k), fun a ha => absurd ha (Nat.not_lt_zero a), rfl, rfl, q676, q110⟩
  | n + 16, h => simp [am_cl] at h
def am_A (b0 : Nat) : Nat → Prop := fun q => b0 ≤ q
def am_vf (x : vp_A) : Nat → Value := match x.2 with
  | .inl f => fun j => .int (f j)
  | .inr (.inl f) => fun j => .long (f j)
  | .inr (.inr (.inl f)) => fun j => .float (f j)
  | .inr (.inr (.inr (.inl f))) => fun j => .double (f j)
  | .inr (.inr (.inr (.inr f))) => fun j => va_rf (f j)
theorem vp_cell_eq (cA : ClassId) (x : vp_A) : vp_cell cA x = arrV cA x.1 (am_vf x) := by
  obtain ⟨n, f | f | f | f | f⟩ := x <;> rfl
def am_cv (dA : Nat → ClassId) (e : am_E) : va_E := match e with
  | .inl (t, x) => .inl (dA t, x)
  | .inr o => .inr o
def am_tys (dA : Nat → ClassId) : List (ClassId × FieldType) := [(dA 0, am_aty 0), (dA 1, am_aty 1), (dA 2, am_aty 2), (dA 3, am_aty 3), (dA 4, am_aty 4), (dA 5, am_aty 5), (dA 6, am_aty 6), (dA 7, am_aty 7)]
theorem am_tys_at (dA : Nat → ClassId) {t : Nat} (h : t < 8) : (am_tys dA)[t]? = some (dA t, am_aty t) := by
  match t, h with
  | 0, _ => rfl
  | 1, _ => rfl
  | 2, _ => rfl
  | 3, _ => rfl
  | 4, _ => rfl
  | 5, _ => rfl
  | 6, _ => rfl
  | 7, _ => rfl
/-- an array's length as the machine knows it -/
def am_sz (n k : Nat) : Prop := n ≤ k ∧ Int32.ofNat k = Int32.ofNat n
/-- what can be read at a: old cell or new -/
def am_rd (U : State) (H : Heap) (a : Nat) (e : am_E) : Prop := match e with
  | .inl (t, x) => ∃ cell : Cell, H[a]? = some cell ∧ cell.vm ≠ .unknown ∧ U.isArrayOf cell (am_aty t) ∧ am_sz x.1 cell.slots.size ∧ (∀ j, j < x.1 → cell.slots[j]? = some (am_vf x j)) ∧ (t = 4 → U.vm.findClass "[Ljava/lang/Object;" = some cell.cls)
  | .inr (ci, fs) => (∃ cell : Cell, H[a]? = some cell ∧ cell.vm.isStatics = false ∧ U.vm.findClass (am_nm ci) = some cell.cls) ∧ ∀ k v, fs[k]? = some v → (∀ r : vw_C, am_cl[ci]? = some r → k < r.2.2) → ∃ (cf : ClassId) (kc : Class) (i : Nat) (f : Field) (cell : Cell), U.fieldFound? (am_ft ci k).1 (am_ft ci k).2.1 (am_ft ci k).2.2.1 = some (cf, kc, i, f) ∧ f.isStatic = false ∧ H[a]? = some cell ∧ cell.vm ≠ .unknown ∧ cell.slots[f.slot]? = some v
/-- the old cells that the law's run reads -/
def am_lw (b0 : Nat) (U : State) (H : Heap) (a : Nat) (e : am_E) : Prop := match e with
  | .inl (t, x) => a < b0 ∧ a < H.size ∧ ∃ cell : Cell, H[a]? = some cell ∧ cell.vm ≠ .unknown ∧ U.isArrayOf cell (am_aty t) ∧ am_sz x.1 cell.slots.size ∧ (∀ j, j < x.1 → cell.slots[j]? = some (am_vf x j)) ∧ (t = 4 → U.vm.findClass "[Ljava/lang/Object;" = some cell.cls)
  | .inr (ci, fs) => va_O (am_nm ci) a (am_A b0) U H ∧ ∀ k v, fs[k]? = some v → va_OF (am_ft ci k).1 (am_ft ci k).2.1 (am_ft ci k).2.2.1 v a (am_A b0) U H
theorem am_lw.rd {b0 : Nat} {U : State} {H : Heap} {a : Nat} {e : am_E} (h : am_lw b0 U H a e) : am_rd U H a e := by
  match e, h with
  | .inl (t, x), h => exact h.2.2
  | .inr (ci, fs), h =>
    obtain ⟨⟨cell, h1, h2, h3, -⟩, h4⟩ := h
    refine ⟨⟨cell, h1, h2, h3⟩, fun k v hv _ => ?_⟩
    obtain ⟨cf, kc, i, f, cell', g1, g2, g3, g4, g5, -⟩ := h4 k v hv
    exact ⟨cf, kc, i, f, cell', g1, g2, g3, g4, g5⟩
theorem am_lw.moved {b0 : Nat} {u U : State} {H : Heap} {a : Nat} {e : am_E} (hvm : u.vm.Alike U.vm) (h : am_lw b0 u H a e) : am_lw b0 U H a e := by
  match e, h with
  | .inl (t, x), h =>
    obtain ⟨h0, h1, cell, h2, h3, h4, h5, h6, h7⟩ := h
    exact ⟨h0, h1, cell, h2, h3, State.isArrayOf_alike hvm h4, h5, h6, fun q => by rw [hvm.findClass]; exact h7 q⟩
  | .inr (ci, fs), h => exact ⟨va_O.moved hvm h.1, fun k v hv => va_OF.moved hvm (h.2 k v hv)⟩
theorem am_lw.kept {b0 : Nat} {U : State} {H H1 : Heap} {a : Nat} {e : am_E} (h : am_lw b0 U H a e) (hz : H.size ≤ H1.size) (hq : ∀ a : Nat, a < H.size → ¬ am_A b0 a → H1[a]? = H[a]?) : am_lw b0 U H1 a e := by
  match e, h with
  | .inl (t, x), h =>
    obtain ⟨h0, h1, cell, h2, h3⟩ := h
    exact ⟨h0, Nat.lt_of_lt_of_le h1 hz, cell, (hq a h1 (Nat.not_le.mpr h0)).trans h2, h3⟩
  | .inr (ci, fs), h => exact ⟨va_O.kept h.1 hq, fun k v hv => va_OF.kept (h.2 k v hv) hq⟩
/-- the heap as the machine has it, above b0 -/
def am_Rp (D : va_G) (dA : Nat → ClassId) (b0 : Nat) (hl : am_H) (σ : am_S) (H : Heap) : Prop := H.size = σ.2.1 ∧ b0 ≤ H.size ∧ (∀ a, a < b0 → σ.1 a = hl a) ∧ ∀ a e, b0 ≤ a → σ.1 a = some e → va_at D am_cl (a, am_cv dA e) H ∧ ∀ t x, e = .inl (t, x) → t < 8
/-- getClass through Collection -/
def am_Gi (U : State) : Prop := (Cond.publicMethod Stand.gcN).before #[] U = true ∧ (Cond.unhidden "java/util/ArrayList" "getClass" "()Ljava/lang/Class;").before #[] U = true ∧ ∃ (c : Nat) (k : Class) (o : Nat) (ok : Class) (i : Nat) (meth : Method), U.vm.findClass "java/util/Collection" = some c ∧ U.vm.classes[c]? = some k ∧ k.isInterface = true ∧ (∀ y, signaturePolymorphic k y = false) ∧ k.findMethod "getClass" "()Ljava/lang/Class;" = none ∧ U.vm.findClass "java/lang/Object" = some o ∧ U.vm.classes[o]? = some ok ∧ ok.findMethod "getClass" "()Ljava/lang/Class;" = some i ∧ ok.methods[i]? = some meth ∧ hasFlag meth.accessFlags Acc.public_ = true ∧ meth.isStatic = false
theorem am_Gi.moved {u U : State} (hvm : u.vm.Alike U.vm) (h : am_Gi u) : am_Gi U := by
  obtain ⟨h1, h2, c, k, o, ok, i, meth, g1, g2, g3, g4, g5, g6, g7, g8, g9, g10, g11⟩ := h
  obtain ⟨k', hk', he⟩ := hvm.2.2 _ _ g2
  obtain ⟨ok', hok', heo⟩ := hvm.2.2 _ _ g7
  have tr : ∀ {c : Cond}, c.onTables = true → c.before #[] (u.setVm U.vm) = true → c.before #[] U = true := by
    intro c hc h
    have e := Cond.onTables_vm (A := #[]) (A' := #[]) (U := u) (U' := U) U.vm c hc
    have hU : U.setVm U.vm = U := rfl
    rw [hU] at e
    rw [← e]
    exact h
  exact ⟨tr rfl (by rw [Cond.publicMethod_setVm hvm]; exact h1), tr rfl (by rw [Cond.unhidden_setVm hvm]; exact h2), c, k', o, ok', i, meth, by rw [hvm.findClass]; exact g1, hk', by rw [he]; exact g3, by rw [he]; exact g4, by rw [he]; exact g5, by rw [hvm.findClass]; exact g6, hok', by rw [heo]; exact g8, by rw [heo]; exact g9, g10, g11⟩
theorem am_Gi.of {A : Array Value} {U : State} (h1 : (Cond.publicMethod Stand.gcN).before A U = true) (h2 : (Cond.unhidden "java/util/ArrayList" "getClass" "()Ljava/lang/Class;").before A U = true) (h3 : (Cond.interfaceMethod "java/util/Collection" "java/lang/Object" "getClass" "()Ljava/lang/Class;").before A U = true) (h4 : (Cond.declares Stand.gcN).before A U = true) : am_Gi U := by
  obtain ⟨r0, r, hn, hrm, hstR, -⟩ := Cond.declares_spec h4
  obtain ⟨ok, hok, hokname⟩ := className_of_methodNamed hn
  have ho : U.vm.findClass "java/lang/Object" = some r0.cls := findClass_of_methodNamed hn
  have hi : ok.findMethod "getClass" "()Ljava/lang/Class;" = some r0.idx := findMethod_of_methodNamed (x := Stand.gcN) hn hok
  have hmO : ok.methods[r0.idx]? = some r := by simpa [Vm.method?, hok] using hrm
  have hpubR : hasFlag r.accessFlags Acc.public_ = true := Cond.publicMethod_spec hn hrm h1
  obtain ⟨cL, kL, r1, hcL, hkL, hiL, hfoundL, hn1⟩ := Cond.interfaceMethod_spec h3
  have hn1' : U.methodNamed? Stand.gcN = some r1 := hn1
  cases hn.symm.trans hn1'
  obtain ⟨kL', hkL', hnameL⟩ := Vm.findClass_spec hcL
  cases hkL.symm.trans hkL'
  have hpolyL : ∀ y, signaturePolymorphic kL y = false := fun y => by simp [signaturePolymorphic, hnameL]
  have hnone : kL.findMethod "getClass" "()Ljava/lang/Class;" = none := by
    cases hj : kL.findMethod "getClass" "()Ljava/lang/Class;" with
    | none => rfl
    | some j =>
      exfalso
      have hsome : (kL.methods[j]?).isSome := by
        obtain ⟨hlt, -, -⟩ := Array.findIdx?_eq_some_iff_getElem.mp hj
        simp [hlt]
      have h2 := State.methodFound?_declared hcL hkL hpolyL hj hsome
      rw [hfoundL] at h2
      have e1 : r0 = ⟨cL, j⟩ := Option.some.inj h2
      have e2 : r0.cls = cL := by rw [e1]
      rw [e2] at hok
      cases hkL.symm.trans hok
      exact absurd (hnameL.symm.trans hokname) (by decide)
  exact ⟨va_any rfl h1, va_any rfl h2, cL, kL, r0.cls, ok, r0.idx, r, hcL, hkL, hiL, hpolyL, hnone, ho, hok, hi, hmO, hpubR, hstR⟩
theorem am_Gi.words {A : Array Value} {U : State} (h : am_Gi U) (h4 : (Cond.declares Stand.gcN).before A U = true) (h5 : (Cond.selects "java/util/ArrayList" Stand.gcN Stand.gcN).before A U = true) : (Cond.interfaceMethod "java/util/Collection" "java/lang/Object" "getClass" "()Ljava/lang/Class;").before A U = true ∧ (Cond.selects "java/util/ArrayList" ⟨"java/util/Collection", "getClass", "()Ljava/lang/Class;"⟩ Stand.gcN).before A U = true := by
  obtain ⟨h1, h2, c, k, o, ok, i, meth, g1, g2, g3, g4, g5, g6, g7, g8, g9, g10, g11⟩ := h
  have hf := State.methodFound?_face g1 g2 g3 g4 g5 g6 g7 g8 g9 g10 g11
  obtain ⟨r0, r, hn, hrm, hstR, -⟩ := Cond.declares_spec h4
  have e0 : r0 = ⟨o, i⟩ := by
    have ho : U.vm.findClass "java/lang/Object" = some r0.cls := findClass_of_methodNamed hn
    have e1 : o = r0.cls := Option.some.inj (g6.symm.trans ho)
    have hi : ok.findMethod "getClass" "()Ljava/lang/Class;" = some r0.idx := findMethod_of_methodNamed (x := Stand.gcN) hn (by rw [← e1]; exact g7)
    have e2 : i = r0.idx := Option.some.inj (g8.symm.trans hi)
    rw [e1, e2]
  subst e0
  obtain ⟨c2, r2, m2, q1, q2, q3, q4, mk, q5, q6⟩ := Cond.selects_spec h5
  cases hn.symm.trans q3
  cases (State.methodFound?_of_named hn (by decide)).symm.trans q2
  have hn' : U.methodNamed? { cls := "java/lang/Object", name := "getClass", desc := "()Ljava/lang/Class;" } = some ⟨o, i⟩ := hn
  refine ⟨?_, ?_⟩
  · show (Cond.interfaceMethod "java/util/Collection" "java/lang/Object" "getClass" "()Ljava/lang/Class;").holds A U none U [] = true
    simp [Cond.holds, Cond.value, g1, hf, hn', g2, g3]
  · show (Cond.selects "java/util/ArrayList" ⟨"java/util/Collection", "getClass", "()Ljava/lang/Class;"⟩ Stand.gcN).holds A U none U [] = true
    simp only [Cond.holds, Cond.value]
    rw [q1, hf, hn]
    simp [q4, q5, q6]
def am_oD : List MethodName := [⟨"java/lang/RuntimeException", "<init>", "()V"⟩, ⟨"java/lang/Exception", "<init>", "()V"⟩, ⟨"java/lang/Throwable", "<init>", "()V"⟩]
/-- the words that no list carries -/
def am_Od (U : State) : Prop :=
  (∀ e ∈ am_oF, va_Nw (.fieldLinkNest e.1 e.2.1 e.2.2.1 e.2.2.2.1 e.2.2.2.2.1 e.2.2.2.2.2) U) ∧ (∀ e ∈ am_oM, va_Nw (.methodLinkNest e.1 e.2.1 e.2.2.1 e.2.2.2) U) ∧ (∀ e ∈ am_oC, va_Nw (.castable e.1 e.2) U) ∧ (∀ e ∈ am_oA, va_AO e U) ∧ (∀ e ∈ am_fw, va_Fw e.1 e.2.1 e.2.2 U) ∧ va_Dc U ∧ va_Nc "java/lang/IllegalArgumentException" "java/util/NoSuchElementException" U ∧ (∀ y ∈ am_oD, va_Nw (.declares y) U) ∧ am_Gi U
theorem am_Od.warm {s U : State} (hW : s.WarmedH U.vm) (h : am_Od s) : am_Od U := by
  obtain ⟨h1, h2, h3, h4, h5, h6, h7, h8, h9⟩ := h
  exact ⟨fun e he => va_Nw.warmF hW (h1 e he), fun e he => va_Nw.warmM hW (h2 e he), fun e he => va_Nw.warmC hW (h3 e he), fun e he => va_AO.moved hW.alike (h4 e he), fun e he => va_Fw.moved (am_fw_ok e he).2.2.2.2.2 hW.alike (h5 e he), va_Dc.moved hW.alike h6, va_Nc.moved hW.alike h7, fun y hy => va_Nw.warmD hW (h8 y hy), h9.moved hW.alike⟩
/-- the private methods of AbstractStringBuilder, selected on a StringBuilder -/
def am_Sb (U : State) : Prop := va_Nw (.selects "java/lang/StringBuilder" yJ18_ensureCapacityInternal yJ18_ensureCapacityInternal) U ∧ va_Nw (.selects "java/lang/StringBuilder" yJ18_newCapacity yJ18_newCapacity) U ∧ va_Nw (.selects "java/lang/StringBuilder" yJ18_inflate yJ18_inflate) U
theorem am_Sb.warm {s U : State} (hW : s.WarmedH U.vm) (h : am_Sb s) : am_Sb U := ⟨word_at hW (Or.inl rfl) h.1, word_at hW (Or.inl rfl) h.2.1, word_at hW (Or.inl rfl) h.2.2⟩
/-- all that holds of the tables and of the old cells, all through the run -/
def am_I (D : va_G) (dA : Nat → ClassId) (b0 : Nat) (Γ : Nat → Value) (hl : am_H) (U : State) (H : Heap) : Prop :=
  va_K D am_cl (am_tys dA) U ∧ (∀ a e, a < b0 → hl a = some e → am_lw b0 U H a e) ∧ (∀ sn, sn < 8 → va_Z (am_sf sn).1 (am_sf sn).2.1 (am_sf sn).2.2 (Γ sn) (am_A b0) U H) ∧ (∀ j e, am_str[j]? = some e → ∃ a, Γ (100 + j) = .ref a ∧ vk_R (am_nm e.1) e.2.1 e.2.2 a U) ∧ (∃ m1 m2, Γ 20 = .ref m1 ∧ va_Mi "java/util/ArrayList" m1 U ∧ Γ 21 = .ref m2 ∧ va_Mi "[Ljava/lang/Object;" m2 U) ∧ am_Od U ∧ am_Sb U ∧ vx_Zq Bundle.tN "UNASSIGNED_STACK" Bundle.steD (am_A b0) U H ∧ vx_Zq Bundle.tN "SUPPRESSED_SENTINEL" Bundle.listD (am_A b0) U H
theorem am_I.warm {D : va_G} {dA : Nat → ClassId} {b0 : Nat} {Γ : Nat → Value} {hl : am_H} {s U : State} {H : Heap} (hW : s.WarmedH U.vm) (h : am_I D dA b0 Γ hl s H) : am_I D dA b0 Γ hl U H := by
  obtain ⟨h1, h2, h3, h4, ⟨m1, m2, g1, g2, g3, g4⟩, h6, h7, h8, h9⟩ := h
  refine ⟨va_K.moved hW.alike h1, fun a e ha he => am_lw.moved hW.alike (h2 a e ha he), fun sn hs => va_Z.moved hW.alike (h3 sn hs), fun j e he => ?_, ⟨m1, m2, g1, va_Mi.moved hW.alike g2, g3, va_Mi.moved hW.alike g4⟩, h6.warm hW, h7.warm hW, vx_Zq.moved hW.alike h8, vx_Zq.moved hW.alike h9⟩
  obtain ⟨a, k1, k2⟩ := h4 j e he
  exact ⟨a, k1, vk_R.warm hW k2⟩
theorem am_I.kept {D : va_G} {dA : Nat → ClassId} {b0 : Nat} {Γ : Nat → Value} {hl : am_H} {U : State} {H H1 : Heap} (h : am_I D dA b0 Γ hl U H) (hz : H.size ≤ H1.size) (hq : ∀ a : Nat, a < H.size → ¬ am_A b0 a → H1[a]? = H[a]?) : am_I D dA b0 Γ hl U H1 := by
  obtain ⟨h1, h2, h3, h4, h5, h6, h7, h8, h9⟩ := h
  exact ⟨h1, fun a e ha he => (h2 a e ha he).kept hz hq, fun sn hs => va_Z.kept (h3 sn hs) hq, h4, h5, h6, h7, h8.kept hq, h9.kept hq⟩
theorem am_Rp.rd {D : va_G} {dA : Nat → ClassId} {b0 : Nat} {Γ : Nat → Value} {hl : am_H} {σ : am_S} {s : State} {H : Heap} {args : Array Value} (hR : am_Rp D dA b0 hl σ H) (hI : am_I D dA b0 Γ hl s H) (hts : ∀ w ∈ lw_all, w.before args s = true) {a : Nat} {e : am_E} (h : σ.1 a = some e) : am_rd s H a e := by
  by_cases ha : a < b0
  · rw [hR.2.2.1 a ha] at h
    exact (hI.2.1 a e ha h).rd
  · obtain ⟨h1, h2⟩ := hR.2.2.2 a e (Nat.not_lt.mp ha) h
    match e, h1, h2 with
    | .inl (t, x), h1, h2 =>
      have ht := h2 t x rfl
      have hA := (hI.1.2 t _ (am_tys_at dA ht)).1
      refine ⟨_, h1, ?_, ?_, ?_, ?_, ?_⟩
      · dsimp only; rw [vp_cell_eq]; exact fun q => by cases q
      · dsimp only; rw [vp_cell_eq]; exact hA _ _
      · dsimp only; rw [vp_cell_eq, arrV_size]; exact ⟨Nat.le_refl _, rfl⟩
      · intro j hj
        dsimp only; rw [vp_cell_eq]
        exact arrV_read _ _ hj
      · intro q
        subst q
        dsimp only; rw [vp_cell_eq]
        exact va_nmO (hI.1.2 4 _ (am_tys_at dA ht)).2 (by decide +kernel)
    | .inr (ci, fs), h1, h2 =>
      obtain ⟨r, g1, cell, g2, g3, g4, g5⟩ := h1
      dsimp only at g1 g2 g3 g4 g5
      obtain ⟨hin, hty, hnm, e1, e2, -, -⟩ := am_cl_ok ci r g1
      obtain ⟨hS, hfc, kC, hkC, hkind⟩ := hI.1.1 ci r g1
      refine ⟨⟨cell, g2, by rw [g4]; rfl, by rw [g3, ← e1]; exact hfc⟩, fun k v hv hkr => ?_⟩
      have hk := hkr r g1
      obtain ⟨cf, kf, fi, f, hi, hsl⟩ := hS k hk
      refine ⟨cf, kf, fi, f, cell, by rw [← e2]; exact hi, (u_facts hfc hkC (u_lays hts hin hk) hi).1, g2, by rw [g4]; exact (fun q => nomatch q), ?_⟩
      rw [hsl, g5 k hk]
      simp [vp_V, hv]
theorem am_Rp.put {D : va_G} {dA : Nat → ClassId} {b0 : Nat} {hl : am_H} {σ : am_S} {H H1 : Heap} (hR : am_Rp D dA b0 hl σ H) {a : Nat} {e : am_E} (ha : b0 ≤ a) (he : va_at D am_cl (a, am_cv dA e) H1) (ht : ∀ t x, e = .inl (t, x) → t < 8) (hz : H1.size = H.size) (hq : ∀ q, q ≠ a → H1[q]? = H[q]?) : am_Rp D dA b0 hl (am_up σ.1 a e, σ.2) H1 := by
  obtain ⟨h1, h2, h3, h4⟩ := hR
  refine ⟨hz.trans h1, by rw [hz]; exact h2, fun q hq' => ?_, fun q e' hq' he' => ?_⟩
  · show am_up σ.1 a e q = hl q
    unfold am_up
    rw [if_neg (by omega)]
    exact h3 q hq'
  · change am_up σ.1 a e q = some e' at he'
    unfold am_up at he'
    by_cases hqa : q = a
    · subst hqa
      rw [if_pos rfl] at he'
      cases he'
      exact ⟨he, ht⟩
    · rw [if_neg hqa] at he'
      obtain ⟨g1, g2⟩ := h4 q e' hq' he'
      exact ⟨va_at.kept g1 (hq q hqa), g2⟩
theorem am_Rp.new {D : va_G} {dA : Nat → ClassId} {b0 : Nat} {hl : am_H} {σ : am_S} {H H1 : Heap} (hR : am_Rp D dA b0 hl σ H) {e : am_E} {n : Nat} (he : va_at D am_cl (σ.2.1, am_cv dA e) H1) (ht : ∀ t x, e = .inl (t, x) → t < 8) (hz : H1.size = H.size + 1) (hq : ∀ q, q < H.size → H1[q]? = H[q]?) : am_Rp D dA b0 hl (am_up σ.1 σ.2.1 e, σ.2.1 + 1, σ.2.2 + n) H1 := by
  obtain ⟨h1, h2, h3, h4⟩ := hR
  refine ⟨by rw [hz, h1], by omega, fun q hq' => ?_, fun q e' hq' he' => ?_⟩
  · show am_up σ.1 σ.2.1 e q = hl q
    unfold am_up
    rw [if_neg (by omega)]
    exact h3 q hq'
  · change am_up σ.1 σ.2.1 e q = some e' at he'
    unfold am_up at he'
    by_cases hqa : q = σ.2.1
    · subst hqa
      rw [if_pos rfl] at he'
      cases he'
      exact ⟨he, ht⟩
    · rw [if_neg hqa] at he'
      obtain ⟨g1, g2⟩ := h4 q e' hq' he'
      have := va_at.lt g1
      exact ⟨va_at.kept g1 (hq q this), g2⟩
def am_Sd (D : va_G) (dA : Nat → ClassId) (b0 : Nat) (hl : am_H) (s : State) (σ : am_S) (H : Heap) (locs : List Loc) : Prop := am_Rp D dA b0 hl σ H ∧ va_S (am_A b0) s.heap H locs
theorem am_aix_ok {i : Int32} {n j : Nat} (h : am_aix i n = some j) : ¬ (i < 0 ∨ n ≤ i.toNatClampNeg) ∧ j = i.toNatClampNeg ∧ j < n := by
  unfold am_aix at h
  split at h
  · cases h
  · rename_i q
    cases h
    exact ⟨q, rfl, Nat.not_le.mp fun z => q (Or.inr z)⟩
section AMA
variable {p : Program} {l : Launch} {e : Env} {R : Room} {s : State} {m : MethodId} {args : Array Value} {below : List Frame} {meth : Method} {c : Code} {H : Heap} {locs : List Loc} {cells slots : Nat} {Q : State → Prop}
variable {cc : ByteArray} {pc : Nat} {ls : Array Slot} {D : va_G} {dA : Nat → ClassId} {b0 : Nat} {Γ : Nat → Value} {hl : am_H} {σ : am_S} {L : am_L} {S : List Value}
theorem am_cast_cls {C E : String} {s : State} (h : va_Nw (.castable C E) s) {comp c : ClassId} (hE : s.vm.findClass E = some comp) (hC : s.vm.findClass C = some c) : s.vm.assignable c comp = true := by
  obtain ⟨c1, c2, h1, h2, h3⟩ := Cond.castable_spec h
  cases h1.symm.trans hC
  cases h2.symm.trans hE
  exact h3
/-- an object that an array of type t may hold, at the machine -/
theorem am_as_ok (hI : am_I D dA b0 Γ hl s H) (hR : am_Rp D dA b0 hl σ H) (hts : ∀ w ∈ lw_all, w.before args s = true) {t v : Nat} (ht : t < 8) (h : am_as b0 t v (σ.1 v) = true) {comp : ClassId} (hc : ∀ E, am_aty t = .object E → s.vm.findClass E = some comp) : ∃ (cv : Cell) (kv : Class), H[v]? = some cv ∧ cv.vm.isStatics = false ∧ s.vm.classes[cv.cls]? = some kv ∧ s.vm.assignable cv.cls comp = true := by
  cases hv : σ.1 v with
  | none => rw [hv] at h; cases h
  | some e =>
    rw [hv] at h
    have hrd := hR.rd hI hts hv
    match e, h, hrd, hv with
    | .inr (ci, fs), h, hrd, hv =>
      obtain ⟨⟨cell, g1, g2, g3⟩, -⟩ := hrd
      obtain ⟨kv, hkv, -⟩ := Vm.findClass_spec g3
      refine ⟨cell, kv, g1, g2, hkv, ?_⟩
      have key : ∀ C E : String, (C, E) ∈ am_oC → am_nm ci = C → am_aty t = .object E → s.vm.assignable cell.cls comp = true := fun C E hm hn hE => am_cast_cls (hI.2.2.2.2.2.1.2.2.1 (C, E) hm) (hc E hE) (by rw [← hn]; exact g3)
      have same : ∀ E : String, am_nm ci = E → am_aty t = .object E → s.vm.assignable cell.cls comp = true := fun E hn hE => by
        rw [hn] at g3
        cases g3.symm.trans (hc E hE)
        exact va_asg _ _
      match t, ht, h with
      | 4, _, h =>
        match ci, h with
        | 0, _ => exact key _ _ (List.mem_of_getElem? (i := 13) rfl) rfl rfl
        | 1, _ => exact key _ _ (List.mem_of_getElem? (i := 14) rfl) rfl rfl
        | 2, _ => exact key _ _ (List.mem_of_getElem? (i := 16) rfl) rfl rfl
        | 3, _ => exact key _ _ (List.mem_of_getElem? (i := 17) rfl) rfl rfl
        | 4, _ => exact key _ _ (List.mem_of_getElem? (i := 19) rfl) rfl rfl
        | 5, _ => exact key _ _ (List.mem_of_getElem? (i := 20) rfl) rfl rfl
        | 6, _ => exact key _ _ (List.mem_of_getElem? (i := 21) rfl) rfl rfl
        | 7, _ => exact key _ _ (List.mem_of_getElem? (i := 12) rfl) rfl rfl
        | 8, _ => exact key _ _ (List.mem_of_getElem? (i := 23) rfl) rfl rfl
        | 9, _ => exact key _ _ (List.mem_of_getElem? (i := 24) rfl) rfl rfl
        | 10, _ => exact key _ _ (List.mem_of_getElem? (i := 25) rfl) rfl rfl
        | 11, _ => exact key _ _ (List.mem_of_getElem? (i := 27) rfl) rfl rfl
        | 12, _ => exact key _ _ (List.mem_of_getElem? (i := 15) rfl) rfl rfl
        | 13, _ => exact key _ _ (List.mem_of_getElem? (i := 26) rfl) rfl rfl
        | 14, h => cases h
        | 15, h => cases h
        | 16, _ => exact key _ _ (List.mem_of_getElem? (i := 22) rfl) rfl rfl
        | 17, _ => exact key _ _ (List.mem_of_getElem? (i := 11) rfl) rfl rfl
        | n + 18, h =>
          have h : (decide (n + 18 < 14) || (n + 18 == 16) || (n + 18 == 17)) = true := h
          simp only [Bool.or_eq_true, decide_eq_true_eq, beq_iff_eq] at h
          omega
      | 5, _, h =>
        have h : (ci == 8 || ci == 9 || ci == 10 || ci == 11) = true := h
        simp only [Bool.or_eq_true, beq_iff_eq] at h
        rcases h with ((h | h) | h) | h <;> subst h
        · exact key _ _ (List.mem_of_getElem? (i := 1) rfl) rfl rfl
        · exact key _ _ (List.mem_of_getElem? (i := 3) rfl) rfl rfl
        · exact key _ _ (List.mem_of_getElem? (i := 4) rfl) rfl rfl
        · exact key _ _ (List.mem_of_getElem? (i := 2) rfl) rfl rfl
      | 6, _, h =>
        have h : (ci == 7) = true := h
        rw [beq_iff_eq] at h
        subst h
        exact same _ rfl rfl
      | 7, _, h =>
        have h : (ci == 17) = true := h
        rw [beq_iff_eq] at h
        subst h
        exact same _ rfl rfl
      | 0, _, h => cases h
      | 1, _, h => cases h
      | 2, _, h => cases h
      | 3, _, h => cases h
    | .inl (t', x), h, hrd, hv =>
      have h : (t == 4 && (decide (t' < 8) && decide (b0 ≤ v))) = true := h
      simp only [Bool.and_eq_true, beq_iff_eq, decide_eq_true_eq] at h
      obtain ⟨rfl, ht', hb⟩ := h
      obtain ⟨g1, -⟩ := hR.2.2.2 v _ hb hv
      have g1 : H[v]? = some (vp_cell (dA t') x) := g1
      rw [vp_cell_eq] at g1
      have hK := (hI.1.2 t' _ (am_tys_at dA ht')).2
      have key : ∀ C, (C, "java/lang/Object") ∈ am_oC → s.vm.findClass C = some (dA t') → ∃ (cv : Cell) (kv : Class), H[v]? = some cv ∧ cv.vm.isStatics = false ∧ s.vm.classes[cv.cls]? = some kv ∧ s.vm.assignable cv.cls comp = true := by
        intro C hm hf
        obtain ⟨kv, hkv, -⟩ := Vm.findClass_spec hf
        exact ⟨_, kv, g1, rfl, hkv, am_cast_cls (hI.2.2.2.2.2.1.2.2.1 (C, _) hm) (hc _ rfl) hf⟩
      have hc8 : t' = 0 ∨ t' = 1 ∨ t' = 2 ∨ t' = 3 ∨ t' = 4 ∨ t' = 5 ∨ t' = 6 ∨ t' = 7 := by omega
      rcases hc8 with rfl | rfl | rfl | rfl | rfl | rfl | rfl | rfl
      · exact key "[I" (List.mem_of_getElem? (i := 31) rfl) (va_nm_int hK)
      · exact key "[B" (List.mem_of_getElem? (i := 32) rfl) (va_nm_byte hK)
      · exact key "[Z" (List.mem_of_getElem? (i := 36) rfl) (va_nm_boolean hK)
      · exact key "[J" (List.mem_of_getElem? (i := 37) rfl) (va_nm_long hK)
      · exact key "[Ljava/lang/Object;" (List.mem_of_getElem? (i := 33) rfl) (va_nmO hK (by decide +kernel))
      · exact key "[LValleyMass$Form;" (List.mem_of_getElem? (i := 30) rfl) (va_nmO hK (by decide +kernel))
      · exact key "[LValleyMass$Row;" (List.mem_of_getElem? (i := 35) rfl) (va_nmO hK (by decide +kernel))
      · exact key "[Ljava/lang/String;" (List.mem_of_getElem? (i := 34) rfl) (va_nmO hK (by decide +kernel))
theorem am_gI_ok {h : am_H} {a : Nat} {i : Int32} {v : Value} (q : am_gI h a i = some v) : ∃ n f j, h a = some (.inl (0, n, .inl f)) ∧ am_aix i n = some j ∧ v = .int (f j) := by
  unfold am_gI at q
  split at q
  · rename_i n f hf
    split at q
    · rename_i j hj
      exact ⟨n, f, j, hf, hj, (Option.some.inj q).symm⟩
    · cases q
  · cases q
theorem am_gB_ok {h : am_H} {a : Nat} {i : Int32} {v : Value} (q : am_gB h a i = some v) : ∃ n f j, (h a = some (.inl (1, n, .inl f)) ∨ h a = some (.inl (2, n, .inl f))) ∧ am_aix i n = some j ∧ v = .int (f j) := by
  unfold am_gB at q
  split at q
  · rename_i n f hf
    split at q
    · rename_i j hj
      exact ⟨n, f, j, Or.inl hf, hj, (Option.some.inj q).symm⟩
    · cases q
  · rename_i n f hf
    split at q
    · rename_i j hj
      exact ⟨n, f, j, Or.inr hf, hj, (Option.some.inj q).symm⟩
    · cases q
  · cases q
theorem am_gJ_ok {h : am_H} {a : Nat} {i : Int32} {v : Value} (q : am_gJ h a i = some v) : ∃ n f j, h a = some (.inl (3, n, .inr (.inl f))) ∧ am_aix i n = some j ∧ v = .long (f j) := by
  unfold am_gJ at q
  split at q
  · rename_i n f hf
    split at q
    · rename_i j hj
      exact ⟨n, f, j, hf, hj, (Option.some.inj q).symm⟩
    · cases q
  · cases q
theorem am_gQ_ok {h : am_H} {a : Nat} {i : Int32} {v : Value} (q : am_gQ h a i = some v) : ∃ t n f j, h a = some (.inl (t + 4, n, .inr (.inr (.inr (.inr f))))) ∧ am_aix i n = some j ∧ v = va_rf (f j) := by
  unfold am_gQ at q
  split at q
  · rename_i t n f hf
    split at q
    · rename_i j hj
      exact ⟨t, n, f, j, hf, hj, (Option.some.inj q).symm⟩
    · cases q
  · cases q
theorem am_lda_ok {g : am_H → Nat → Int32 → Option Value} {f' : am_F} (q : am_lda pc L S σ g = some f') : ∃ i a S' v, S = .int i :: .ref a :: S' ∧ g σ.1 a i = some v ∧ f' = ((pc + 1, L, v :: S'), σ) := by
  unfold am_lda at q
  split at q
  · split at q
    · rename_i v hv
      exact ⟨_, _, _, v, rfl, hv, (Option.some.inj q).symm⟩
    · cases q
  · cases q
theorem am_put_ok {h : Option am_H} {f' : am_F} (q : am_put pc L S σ h = some f') : ∃ h', h = some h' ∧ f' = ((pc + 1, L, S), h', σ.2) := by
  unfold am_put at q
  split at q
  · exact ⟨_, rfl, (Option.some.inj q).symm⟩
  · cases q
theorem am_aty_ref (t : Nat) : (am_aty (t + 4)).isReference = true := by
  match t with
  | 0 => rfl
  | 1 => rfl
  | 2 => rfl
  | 3 => rfl
  | n + 4 => rfl
theorem am_upV_i {n : Nat} (f : Nat → Int32) (j : Nat) (x : Int32) : am_vf (n, .inl (upd f j x)) = updV (am_vf (n, .inl f)) j (.int x) := by
  funext q
  by_cases hq : q = j
  · subst hq
    simp [am_vf, updV, upd]
  · simp [am_vf, updV, upd, hq]
theorem am_upV_j {n : Nat} (f : Nat → Int64) (j : Nat) (x : Int64) : am_vf (n, .inr (.inl (vp_updL f j x))) = updV (am_vf (n, .inr (.inl f))) j (.long x) := by
  funext q
  by_cases hq : q = j
  · subst hq
    simp [am_vf, updV, vp_updL]
  · simp [am_vf, updV, vp_updL, hq]
theorem am_upV_q {n : Nat} (f : Nat → Option Nat) (j : Nat) (x : Option Nat) : am_vf (n, .inr (.inr (.inr (.inr (va_up f j x))))) = updV (am_vf (n, .inr (.inr (.inr (.inr f))))) j (va_rf x) := by
  funext q
  by_cases hq : q = j
  · subst hq
    simp [am_vf, updV, va_up]
  · simp [am_vf, updV, va_up, hq]
/-- behind a store into an array of the run's own -/
theorem am_sto (hS : am_Sd D dA b0 hl s σ H locs) {a t n j : Nat} {x x' : (Nat → Int32) ⊕ (Nat → Int64) ⊕ (Nat → UInt32) ⊕ (Nat → UInt64) ⊕ (Nat → Option Nat)} (ha : b0 ≤ a) (he : σ.1 a = some (.inl (t, n, x))) {v : Value} (hx : am_vf (n, x') = updV (am_vf (n, x)) j v) {H' : Heap} (h1 : H'[a]? = some ((arrV (dA t) n (am_vf (n, x))).setSlot j v)) (hz : H'.size = H.size) (hq : ∀ q, q ≠ a → H'[q]? = H[q]?) : am_Sd D dA b0 hl s (am_up σ.1 a (.inl (t, n, x')), σ.2) H' (locs ++ [⟨a, j⟩]) := by
  refine ⟨hS.1.put ha ?_ (fun t' x h => ?_) hz hq, hS.2.put hz hq ha⟩
  · show H'[a]? = some (vp_cell (dA t) (n, x'))
    rw [vp_cell_eq, h1, arrV_store, hx]
  · cases h
    exact (hS.1.2.2.2 a _ ha he).2 _ _ rfl
theorem am_own (hS : am_Sd D dA b0 hl s σ H locs) {a t : Nat} {x : vp_A} (ha : b0 ≤ a) (he : σ.1 a = some (.inl (t, x))) : H[a]? = some (arrV (dA t) x.1 (am_vf x)) ∧ t < 8 := by
  obtain ⟨h1, h2⟩ := hS.1.2.2.2 a _ ha he
  refine ⟨?_, h2 t x rfl⟩
  have h1 : H[a]? = some (vp_cell (dA t) x) := h1
  rw [vp_cell_eq] at h1
  exact h1
theorem am_arr_W (hexec : p.tables.exec = Jvm.exec) (hb : c.code = cc) (hts : ∀ w ∈ lw_all, w.before args s = true) (hI : am_I D dA b0 Γ hl s s.heap) {i : Instr} {len : Nat} (hd : decode cc pc = .ok (i, len)) (hS : am_Sd D dA b0 hl s σ H locs) (hL : am_LR ls L) {f' : am_F} (h : am_arr b0 i len pc L S σ = some f')
    (k : ∀ H' locs' ls', am_Sd D dA b0 hl s f'.2 H' locs' → am_LR ls' f'.1.2.1 → W p l e R s m args below meth c H' locs' cells slots Q (F0 m f'.1.1 ls' f'.1.2.2)) : W p l e R s m args below meth c H locs cells slots Q (F0 m pc ls S) := by
  have hIH : am_I D dA b0 Γ hl s H := hI.kept hS.2.1 hS.2.2.1
  have rd : ∀ {a : Nat} {e : am_E}, σ.1 a = some e → am_rd s H a e := fun q => hS.1.rd hIH hts q
  cases i with
  | arraylength =>
    replace h := am_g_some h
    obtain ⟨e0, h⟩ := h
    subst e0
    split at h
    · rename_i a S'
      split at h
      · rename_i n hn
        cases h
        unfold am_len at hn
        split at hn
        · rename_i t n' x hv
          cases hn
          obtain ⟨cell, g1, g2, g3, g4, -⟩ := rd hv
          exact W.alen (n := Int32.ofNat n) hexec hb g1 g3 g4.2 rfl rfl hd (k _ _ _ hS hL)
        · cases hn
      · cases h
    · cases h
  | iaload =>
    replace h := am_g_some h
    obtain ⟨e0, h⟩ := h
    subst e0
    obtain ⟨i, a, S', v, rfl, hv, rfl⟩ := am_lda_ok h
    obtain ⟨n, f, j, h1, h2, rfl⟩ := am_gI_ok hv
    obtain ⟨q1, rfl, q3⟩ := am_aix_ok h2
    obtain ⟨cell, g1, g2, g3, g4, g5⟩ := rd h1
    exact W.iald hexec hb g1 g3 g2 (fun z => q1 (z.elim Or.inl fun w => Or.inr (Nat.le_trans g4.1 w))) (g5.1 _ q3) rfl rfl hd (k _ _ _ hS hL)
  | baload =>
    replace h := am_g_some h
    obtain ⟨e0, h⟩ := h
    subst e0
    obtain ⟨i, a, S', v, rfl, hv, rfl⟩ := am_lda_ok h
    obtain ⟨n, f, j, h1, h2, rfl⟩ := am_gB_ok hv
    obtain ⟨q1, rfl, q3⟩ := am_aix_ok h2
    rcases h1 with h1 | h1
    · obtain ⟨cell, g1, g2, g3, g4, g5⟩ := rd h1
      exact W.bald hexec hb g1 g3 g2 (fun z => q1 (z.elim Or.inl fun w => Or.inr (Nat.le_trans g4.1 w))) (g5.1 _ q3) rfl rfl hd (k _ _ _ hS hL)
    · obtain ⟨cell, g1, g2, g3, g4, g5⟩ := rd h1
      exact W.zald hexec hb g1 g3 g2 (fun z => q1 (z.elim Or.inl fun w => Or.inr (Nat.le_trans g4.1 w))) (g5.1 _ q3) rfl rfl hd (k _ _ _ hS hL)
  | laload =>
    replace h := am_g_some h
    obtain ⟨e0, h⟩ := h
    subst e0
    obtain ⟨i, a, S', v, rfl, hv, rfl⟩ := am_lda_ok h
    obtain ⟨n, f, j, h1, h2, rfl⟩ := am_gJ_ok hv
    obtain ⟨q1, rfl, q3⟩ := am_aix_ok h2
    obtain ⟨cell, g1, g2, g3, g4, g5⟩ := rd h1
    exact W.lald hexec hb g1 g3 g2 (fun z => q1 (z.elim Or.inl fun w => Or.inr (Nat.le_trans g4.1 w))) (g5.1 _ q3) rfl rfl hd (k _ _ _ hS hL)
  | aaload =>
    replace h := am_g_some h
    obtain ⟨e0, h⟩ := h
    subst e0
    obtain ⟨i, a, S', v, rfl, hv, rfl⟩ := am_lda_ok h
    obtain ⟨t, n, f, j, h1, h2, rfl⟩ := am_gQ_ok hv
    obtain ⟨q1, rfl, q3⟩ := am_aix_ok h2
    obtain ⟨cell, g1, g2, g3, g4, g5⟩ := rd h1
    exact W.aald hexec hb g1 g3 (am_aty_ref t) g2 (fun z => q1 (z.elim Or.inl fun w => Or.inr (Nat.le_trans g4.1 w))) (g5.1 _ q3) rfl rfl hd (k _ _ _ hS hL)
  | iastore =>
    replace h := am_g_some h
    obtain ⟨e0, h⟩ := h
    subst e0
    split at h
    · rename_i x i a S'
      split at h
      · rename_i ha
        obtain ⟨h', h1, rfl⟩ := am_put_ok h
        unfold am_sI at h1
        split at h1
        · rename_i n f hf
          split at h1
          · rename_i j hj
            cases h1
            obtain ⟨q1, rfl, q3⟩ := am_aix_ok hj
            obtain ⟨g1, g2⟩ := am_own hS ha hf
            exact W.iast hexec hb g1 ((hI.1.2 0 _ rfl).1 _ _) (fun q => by cases q) (by rw [arrV_size]; exact q1) rfl rfl hd (fun H' e z oq => k _ _ _ (am_sto hS ha hf (am_upV_i _ _ _) e z oq) hL)
          · cases h1
        · cases h1
      · cases h
    · cases h
  | lastore =>
    replace h := am_g_some h
    obtain ⟨e0, h⟩ := h
    subst e0
    split at h
    · rename_i x i a S'
      split at h
      · rename_i ha
        obtain ⟨h', h1, rfl⟩ := am_put_ok h
        unfold am_sJ at h1
        split at h1
        · rename_i n f hf
          split at h1
          · rename_i j hj
            cases h1
            obtain ⟨q1, rfl, q3⟩ := am_aix_ok hj
            obtain ⟨g1, g2⟩ := am_own hS ha hf
            exact W.last hexec hb g1 ((hI.1.2 3 _ rfl).1 _ _) (fun q => by cases q) (by rw [arrV_size]; exact q1) rfl rfl hd (fun H' e z oq => k _ _ _ (am_sto hS ha hf (am_upV_j _ _ _) e z oq) hL)
          · cases h1
        · cases h1
      · cases h
    · cases h
  | bastore =>
    replace h := am_g_some h
    obtain ⟨e0, h⟩ := h
    subst e0
    split at h
    · rename_i x i a S'
      split at h
      · rename_i ha
        obtain ⟨h', h1, rfl⟩ := am_put_ok h
        unfold am_sB at h1
        split at h1
        · rename_i n f hf
          split at h1
          · rename_i j hj
            cases h1
            obtain ⟨q1, rfl, q3⟩ := am_aix_ok hj
            obtain ⟨g1, g2⟩ := am_own hS ha hf
            exact W.bast hexec hb g1 ((hI.1.2 1 _ rfl).1 _ _) (fun q => by cases q) (by rw [arrV_size]; exact q1) rfl rfl hd (fun H' e z oq => k _ _ _ (am_sto hS ha hf (am_upV_i _ _ _) e z oq) hL)
          · cases h1
        · rename_i n f hf
          split at h1
          · rename_i j hj
            cases h1
            obtain ⟨q1, rfl, q3⟩ := am_aix_ok hj
            obtain ⟨g1, g2⟩ := am_own hS ha hf
            exact W.zast hexec hb g1 ((hI.1.2 2 _ rfl).1 _ _) (fun q => by cases q) (by rw [arrV_size]; exact q1) rfl rfl hd (fun H' e z oq => k _ _ _ (am_sto hS ha hf (am_upV_i _ _ _) e z oq) hL)
          · cases h1
        · cases h1
      · cases h
    · cases h
  | aastore =>
    replace h := am_g_some h
    obtain ⟨e0, h⟩ := h
    subst e0
    have obj : ∀ t, t + 4 < 8 → ∃ E, am_aty (t + 4) = .object E := by
      intro t ht
      match t, ht with
      | 0, _ => exact ⟨_, rfl⟩
      | 1, _ => exact ⟨_, rfl⟩
      | 2, _ => exact ⟨_, rfl⟩
      | 3, _ => exact ⟨_, rfl⟩
    split at h
    · rename_i v i a S'
      split at h
      · rename_i ha
        obtain ⟨h', h1, rfl⟩ := am_put_ok h
        unfold am_sQ at h1
        split at h1
        · rename_i t n f hf
          split at h1
          · rename_i hv
            split at h1
            · rename_i j hj
              cases h1
              obtain ⟨q1, rfl, q3⟩ := am_aix_ok hj
              obtain ⟨g1, g2⟩ := am_own hS ha hf
              obtain ⟨E, hE⟩ := obj t g2
              have hra := (hI.1.2 (t + 4) _ (am_tys_at dA g2)).2
              rw [hE] at hra
              obtain ⟨kA, comp, k1, k2, k3, -⟩ := hra
              obtain ⟨kE, hkE, -⟩ := Vm.findClass_spec k3
              obtain ⟨cv, kv, w1, w2, w3, w4⟩ := am_as_ok hIH hS.1 hts g2 hv (comp := comp) (fun E' hE' => by rw [hE] at hE'; cases hE'; exact k3)
              exact W.aast hexec hb g1 (fun q h => by cases h) (fun h => by cases h) k1 k2 rfl hkE ⟨fun z => q1 (Or.inl z), by rw [arrV_size]; exact q3⟩ w1 (fun q h => by rw [h] at w2; cases w2) w3 w4 rfl rfl hd (fun H' e z oq => k _ _ _ (am_sto hS ha hf (am_upV_q _ _ _) e z oq) hL)
            · cases h1
          · cases h1
        · cases h1
      · cases h
    · rename_i i a S'
      split at h
      · rename_i ha
        obtain ⟨h', h1, rfl⟩ := am_put_ok h
        unfold am_sQ at h1
        split at h1
        · rename_i t n f hf
          split at h1
          · split at h1
            · rename_i j hj
              cases h1
              obtain ⟨q1, rfl, q3⟩ := am_aix_ok hj
              obtain ⟨g1, g2⟩ := am_own hS ha hf
              obtain ⟨E, hE⟩ := obj t g2
              have hr := (hI.1.2 (t + 4) _ (am_tys_at dA g2)).1
              rw [hE] at hr
              exact va_WaastN hexec hb g1 (hr _ _) (fun h => by cases h) (by rw [arrV_size]; exact q1) rfl rfl hd (fun H' e z oq => k _ _ _ (am_sto hS ha hf (am_upV_q _ _ _) e z oq) hL)
            · cases h1
          · cases h1
        · cases h1
      · cases h
    · cases h
  | _ => cases h
end AMA
