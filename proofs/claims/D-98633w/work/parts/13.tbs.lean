/-! SOUNDNESS 3: instructions that read the tables, but for calls and ends -/
set_option maxRecDepth 100000
theorem am_find_ok {α : Type} {l : List α} {q : α → Bool} {x : α} (h : l.find? q = some x) : x ∈ l ∧ q x = true := ⟨List.mem_of_find?_eq_some h, List.find?_some h⟩
theorem am_fe_ok {o idx ci : Nat} {x : Nat × Nat × Nat × Nat} (h : am_fe o idx ci = some x) : am_fOk o x ∧ x.1 = idx ∧ x.2.1 = ci := by
  obtain ⟨h1, h2⟩ := am_find_ok h
  simp only [Bool.and_eq_true, beq_iff_eq] at h2
  exact ⟨am_tf_ok o x h1, h2.1, h2.2⟩
theorem am_fk_ok {o idx ci k : Nat} (h : am_fk o idx ci = some k) : ∃ x, am_fe o idx ci = some x ∧ x.2.2.1 = k := by
  unfold am_fk at h
  obtain ⟨x, h1, h2⟩ := Option.map_eq_some_iff.mp h
  exact ⟨x, h1, h2⟩
theorem am_gF_ok {h : am_H} {a o idx : Nat} {v : Value} (q : am_gF h a o idx = some v) : ∃ ci fs k, h a = some (.inr (ci, fs)) ∧ am_fk o idx ci = some k ∧ fs[k]? = some v := by
  unfold am_gF at q
  split at q
  · rename_i ci fs hf
    split at q
    · rename_i k hk
      exact ⟨ci, fs, k, hf, hk, q⟩
    · cases q
  · cases q
theorem am_ce_ok {o idx kind v : Nat} (h : am_ce o idx kind = some v) : am_cOk o (idx, kind, v) := by
  unfold am_ce at h
  obtain ⟨x, h1, h2⟩ := Option.map_eq_some_iff.mp h
  obtain ⟨g1, g2⟩ := am_find_ok h1
  simp only [Bool.and_eq_true, beq_iff_eq] at g2
  have := am_tc_ok o x g1
  obtain ⟨x1, x2, x3⟩ := x
  dsimp only at g2 h2
  rw [← g2.1, ← g2.2, ← h2]
  exact this
theorem am_clink {o idx ci : Nat} (h : am_ce o idx 0 = some ci) : Cond.classLink (am_nm o) idx (am_nm ci) ∈ lw_all := by
  rcases am_ce_ok h with ⟨-, q⟩ | ⟨q, -⟩ | ⟨q, -⟩ | ⟨q, -⟩
  · exact q
  · cases q
  · cases q
  · cases q
theorem am_okv_ok {ty : FieldType} {v : Value} (h : am_okv ty v = true) : narrow ty v = v ∧ fits ty v = true := by
  unfold am_okv at h
  rw [Bool.and_eq_true, decide_eq_true_eq] at h
  exact h
section AMT
variable {p : Program} {l : Launch} {e : Env} {R : Room} {s : State} {m : MethodId} {args : Array Value} {below : List Frame} {meth : Method} {c : Code} {H : Heap} {locs : List Loc} {cells slots : Nat} {Q : State → Prop}
variable {cc : ByteArray} {pc : Nat} {ls : Array Slot} {D : va_G} {dA : Nat → ClassId} {b0 : Nat} {Γ : Nat → Value} {hl : am_H} {σ : am_S} {L : am_L} {S rest : List Value} {o : Nat}
theorem am_getf_W (hexec : p.tables.exec = Jvm.exec) (hb : c.code = cc) (hts : ∀ w ∈ lw_all, w.before args s = true) (hown : s.vm.findClass (am_nm o) = some m.cls) (hI : am_I D dA b0 Γ hl s s.heap) {idx a : Nat} {v : Value} (hd : decode cc pc = .ok (.getfield idx, 3)) (hS : am_Sd D dA b0 hl s σ H locs) (h : am_gF σ.1 a o idx = some v)
    (k : W p l e R s m args below meth c H locs cells slots Q (F0 m (pc + 3) ls (v :: rest))) : W p l e R s m args below meth c H locs cells slots Q (F0 m pc ls (.ref a :: rest)) := by
  have hIH : am_I D dA b0 Γ hl s H := hI.kept hS.2.1 hS.2.2.1
  obtain ⟨ci, fs, kk, h1, h2, h3⟩ := am_gF_ok h
  obtain ⟨x, h4, rfl⟩ := am_fk_ok h2
  obtain ⟨⟨f1, f2⟩, rfl, rfl⟩ := am_fe_ok h4
  obtain ⟨-, hrd⟩ := hS.1.rd hIH hts h1
  obtain ⟨cf, kc, i, f, cell, g1, g2, g3, g4, g5⟩ := hrd _ v h3 (fun r hr => by
    by_cases hc : x.2.1 < 16
    · obtain ⟨r', q1, -, -, q2⟩ := f1 hc
      cases q1.symm.trans hr
      exact q2
    · exact absurd (List.getElem?_eq_some_iff.mp hr).1 hc)
  rcases f2 with ⟨-, ref, q1, q2⟩ | ⟨-, host, q1⟩
  · refine W.getf hexec hb hown (hts _ q1) (cf := cf) (i := i) (k := kc) (f := f) ?_ g2 g3 g4 g5 rfl rfl hd k
    rcases q2 with rfl | q2
    · exact g1
    · exact u_same (hts _ q2) _ g1
  · exact va_Wgetf hexec hb hown (va_Nw.use rfl (hI.2.2.2.2.2.1.1 _ q1)) g1 g2 g3 g4 g5 rfl rfl hd k
theorem am_pF_ok {h h' : am_H} {a o idx : Nat} {isI : Bool} {v : Value} (q : am_pF h a o idx isI v = some h') : ∃ ci fs x, h a = some (.inr (ci, fs)) ∧ am_fe o idx ci = some x ∧ (x.2.2.2 = 1 ∧ (am_ft ci x.2.2.1).2.2.2 = false ∨ x.2.2.2 = 0 ∧ ((am_ft ci x.2.2.1).2.2.2 = false ∨ isI = true ∧ (am_ft ci x.2.2.1).1 = am_nm o)) ∧ am_okv (am_ty ci x.2.2.1) v = true ∧ x.2.2.1 < fs.length ∧ h' = am_up h a (.inr (ci, fs.set x.2.2.1 v)) := by
  unfold am_pF at q
  split at q
  · rename_i ci fs hf
    split at q
    · rename_i x hx
      split at q
      · rename_i hc
        exact ⟨ci, fs, x, hf, hx, hc.1, hc.2.1, hc.2.2, (Option.some.inj q).symm⟩
      · cases q
    · cases q
  · cases q
theorem am_putf_W (hexec : p.tables.exec = Jvm.exec) (hb : c.code = cc) (hts : ∀ w ∈ lw_all, w.before args s = true) (hown : s.vm.findClass (am_nm o) = some m.cls) (hI : am_I D dA b0 Γ hl s s.heap) {idx a : Nat} {v : Value} {isI : Bool} (hisI : isI = true → meth.name = "<init>") (hd : decode cc pc = .ok (.putfield idx, 3)) (hS : am_Sd D dA b0 hl s σ H locs) (ha : b0 ≤ a) {h' : am_H} (h : am_pF σ.1 a o idx isI v = some h')
    (k : ∀ H' locs', am_Sd D dA b0 hl s (h', σ.2) H' locs' → W p l e R s m args below meth c H' locs' cells slots Q (F0 m (pc + 3) ls rest)) : W p l e R s m args below meth c H locs cells slots Q (F0 m pc ls (v :: .ref a :: rest)) := by
  obtain ⟨ci, fs, x, h1, h2, h3, h4, h5, rfl⟩ := am_pF_ok h
  obtain ⟨⟨f1, f2⟩, rfl, rfl⟩ := am_fe_ok h2
  obtain ⟨hn, hfit⟩ := am_okv_ok h4
  obtain ⟨r, q0, cell, q1, q2, q3, q4⟩ := (hS.1.2.2.2 a _ ha h1).1
  dsimp only at q0 q1 q2 q3 q4
  obtain ⟨hin, hty, hnm, e1, e2, -, -⟩ := am_cl_ok _ r q0
  have hk : x.2.2.1 < r.2.2 := by
    have hc : x.2.1 < 16 := (List.getElem?_eq_some_iff.mp q0).1
    obtain ⟨r', w1, -, -, w2⟩ := f1 hc
    cases w1.symm.trans q0
    exact w2
  rw [← e2] at h3 f2
  have hap := va_apart (own := am_nm o) hts hin (am_ty x.2.1) hty hnm hI.1 q0
  obtain ⟨hSl, hfc, kC, hkC, hkind⟩ := hI.1.1 _ r q0
  obtain ⟨cf, kf, fi, f, hi, hsl⟩ := hSl _ hk
  have hlay := hts _ (hin _ (u_in_lay hk))
  unfold u_lay at hlay
  have hst := (u_facts hfc hkC (u_lays hts hin hk) hi).1
  have fin : ∀ H', H'[a]? = some (cell.setSlot (D.2 x.2.1 x.2.2.1) v) → H'.size = H.size → (∀ q, q ≠ a → H'[q]? = H[q]?) → am_Sd D dA b0 hl s (am_up σ.1 a (.inr (x.2.1, fs.set x.2.2.1 v)), σ.2) H' (locs ++ [⟨a, D.2 x.2.1 x.2.2.1⟩]) := by
    intro H' w1 w2 w3
    refine ⟨hS.1.put ha ⟨r, q0, t_OB.to (V := updV (vp_V fs) x.2.2.1 v) ⟨_, w1, q2, q3, t_set q4 hap hk v⟩ (fun j _ => vp_updV_set h5 v j)⟩ (fun t x h => by cases h) w2 w3, hS.2.put w2 w3 ha⟩
  have hlt : f.slot < cell.slots.size := by rw [hsl]; exact k2_hasslot (q4 _ hk)
  by_cases hfin : (r.2.1 x.2.2.1).2.2.2 = true
  · rcases h3 with ⟨-, z⟩ | ⟨z0, z | ⟨z1, z2⟩⟩
    · rw [hfin] at z; cases z
    · rw [hfin] at z; cases z
    · rcases f2 with ⟨-, ref, w1, w2⟩ | ⟨z3, -⟩
      · rw [if_pos hfin] at hlay
        have hcf : m.cls = cf := by
          obtain ⟨_, _, c', _, _, _, -, -, hf', -, -, -, hown2, -⟩ := Cond.laysFinal_spec hlay
          have e1 : c' = cf := by have := hi.symm.trans hf'; simp at this; exact this.1.symm
          rw [z2] at hown2
          rw [← e1]; exact Option.some.inj (hown.symm.trans hown2)
        have h6 := u_fits hfc hkC hkind (Or.inr hlay) hi (hty _ hk) hn hfit
        refine W.putFinK hexec hb hown (hts _ w1) (cf := cf) (i := fi) (k := kf) (f := f) ?_ hst hcf (hisI z1) (by rw [q2]; exact h6) q1 q3 hlt rfl rfl hd fun H' e1 e2 e3 => ?_
        · rcases w2 with rfl | w2
          · exact hi
          · exact u_same (hts _ w2) _ hi
        · rw [hsl] at e1 ⊢
          exact k H' _ (fin H' e1 e2 e3)
      · rw [z0] at z3; cases z3
  · rw [if_neg hfin] at hlay
    have h6 := u_store hfc hkC hkind hlay hi (hty _ hk) hn hfit
    rcases f2 with ⟨-, ref, w1, w2⟩ | ⟨-, host, w1⟩
    · refine W.putK hexec hb (f := f) (own := am_nm o) (ref := ref) ⟨hown, hts _ w1, ⟨cf, kf, fi, ?_⟩, hst⟩ (by rw [q2]; exact h6) q1 q3 hlt rfl rfl hd fun H' e1 e2 e3 => ?_
      · rcases w2 with rfl | w2
        · exact hi
        · exact u_same (hts _ w2) _ hi
      · rw [hsl] at e1 ⊢
        exact k H' _ (fin H' e1 e2 e3)
    · refine va_WputK hexec hb (f := f) hown (va_Nw.use rfl (hI.2.2.2.2.2.1.1 _ w1)) hi hst (by rw [q2]; exact h6) q1 q3 hlt rfl rfl hd fun H' e1 e2 e3 => ?_
      rw [hsl] at e1 ⊢
      exact k H' _ (fin H' e1 e2 e3)
theorem am_gets_W (hexec : p.tables.exec = Jvm.exec) (hb : c.code = cc) (hts : ∀ w ∈ lw_all, w.before args s = true) (hown : s.vm.findClass (am_nm o) = some m.cls) (hI : am_I D dA b0 Γ hl s s.heap) {idx : Nat} {x : Nat × Nat} (hd : decode cc pc = .ok (.getstatic idx, 3)) (hS : am_Sd D dA b0 hl s σ H locs) (h : (am_ts o).find? (fun e => e.1 == idx) = some x) (h8 : x.2 < 8)
    (k : W p l e R s m args below meth c H locs cells slots Q (F0 m (pc + 3) ls (Γ x.2 :: rest))) : W p l e R s m args below meth c H locs cells slots Q (F0 m pc ls rest) := by
  obtain ⟨h1, h2⟩ := am_find_ok h
  rw [beq_iff_eq] at h2
  subst h2
  exact va_gets hexec hb (hI.2.2.1 _ h8) hS.2 hown (hts _ (am_ts_ok o x h1)) (fun _ z => z) hd k
theorem am_ldc_W (hexec : p.tables.exec = Jvm.exec) (hb : c.code = cc) (hts : ∀ w ∈ lw_all, w.before args s = true) (hown : s.vm.findClass (am_nm o) = some m.cls) (hI : am_I D dA b0 Γ hl s s.heap) {idx : Nat} {v : Value} (h : am_ldc Γ o idx = some v) :
    (decode cc pc = .ok (.ldc idx, 2) → W p l e R s m args below meth c H locs cells slots Q (F0 m (pc + 2) ls (v :: rest)) → W p l e R s m args below meth c H locs cells slots Q (F0 m pc ls rest)) ∧
    ((o = 12 ∧ idx = 10) ∨ (o = 12 ∧ idx = 56) ∨ (o = 22 ∧ idx = 110) ∨ (decode cc pc = .ok (.ldc_w idx, 3) → W p l e R s m args below meth c H locs cells slots Q (F0 m (pc + 3) ls (v :: rest)) → W p l e R s m args below meth c H locs cells slots Q (F0 m pc ls rest))) := by
  unfold am_ldc at h
  split at h
  · rename_i j hj
    cases h
    obtain ⟨hlt, hp, -⟩ := List.findIdx?_eq_some_iff_getElem.mp hj
    simp only [Bool.and_eq_true, beq_iff_eq] at hp
    obtain ⟨rfl, rfl⟩ := hp
    obtain ⟨a, k1, k2⟩ := hI.2.2.2.1 j _ (List.getElem?_eq_getElem hlt)
    rw [k1]
    refine ⟨fun hd k => va_ldcS hexec hb hown k2 hd k, Or.inr (Or.inr (Or.inr (fun hd k => ?_)))⟩
    intro T hT X
    obtain ⟨t, a1, b1⟩ := k T hT X
    exact ⟨t, X.ldcStringW hexec hown (a := a) k2.1 k2.2 (g := F0 m pc ls rest) rfl (by rw [hb]; exact hd) t a1, b1⟩
  · split at h
    · rename_i x hx
      cases h
      obtain ⟨h1, h2⟩ := am_find_ok hx
      simp only [Bool.and_eq_true, beq_iff_eq] at h2
      obtain ⟨rfl, rfl⟩ := h2
      exact ⟨fun hd k => lv_ldc hexec hb hown (hts _ (am_con_ok x h1)) hd k, Or.inr (Or.inr (Or.inr (fun hd k => lv_ldcw hexec hb hown (hts _ (am_con_ok x h1)) hd k)))⟩
    · obtain ⟨m1, m2, g1, g2, g3, g4⟩ := hI.2.2.2.2.1
      split at h
      · rename_i hc
        obtain ⟨rfl, rfl⟩ := hc
        cases h
        rw [g1]
        exact ⟨fun hd k => va_ldcM hexec hb hown (hts _ (am_clink (o := 12) (idx := 10) (ci := 12) (by decide +kernel))) g2 hd k, Or.inl ⟨rfl, rfl⟩⟩
      · split at h
        · rename_i hc
          cases h
          rw [g3]
          rcases hc with ⟨rfl, rfl⟩ | ⟨rfl, rfl⟩
          · exact ⟨fun hd k => va_ldcM hexec hb hown (hts _ q655) g4 hd k, Or.inr (Or.inl ⟨rfl, rfl⟩)⟩
          · exact ⟨fun hd k => va_ldcM hexec hb hown (hts _ q362) g4 hd k, Or.inr (Or.inr (Or.inl ⟨rfl, rfl⟩))⟩
        · cases h
theorem am_nar_ok {t w : Nat} {z : (Nat → Int32) ⊕ (Nat → Int64) ⊕ (Nat → UInt32) ⊕ (Nat → UInt64) ⊕ (Nat → Option Nat)} {y : am_F ⊕ am_O} (h : am_nar pc L S σ t w z = some y) : ∃ n S', S = .int n :: S' ∧ ¬ n < 0 ∧ n.toNatClampNeg * 8 ≤ 536870912 ∧ y = .inl ((pc + w, L, .ref σ.2.1 :: S'), am_up σ.1 σ.2.1 (.inl (t, n.toNatClampNeg, z)), σ.2.1 + 1, σ.2.2 + n.toNatClampNeg) := by
  unfold am_nar at h
  split at h
  · split at h
    · cases h
    · rename_i n S' hc
      exact ⟨n, S', rfl, fun q => hc (Or.inl q), Nat.not_lt.mp fun q => hc (Or.inr q), (Option.some.inj h).symm⟩
  · cases h
theorem am_newarr (hS : am_Sd D dA b0 hl s σ H locs) {t n : Nat} (ht : t < 8) {z : (Nat → Int32) ⊕ (Nat → Int64) ⊕ (Nat → UInt32) ⊕ (Nat → UInt64) ⊕ (Nat → Option Nat)} {d : Value} (hz : am_vf (n, z) = fun _ => d) {H1 : Heap} (e1 : H1[H.size]? = some (arrV (dA t) n (fun _ => d))) (z1 : H1.size = H.size + 1) (o1 : ∀ q, q < H.size → H1[q]? = H[q]?) : am_Sd D dA b0 hl s (am_up σ.1 σ.2.1 (.inl (t, n, z)), σ.2.1 + 1, σ.2.2 + n) H1 locs := by
  refine ⟨hS.1.new ?_ (fun t' x h => by cases h; exact ht) z1 o1, ?_⟩
  · show H1[σ.2.1]? = some (vp_cell (dA t) (n, z))
    rw [vp_cell_eq, hz, ← hS.1.1]
    exact e1
  · exact ⟨Nat.le_trans hS.2.1 (by omega), fun q h1 h2 => (o1 q (Nat.lt_of_lt_of_le h1 hS.2.1)).trans (hS.2.2.1 q h1 h2), hS.2.2.2⟩
theorem am_newa_W (hexec : p.tables.exec = Jvm.exec) (hb : c.code = cc) {at0 : ArrayType} (harr : (Cond.arrayClass (newarray.typeOf at0)).before args s = true) {t : Nat} (ht : t < 8) {n : Int32} (hnm : s.vm.findClass ("[" ++ (newarray.typeOf at0).toString) = some (dA t)) {z : (Nat → Int32) ⊕ (Nat → Int64) ⊕ (Nat → UInt32) ⊕ (Nat → UInt64) ⊕ (Nat → Option Nat)} (hz : am_vf (n.toNatClampNeg, z) = fun _ => defaultValue (newarray.typeOf at0)) (hcb : componentBytes (newarray.typeOf at0) ≤ 8)
    (hn : ¬ n < 0) (hby : n.toNatClampNeg * 8 ≤ 536870912) (hcells : cells + 1 ≤ R.cells) (hslots : slots + n.toNatClampNeg ≤ R.slots) (hd : decode cc pc = .ok (.newarray at0, 2)) (hS : am_Sd D dA b0 hl s σ H locs)
    (k : ∀ H', am_Sd D dA b0 hl s (am_up σ.1 σ.2.1 (.inl (t, n.toNatClampNeg, z)), σ.2.1 + 1, σ.2.2 + n.toNatClampNeg) H' locs → W p l e R s m args below meth c H' locs (cells + 1) (slots + n.toNatClampNeg) Q (F0 m (pc + 2) ls (.ref σ.2.1 :: rest))) : W p l e R s m args below meth c H locs cells slots Q (F0 m pc ls (.int n :: rest)) := by
  refine va_newaK hexec hb harr rfl hd rfl hn rfl (Nat.le_trans (Nat.mul_le_mul_left _ hcb) hby) hcells hslots rfl fun H1 cA e1 z1 o1 hAr hNm => ?_
  cases hnm.symm.trans hNm
  have := k H1 (am_newarr hS ht hz e1 z1 o1)
  rw [← hS.1.1] at this
  exact this
theorem am_newq_W (hexec : p.tables.exec = Jvm.exec) (hb : c.code = cc) (hts : ∀ w ∈ lw_all, w.before args s = true) (hown : s.vm.findClass (am_nm o) = some m.cls) (hI : am_I D dA b0 Γ hl s s.heap) {idx t : Nat} (hc : am_ce o idx 1 = some t) (ht : t < 8) {n : Int32}
    (hn : ¬ n < 0) (hby : n.toNatClampNeg * 8 ≤ 536870912) (hcells : cells + 1 ≤ R.cells) (hslots : slots + n.toNatClampNeg ≤ R.slots) (hd : decode cc pc = .ok (.anewarray idx, 3)) (hS : am_Sd D dA b0 hl s σ H locs)
    (k : ∀ H', am_Sd D dA b0 hl s (am_up σ.1 σ.2.1 (.inl (t, n.toNatClampNeg, .inr (.inr (.inr (.inr fun _ => none))))), σ.2.1 + 1, σ.2.2 + n.toNatClampNeg) H' locs → W p l e R s m args below meth c H' locs (cells + 1) (slots + n.toNatClampNeg) Q (F0 m (pc + 3) ls (.ref σ.2.1 :: rest))) : W p l e R s m args below meth c H locs cells slots Q (F0 m pc ls (.int n :: rest)) := by
  rcases am_ce_ok hc with ⟨q, -⟩ | ⟨-, C, q1, q2, q3⟩ | ⟨q, -⟩ | ⟨q, -⟩
  · cases q
  · have hra := (hI.1.2 t _ (am_tys_at dA ht)).2
    dsimp only at q1
    rw [q1] at hra
    obtain ⟨kA0, comp0, -, -, -, hnm⟩ := hra
    refine W.anew hexec hb hown (hts _ q2) (va_AO.use (hI.2.2.2.2.2.1.2.2.2.1 _ q3)) rfl hd rfl hn (by omega) hcells hslots fun cA kA comp f1 f2 f3 f4 => ?_
    cases hnm.symm.trans f1
    generalize hH1 : H.push ({ cls := dA t, slots := Array.replicate n.toNatClampNeg .null, vm := .none } : Cell) = H1
    have z1 : H1.size = H.size + 1 := by rw [← hH1, Array.size_push]
    have e1 : H1[H.size]? = some (arrV (dA t) n.toNatClampNeg (fun _ => .null)) := by rw [← hH1, Array.getElem?_push_size, ← arrV_new]
    have o1 : ∀ q : Nat, q < H.size → H1[q]? = H[q]? := fun q hq => by rw [← hH1, Array.getElem?_push, if_neg (Nat.ne_of_lt hq)]
    have := k H1 (am_newarr hS ht rfl e1 z1 o1)
    rw [← hS.1.1] at this
    exact this
  · cases q
  · cases q
theorem am_newo_W (hexec : p.tables.exec = Jvm.exec) (hb : c.code = cc) (hts : ∀ w ∈ lw_all, w.before args s = true) (hown : s.vm.findClass (am_nm o) = some m.cls) (hI : am_I D dA b0 Γ hl s s.heap) {idx ci : Nat} (hc : am_ce o idx 0 = some ci) (h14 : ci < 14) {r : vw_C} (hr : am_cl[ci]? = some r)
    (hcells : cells + 1 ≤ R.cells) (hslots : slots + r.2.2 ≤ R.slots) (hd : decode cc pc = .ok (.new idx, 3)) (hS : am_Sd D dA b0 hl s σ H locs)
    (k : ∀ H', am_Sd D dA b0 hl s (am_up σ.1 σ.2.1 (.inr (ci, am_def ci r.2.2)), σ.2.1 + 1, σ.2.2 + r.2.2) H' locs → W p l e R s m args below meth c H' locs (cells + 1) (slots + r.2.2) Q (F0 m (pc + 3) ls (.ref σ.2.1 :: rest))) : W p l e R s m args below meth c H locs cells slots Q (F0 m pc ls rest) := by
  obtain ⟨hin, hty, hnm, e1, e2, hinst, hini⟩ := am_cl_ok ci r hr
  have hKn := hI.1.1 ci r hr
  rw [show am_clN ci r.2.2 = r.2.2 from if_pos h14] at hinst
  have hlink := am_clink hc
  rw [← e1] at hlink
  refine W.newcK hexec hb hown (hts _ hlink) (hts _ hinst) (hts _ hini) rfl hd hcells hslots hKn.2.1 rfl fun H1 kC hkC w1 z1 o1 => ?_
  have := k H1 ⟨hS.1.new ⟨r, hr, (by
    rw [← hS.1.1]
    exact (u_born (am_ty ci) hts hin hKn hkC w1 hty).to (fun j hj => by simp [vp_V, am_def, hj]))⟩ (fun t x h => by cases h) z1 o1, ⟨Nat.le_trans hS.2.1 (by omega), fun q h1 h2 => (o1 q (Nat.lt_of_lt_of_le h1 hS.2.1)).trans (hS.2.2.1 q h1 h2), hS.2.2.2⟩⟩
  rw [← hS.1.1] at this
  exact this
theorem am_arnm (hI : am_I D dA b0 Γ hl s s.heap) {t : Nat} (ht : t < 8) : s.vm.findClass ("[" ++ (am_aty t).toString) = some (dA t) := by
  have hK := (hI.1.2 t _ (am_tys_at dA ht)).2
  have hc8 : t = 0 ∨ t = 1 ∨ t = 2 ∨ t = 3 ∨ t = 4 ∨ t = 5 ∨ t = 6 ∨ t = 7 := by omega
  rcases hc8 with rfl | rfl | rfl | rfl | rfl | rfl | rfl | rfl
  · exact hK
  · exact hK
  · exact hK
  · exact hK
  · exact va_nmO hK rfl
  · exact va_nmO hK rfl
  · exact va_nmO hK rfl
  · exact va_nmO hK rfl
theorem am_cst_W (hexec : p.tables.exec = Jvm.exec) (hb : c.code = cc) (hts : ∀ w ∈ lw_all, w.before args s = true) {mi : am_Mi} (hown : s.vm.findClass (am_nm mi.2.1.1) = some m.cls) (hI : am_I D dA b0 Γ hl s s.heap) {idx : Nat} {y : am_F ⊕ am_O} (hd : decode cc pc = .ok (.checkcast idx, 3)) (hS : am_Sd D dA b0 hl s σ H locs) (h : am_cst b0 mi idx pc L S σ = some y) : y = .inl ((pc + 3, L, S), σ) ∧
    (W p l e R s m args below meth c H locs cells slots Q (F0 m (pc + 3) ls S) → W p l e R s m args below meth c H locs cells slots Q (F0 m pc ls S)) := by
  have hIH : am_I D dA b0 Γ hl s H := hI.kept hS.2.1 hS.2.2.1
  unfold am_cst at h
  split at h
  · cases h
    exact ⟨rfl, fun k => lv_castN hexec hb hd k⟩
  · rename_i a S'
    split at h
    · rename_i ci fs hf
      obtain ⟨hcls, -⟩ := hS.1.rd hIH hts hf
      split at h
      · rename_i hc
        cases h
        refine ⟨rfl, fun k => ?_⟩
        rcases hc with hc | ⟨hc, hci⟩
        · exact va_castE hexec hb hown (hts _ (am_clink hc)) hcls hd k
        · rcases am_ce_ok hc with ⟨q, -⟩ | ⟨q, -⟩ | ⟨q, -⟩ | ⟨-, -, q⟩
          · cases q
          · cases q
          · cases q
          · have hod := hI.2.2.2.2.2.1.2.2.1
            rcases hci with rfl | rfl | rfl | rfl
            · exact va_castY hexec hb hown (hts _ q) (hod ("ValleyMass$Chain", "ValleyMass$Form") (List.mem_of_getElem? (i := 1) rfl)) hcls hd k
            · exact va_castY hexec hb hown (hts _ q) (hod ("ValleyMass$Number", "ValleyMass$Form") (List.mem_of_getElem? (i := 3) rfl)) hcls hd k
            · exact va_castY hexec hb hown (hts _ q) (hod ("ValleyMass$Value", "ValleyMass$Form") (List.mem_of_getElem? (i := 4) rfl)) hcls hd k
            · exact va_castY hexec hb hown (hts _ q) (hod ("ValleyMass$Not", "ValleyMass$Form") (List.mem_of_getElem? (i := 2) rfl)) hcls hd k
      · cases h
    · rename_i t x hf
      split at h
      · rename_i hc
        cases h
        refine ⟨rfl, fun k => ?_⟩
        obtain ⟨h1, h2⟩ := hS.1.2.2.2 a _ hc.2 hf
        have h2 := h2 t x rfl
        rcases am_ce_ok hc.1 with ⟨q, -⟩ | ⟨q, -⟩ | ⟨-, q⟩ | ⟨q, -⟩
        · cases q
        · cases q
        · exact va_castA hexec hb hown (hts _ q) (ws := [(a, .inl (dA t, x))]) (D := D) (cl := am_cl) (fun k q hq => by
            have hz : k < 1 := (List.getElem?_eq_some_iff.mp hq).1
            rw [show k = 0 by omega] at hq
            cases hq
            exact h1) 0 rfl (am_arnm hI h2) hd k
        · cases q
      · cases h
    · cases h
  · cases h
end AMT
