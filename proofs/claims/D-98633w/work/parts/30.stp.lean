/-! LEVEL 2: step rows, by the kind of the instruction -/
set_option maxRecDepth 100000
section AMST2
variable {b0 d : Nat} {Γ : Nat → Value} {call : Nat → List Value → am_S → Option am_O} {mi : am_Mi} {pc : Nat} {L : am_L} {S : List Value} {σ : am_S}
/-- go on with a value, a heap, a call's answer -/
noncomputable def am_Kv (b0 d : Nat) (Γ : Nat → Value) (call : Nat → List Value → am_S → Option am_O) (mi : am_Mi) (o : Option Value) (pc : Nat) (L : am_L) (S : List Value) (σ : am_S) : Option am_O := match o with
  | some v => am_R b0 d Γ call mi ((pc, L, v :: S), σ)
  | none => none
theorem am_Kv_some {v : Value} : am_Kv b0 d Γ call mi (some v) pc L S σ = am_R b0 d Γ call mi ((pc, L, v :: S), σ) := rfl
noncomputable def am_Kh (b0 d : Nat) (Γ : Nat → Value) (call : Nat → List Value → am_S → Option am_O) (mi : am_Mi) (o : Option am_H) (pc : Nat) (L : am_L) (S : List Value) (z : Nat × Nat) : Option am_O := match o with
  | some h => am_R b0 d Γ call mi ((pc, L, S), h, z)
  | none => none
theorem am_Kh_some {h : am_H} {z : Nat × Nat} : am_Kh b0 d Γ call mi (some h) pc L S z = am_R b0 d Γ call mi ((pc, L, S), h, z) := rfl
noncomputable def am_Kx (b0 d : Nat) (Γ : Nat → Value) (call : Nat → List Value → am_S → Option am_O) (mi : am_Mi) (o : Option (am_F ⊕ am_O)) : Option am_O := match o with
  | some (.inl f) => am_R b0 d Γ call mi f
  | some (.inr o) => some o
  | none => none
theorem am_Kx_inl {f : am_F} : am_Kx b0 d Γ call mi (some (.inl f)) = am_R b0 d Γ call mi f := rfl
theorem am_Kx_inr {o : am_O} : am_Kx b0 d Γ call mi (some (.inr o)) = some o := rfl
noncomputable def am_Kc (b0 d : Nat) (Γ : Nat → Value) (call : Nat → List Value → am_S → Option am_O) (mi : am_Mi) (pc len : Nat) (L : am_L) (rest : List Value) (o : Option am_O) : Option am_O := am_Kx b0 d Γ call mi (am_cal mi pc len L rest o)
theorem am_Kc_val {len : Nat} {rest : List Value} {v : Value} : am_Kc b0 d Γ call mi pc len L rest (some (.inl (some v), σ)) = am_R b0 d Γ call mi ((pc + len, L, v :: rest), σ) := rfl
theorem am_Kc_void {len : Nat} {rest : List Value} : am_Kc b0 d Γ call mi pc len L rest (some (.inl none, σ)) = am_R b0 d Γ call mi ((pc + len, L, rest), σ) := rfl
theorem am_Kc_thr {len : Nat} {rest : List Value} {E a : Nat} : am_Kc b0 d Γ call mi pc len L rest (some (.inr (E, a), σ)) = am_Kx b0 d Γ call mi (am_thr mi pc L E a σ) := rfl
theorem am_R_p {i : Instr} {len : Nat} (hd : decode mi.1.2 pc = .ok (i, len)) {q : am_P} (h : am_pure i len pc L S = some q) : am_R b0 d Γ call mi ((pc, L, S), σ) = am_R b0 d Γ call mi (q, σ) := by
  rw [am_R_step]
  unfold am_step
  simp only [hd, h]
theorem am_R_a {i : Instr} {len : Nat} (hd : decode mi.1.2 pc = .ok (i, len)) (h : am_pure i len pc L S = none) {f : am_F} (h2 : am_arr b0 i len pc L S σ = some f) : am_R b0 d Γ call mi ((pc, L, S), σ) = am_R b0 d Γ call mi f := by
  rw [am_R_step]
  unfold am_step
  simp only [hd, h, h2]
theorem am_R_n {i : Instr} {len : Nat} (hd : decode mi.1.2 pc = .ok (i, len)) (h : am_pure i len pc L S = none) (h2 : am_arr b0 i len pc L S σ = none) : am_R b0 d Γ call mi ((pc, L, S), σ) = am_Kx b0 d Γ call mi (am_tab b0 d Γ call mi i len pc L S σ) := by
  rw [am_R_step]
  unfold am_step
  simp only [hd, h, h2]
  rfl
theorem am_ldi {k : Nat} {v : Int32} (h : L[k]? = some (some (.int v))) : am_ld L k am_isI = some (.int v) := by
  unfold am_ld
  rw [h]
  rfl
theorem am_lda1 {k a : Nat} (h : L[k]? = some (some (.ref a))) : am_ld L k am_isA = some (.ref a) := by
  unfold am_ld
  rw [h]
  rfl
theorem am_ldn {k : Nat} (h : L[k]? = some (some .null)) : am_ld L k am_isA = some .null := by
  unfold am_ld
  rw [h]
  rfl
theorem am_ldj {k : Nat} {v : Int64} (h : L[k]? = some (some (.long v))) (h2 : L[k + 1]? = some none) : am_ld L k am_isJ = some (.long v) := by
  unfold am_ld
  rw [h]
  simp only [am_isJ]
  rw [h2]
  rfl
theorem am_sg1 {k : Nat} {v : Value} (hc : v.category = 1) (h : k < L.length) : am_st L k v = some (L.set k (some v)) := by
  unfold am_st
  rw [if_neg (by omega), if_pos h]
theorem am_sg2 {k : Nat} {v : Value} (hc : v.category = 2) (h : k + 1 < L.length) : am_st L k v = some ((L.set k (some v)).set (k + 1) none) := by
  unfold am_st
  rw [if_pos hc, if_pos h]
/-- getfield -/
theorem am_R_gf {idx a : Nat} {o : Nat} (ho : mi.2.1.1 = o) (hd : decode mi.1.2 pc = .ok (.getfield idx, 3)) : am_R b0 d Γ call mi ((pc, L, .ref a :: S), σ) = am_Kv b0 d Γ call mi (am_gF σ.1 a o idx) (pc + 3) L S σ := by
  subst ho
  have e : am_tab b0 d Γ call mi (.getfield idx) 3 pc L (.ref a :: S) σ = (match am_gF σ.1 a mi.2.1.1 idx with | some v => some (.inl ((pc + 3, L, v :: S), σ)) | none => none) := am_g_self 3 _
  rw [am_R_n hd rfl rfl, e]
  cases am_gF σ.1 a mi.2.1.1 idx <;> rfl
/-- putfield -/
theorem am_R_pf {idx a : Nat} {v : Value} {o : Nat} {isI : Bool} (ho : mi.2.1.1 = o) (hi : (mi.1.1.name == "<init>") = isI) (hd : decode mi.1.2 pc = .ok (.putfield idx, 3)) (hb : b0 ≤ a) : am_R b0 d Γ call mi ((pc, L, v :: .ref a :: S), σ) = am_Kh b0 d Γ call mi (am_pF σ.1 a o idx isI v) (pc + 3) L S σ.2 := by
  subst ho
  subst hi
  have e : am_tab b0 d Γ call mi (.putfield idx) 3 pc L (v :: .ref a :: S) σ = (if b0 ≤ a then (match am_pF σ.1 a mi.2.1.1 idx (mi.1.1.name == "<init>") v with | some h => some (.inl ((pc + 3, L, S), h, σ.2)) | none => none) else none) := am_g_self 3 _
  rw [am_R_n hd rfl rfl, e, if_pos hb]
  cases am_pF σ.1 a mi.2.1.1 idx (mi.1.1.name == "<init>") v <;> rfl
theorem am_R_iald {a : Nat} {i : Int32} (hd : decode mi.1.2 pc = .ok (.iaload, 1)) : am_R b0 d Γ call mi ((pc, L, .int i :: .ref a :: S), σ) = am_Kv b0 d Γ call mi (am_gI σ.1 a i) (pc + 1) L S σ := by
  cases h : am_gI σ.1 a i with
  | some v => exact am_R_a hd rfl (by show am_g 1 1 (am_lda pc L _ σ am_gI) = _; rw [am_g_self]; simp only [am_lda, h])
  | none =>
    rw [am_R_n hd rfl (by show am_g 1 1 (am_lda pc L _ σ am_gI) = _; rw [am_g_self]; simp only [am_lda, h])]
    rfl
theorem am_R_bald {a : Nat} {i : Int32} (hd : decode mi.1.2 pc = .ok (.baload, 1)) : am_R b0 d Γ call mi ((pc, L, .int i :: .ref a :: S), σ) = am_Kv b0 d Γ call mi (am_gB σ.1 a i) (pc + 1) L S σ := by
  cases h : am_gB σ.1 a i with
  | some v => exact am_R_a hd rfl (by show am_g 1 1 (am_lda pc L _ σ am_gB) = _; rw [am_g_self]; simp only [am_lda, h])
  | none =>
    rw [am_R_n hd rfl (by show am_g 1 1 (am_lda pc L _ σ am_gB) = _; rw [am_g_self]; simp only [am_lda, h])]
    rfl
theorem am_R_aald {a : Nat} {i : Int32} (hd : decode mi.1.2 pc = .ok (.aaload, 1)) : am_R b0 d Γ call mi ((pc, L, .int i :: .ref a :: S), σ) = am_Kv b0 d Γ call mi (am_gQ σ.1 a i) (pc + 1) L S σ := by
  cases h : am_gQ σ.1 a i with
  | some v => exact am_R_a hd rfl (by show am_g 1 1 (am_lda pc L _ σ am_gQ) = _; rw [am_g_self]; simp only [am_lda, h])
  | none =>
    rw [am_R_n hd rfl (by show am_g 1 1 (am_lda pc L _ σ am_gQ) = _; rw [am_g_self]; simp only [am_lda, h])]
    rfl
theorem am_R_lald {a : Nat} {i : Int32} (hd : decode mi.1.2 pc = .ok (.laload, 1)) : am_R b0 d Γ call mi ((pc, L, .int i :: .ref a :: S), σ) = am_Kv b0 d Γ call mi (am_gJ σ.1 a i) (pc + 1) L S σ := by
  cases h : am_gJ σ.1 a i with
  | some v => exact am_R_a hd rfl (by show am_g 1 1 (am_lda pc L _ σ am_gJ) = _; rw [am_g_self]; simp only [am_lda, h])
  | none =>
    rw [am_R_n hd rfl (by show am_g 1 1 (am_lda pc L _ σ am_gJ) = _; rw [am_g_self]; simp only [am_lda, h])]
    rfl
theorem am_R_iast {a : Nat} {i x : Int32} (hd : decode mi.1.2 pc = .ok (.iastore, 1)) (hb : b0 ≤ a) : am_R b0 d Γ call mi ((pc, L, .int x :: .int i :: .ref a :: S), σ) = am_Kh b0 d Γ call mi (am_sI σ.1 a i x) (pc + 1) L S σ.2 := by
  have e : am_arr b0 .iastore 1 pc L (.int x :: .int i :: .ref a :: S) σ = (if b0 ≤ a then am_put pc L S σ (am_sI σ.1 a i x) else none) := am_g_self 1 _
  rw [if_pos hb] at e
  cases h : am_sI σ.1 a i x with
  | some h' => exact am_R_a hd rfl (by rw [e, h]; rfl)
  | none => rw [am_R_n hd rfl (by rw [e, h]; rfl)]; rfl
theorem am_R_bast {a : Nat} {i x : Int32} (hd : decode mi.1.2 pc = .ok (.bastore, 1)) (hb : b0 ≤ a) : am_R b0 d Γ call mi ((pc, L, .int x :: .int i :: .ref a :: S), σ) = am_Kh b0 d Γ call mi (am_sB σ.1 a i x) (pc + 1) L S σ.2 := by
  have e : am_arr b0 .bastore 1 pc L (.int x :: .int i :: .ref a :: S) σ = (if b0 ≤ a then am_put pc L S σ (am_sB σ.1 a i x) else none) := am_g_self 1 _
  rw [if_pos hb] at e
  cases h : am_sB σ.1 a i x with
  | some h' => exact am_R_a hd rfl (by rw [e, h]; rfl)
  | none => rw [am_R_n hd rfl (by rw [e, h]; rfl)]; rfl
theorem am_R_last {a : Nat} {i : Int32} {x : Int64} (hd : decode mi.1.2 pc = .ok (.lastore, 1)) (hb : b0 ≤ a) : am_R b0 d Γ call mi ((pc, L, .long x :: .int i :: .ref a :: S), σ) = am_Kh b0 d Γ call mi (am_sJ σ.1 a i x) (pc + 1) L S σ.2 := by
  have e : am_arr b0 .lastore 1 pc L (.long x :: .int i :: .ref a :: S) σ = (if b0 ≤ a then am_put pc L S σ (am_sJ σ.1 a i x) else none) := am_g_self 1 _
  rw [if_pos hb] at e
  cases h : am_sJ σ.1 a i x with
  | some h' => exact am_R_a hd rfl (by rw [e, h]; rfl)
  | none => rw [am_R_n hd rfl (by rw [e, h]; rfl)]; rfl
theorem am_R_aast {a v : Nat} {i : Int32} (hd : decode mi.1.2 pc = .ok (.aastore, 1)) (hb : b0 ≤ a) : am_R b0 d Γ call mi ((pc, L, .ref v :: .int i :: .ref a :: S), σ) = am_Kh b0 d Γ call mi (am_sQ b0 σ.1 a i (some v)) (pc + 1) L S σ.2 := by
  have e : am_arr b0 .aastore 1 pc L (.ref v :: .int i :: .ref a :: S) σ = (if b0 ≤ a then am_put pc L S σ (am_sQ b0 σ.1 a i (some v)) else none) := am_g_self 1 _
  rw [if_pos hb] at e
  cases h : am_sQ b0 σ.1 a i (some v) with
  | some h' => exact am_R_a hd rfl (by rw [e, h]; rfl)
  | none => rw [am_R_n hd rfl (by rw [e, h]; rfl)]; rfl
theorem am_R_aastn {a : Nat} {i : Int32} (hd : decode mi.1.2 pc = .ok (.aastore, 1)) (hb : b0 ≤ a) : am_R b0 d Γ call mi ((pc, L, .null :: .int i :: .ref a :: S), σ) = am_Kh b0 d Γ call mi (am_sQ b0 σ.1 a i none) (pc + 1) L S σ.2 := by
  have e : am_arr b0 .aastore 1 pc L (.null :: .int i :: .ref a :: S) σ = (if b0 ≤ a then am_put pc L S σ (am_sQ b0 σ.1 a i none) else none) := am_g_self 1 _
  rw [if_pos hb] at e
  cases h : am_sQ b0 σ.1 a i none with
  | some h' => exact am_R_a hd rfl (by rw [e, h]; rfl)
  | none => rw [am_R_n hd rfl (by rw [e, h]; rfl)]; rfl
theorem am_R_alen {a n : Nat} (hd : decode mi.1.2 pc = .ok (.arraylength, 1)) (h : am_len σ.1 a = some n) : am_R b0 d Γ call mi ((pc, L, .ref a :: S), σ) = am_R b0 d Γ call mi ((pc + 1, L, .int (Int32.ofNat n) :: S), σ) := by
  have e : am_arr b0 .arraylength 1 pc L (.ref a :: S) σ = (match am_len σ.1 a with | some n => some ((pc + 1, L, .int (Int32.ofNat n) :: S), σ) | none => none) := am_g_self 1 _
  rw [h] at e
  exact am_R_a hd rfl e
theorem am_R_gs {idx sn : Nat} {o : Nat} (ho : mi.2.1.1 = o) (hd : decode mi.1.2 pc = .ok (.getstatic idx, 3)) (h : ((am_ts o).find? (fun e => e.1 == idx)).map (fun e => e.2) = some sn) : am_R b0 d Γ call mi ((pc, L, S), σ) = am_R b0 d Γ call mi ((pc + 3, L, Γ sn :: S), σ) := by
  subst ho
  have e : am_tab b0 d Γ call mi (.getstatic idx) 3 pc L S σ = (match (am_ts mi.2.1.1).find? (fun e => e.1 == idx) with | some e => some (.inl ((pc + 3, L, Γ e.2 :: S), σ)) | none => none) := am_g_self 3 _
  obtain ⟨x, h1, h2⟩ := Option.map_eq_some_iff.mp h
  rw [am_R_n hd rfl rfl, e, h1, ← h2]
  rfl
theorem am_R_ldc {idx : Nat} {v : Value} {o : Nat} (ho : mi.2.1.1 = o) (hd : decode mi.1.2 pc = .ok (.ldc idx, 2)) (h : am_ldc Γ o idx = some v) : am_R b0 d Γ call mi ((pc, L, S), σ) = am_R b0 d Γ call mi ((pc + 2, L, v :: S), σ) := by
  subst ho
  have e : am_tab b0 d Γ call mi (.ldc idx) 2 pc L S σ = (match am_ldc Γ mi.2.1.1 idx with | some v => some (.inl ((pc + 2, L, v :: S), σ)) | none => none) := am_g_self 2 _
  rw [am_R_n hd rfl rfl, e, h]
  rfl
theorem am_R_ldcw {idx : Nat} {v : Value} {o : Nat} (ho : mi.2.1.1 = o) (hd : decode mi.1.2 pc = .ok (.ldc_w idx, 3)) (h : (if (o = 12 ∧ (idx = 10 ∨ idx = 56)) ∨ (o = 22 ∧ idx = 110) then none else am_ldc Γ o idx) = some v) : am_R b0 d Γ call mi ((pc, L, S), σ) = am_R b0 d Γ call mi ((pc + 3, L, v :: S), σ) := by
  subst ho
  have e : am_tab b0 d Γ call mi (.ldc_w idx) 3 pc L S σ = (if (mi.2.1.1 = 12 ∧ (idx = 10 ∨ idx = 56)) ∨ (mi.2.1.1 = 22 ∧ idx = 110) then none else match am_ldc Γ mi.2.1.1 idx with | some v => some (.inl ((pc + 3, L, v :: S), σ)) | none => none) := am_g_self 3 _
  rw [am_R_n hd rfl rfl, e]
  split at h
  · cases h
  · rename_i hc
    rw [if_neg hc, h]
    rfl
theorem am_R_ldc2 {idx : Nat} {v : Int64} {o : Nat} (ho : mi.2.1.1 = o) (hd : decode mi.1.2 pc = .ok (.ldc2_w idx, 3)) (h : (am_conL.find? (fun e => e.1 == o && e.2.1 == idx)).map (fun e => e.2.2) = some v) : am_R b0 d Γ call mi ((pc, L, S), σ) = am_R b0 d Γ call mi ((pc + 3, L, .long v :: S), σ) := by
  subst ho
  have e : am_tab b0 d Γ call mi (.ldc2_w idx) 3 pc L S σ = (match am_conL.find? (fun e => e.1 == mi.2.1.1 && e.2.1 == idx) with | some e => some (.inl ((pc + 3, L, .long e.2.2 :: S), σ)) | none => none) := am_g_self 3 _
  obtain ⟨x, h1, h2⟩ := Option.map_eq_some_iff.mp h
  rw [am_R_n hd rfl rfl, e, h1, ← h2]
  rfl
theorem am_R_ret (hr : mi.2.2.1 = none) (hd : decode mi.1.2 pc = .ok (.return_, 1)) : am_R b0 d Γ call mi ((pc, L, []), σ) = some (.inl none, σ) := by
  have e : am_tab b0 d Γ call mi .return_ 1 pc L [] σ = (if mi.2.2.1 = none then some (.inr (.inl none, σ)) else none) := am_g_self 1 _
  rw [am_R_n hd rfl rfl, e, if_pos hr]
  rfl
theorem am_R_iret {ty : FieldType} {v : Int32} (hr : mi.2.2.1 = some ty) (hd : decode mi.1.2 pc = .ok (.ireturn, 1)) (hn : narrow ty (.int v) = .int v) : am_R b0 d Γ call mi ((pc, L, [.int v]), σ) = some (.inl (some (.int v)), σ) := by
  have e : am_tab b0 d Γ call mi .ireturn 1 pc L [.int v] σ = (match mi.2.2.1 with | some ty => if narrow ty (.int v) = .int v then some (.inr (.inl (some (.int v)), σ)) else none | none => none) := am_g_self 1 _
  rw [am_R_n hd rfl rfl, e, hr]
  simp only [hn, if_true]
  rfl
theorem am_R_lret {v : Int64} (hr : mi.2.2.1 = some .long) (hd : decode mi.1.2 pc = .ok (.lreturn, 1)) : am_R b0 d Γ call mi ((pc, L, [.long v]), σ) = some (.inl (some (.long v)), σ) := by
  have e : am_tab b0 d Γ call mi .lreturn 1 pc L [.long v] σ = (if mi.2.2.1 = some .long then some (.inr (.inl (some (.long v)), σ)) else none) := am_g_self 1 _
  rw [am_R_n hd rfl rfl, e, if_pos hr]
  rfl
theorem am_R_areto {v : Value} {n : String} (hr : mi.2.2.1 = some (.object n)) (hd : decode mi.1.2 pc = .ok (.areturn, 1)) (hv : am_isA v = true) : am_R b0 d Γ call mi ((pc, L, [v]), σ) = some (.inl (some v), σ) := by
  have e : am_tab b0 d Γ call mi .areturn 1 pc L [v] σ = (if am_isA v = true then (match mi.2.2.1 with | some (.object _) => some (.inr (.inl (some v), σ)) | some (.array _) => some (.inr (.inl (some v), σ)) | _ => none) else none) := am_g_self 1 _
  rw [am_R_n hd rfl rfl, e, if_pos hv, hr]
  rfl
theorem am_R_areta {v : Value} {n : FieldType} (hr : mi.2.2.1 = some (.array n)) (hd : decode mi.1.2 pc = .ok (.areturn, 1)) (hv : am_isA v = true) : am_R b0 d Γ call mi ((pc, L, [v]), σ) = some (.inl (some v), σ) := by
  have e : am_tab b0 d Γ call mi .areturn 1 pc L [v] σ = (if am_isA v = true then (match mi.2.2.1 with | some (.object _) => some (.inr (.inl (some v), σ)) | some (.array _) => some (.inr (.inl (some v), σ)) | _ => none) else none) := am_g_self 1 _
  rw [am_R_n hd rfl rfl, e, if_pos hv, hr]
  rfl
theorem am_R_thr {a E : Nat} (hd : decode mi.1.2 pc = .ok (.athrow, 1)) (hb : b0 ≤ a) (h : am_ck σ.1 a = some E) : am_R b0 d Γ call mi ((pc, L, .ref a :: S), σ) = am_Kx b0 d Γ call mi (am_thr mi pc L E a σ) := by
  have e : am_tab b0 d Γ call mi .athrow 1 pc L (.ref a :: S) σ = (if b0 ≤ a then (match am_ck σ.1 a with | some E => am_thr mi pc L E a σ | none => none) else none) := am_g_self 1 _
  rw [am_R_n hd rfl rfl, e, if_pos hb, h]
theorem am_R_br {i : Instr} {len t u : Nat} {L' : am_L} {S' : List Value} {c : Prop} [Decidable c] (hd : decode mi.1.2 pc = .ok (i, len)) (h : am_pure i len pc L S = some (if c then t else u, L', S')) : am_R b0 d Γ call mi ((pc, L, S), σ) = if c then am_R b0 d Γ call mi ((t, L', S'), σ) else am_R b0 d Γ call mi ((u, L', S'), σ) := by
  rw [am_R_p hd h]
  split <;> rfl
theorem am_R_bra {i : Instr} {len t u : Nat} {L' : am_L} {S' : List Value} {x y : Nat} {c : Prop} [Decidable c] (hd : decode mi.1.2 pc = .ok (i, len)) (h : am_pure i len pc L S = some (if c then t else u, L', S')) : am_R b0 d Γ call mi ((pc, L, S), σ) = if c then am_R b0 d Γ call mi ((t, L', S'), σ) else am_R b0 d Γ call mi ((u, L', S'), σ) := am_R_br hd h
noncomputable def am_Kq (b0 d : Nat) (Γ : Nat → Value) (call : Nat → List Value → am_S → Option am_O) (mi : am_Mi) (o : Option am_P) (σ : am_S) : Option am_O := match o with
  | some q => am_R b0 d Γ call mi (q, σ)
  | none => none
theorem am_R_q {i : Instr} {len : Nat} (hd : decode mi.1.2 pc = .ok (i, len)) (h2 : am_arr b0 i len pc L S σ = none) (h3 : am_tab b0 d Γ call mi i len pc L S σ = none) : am_R b0 d Γ call mi ((pc, L, S), σ) = am_Kq b0 d Γ call mi (am_pure i len pc L S) σ := by
  cases h : am_pure i len pc L S with
  | some q => exact am_R_p hd h
  | none => rw [am_R_n hd h h2, h3]; rfl
/-- calls: the arguments lie on the stack, the last on top -/
theorem am_R_stc {idx k M na o : Nat} {as rest : List Value} (ho : mi.2.1.1 = o) (hd : decode mi.1.2 pc = .ok (.invokestatic idx, 3))
    (h1 : (am_mx.find? (fun e => e.1 == o && e.2.1 == idx)) = none) (h2 : ¬ ((o = 22 ∧ idx = 150) ∨ (o = 12 ∧ idx = 112))) (h3 : am_in o idx = some (k, na)) (hk : k = 0 ∨ k = 6) (h4 : am_ie o idx k 99 = some (M, na)) (hl : as.length = na) (hw : am_wd rest ≤ 8) :
    am_R b0 d Γ call mi ((pc, L, as ++ rest), σ) = am_Kc b0 d Γ call mi pc 3 L rest (call M as.reverse σ) := by
  subst ho
  have e : am_tab b0 d Γ call mi (.invokestatic idx) 3 pc L (as ++ rest) σ = am_stc b0 d call mi idx pc L (as ++ rest) σ := am_g_self 3 _
  have e2 : am_stc b0 d call mi idx pc L (as ++ rest) σ = am_cal mi pc 3 L rest (call M as.reverse σ) := by
    unfold am_stc
    rw [h1]
    simp only [Option.map_none]
    rw [if_neg h2, h3]
    simp only []
    have ht : List.take na (as ++ rest) = as := by rw [← hl]; simp
    have hdr : List.drop na (as ++ rest) = rest := by rw [← hl]; simp
    rw [hdr, ht, if_pos ⟨hk, by rw [← hl]; simp, hw⟩, h4]
    simp
  rw [am_R_n hd rfl rfl, e, e2]
  rfl
theorem am_R_vrt {idx k M na o b ci : Nat} {as rest : List Value} (ho : mi.2.1.1 = o) (hd : decode mi.1.2 pc = .ok (.invokevirtual idx, 3))
    (h2 : ¬ (o = 22 ∧ idx = 86)) (h3 : am_in o idx = some (k, na)) (hk : k = 1 ∨ k = 4) (hck : am_ck σ.1 b = some ci) (h4 : am_ie o idx k ci = some (M, na)) (hl : as.length = na) (hw : am_wd rest ≤ 8) :
    am_R b0 d Γ call mi ((pc, L, as ++ .ref b :: rest), σ) = am_Kc b0 d Γ call mi pc 3 L rest (call M (.ref b :: as.reverse) σ) := by
  subst ho
  have e : am_tab b0 d Γ call mi (.invokevirtual idx) 3 pc L (as ++ .ref b :: rest) σ = am_vrt d Γ call mi idx pc L (as ++ .ref b :: rest) σ := am_g_self 3 _
  have e2 : am_vrt d Γ call mi idx pc L (as ++ .ref b :: rest) σ = am_cal mi pc 3 L rest (call M (.ref b :: as.reverse) σ) := by
    unfold am_vrt
    rw [if_neg h2, h3]
    have ht : List.take na (as ++ .ref b :: rest) = as := by rw [← hl]; simp
    have hdr : List.drop na (as ++ .ref b :: rest) = .ref b :: rest := by rw [← hl]; simp
    simp only [hdr, ht, hck, h4]
    rw [if_pos ⟨hk, hw⟩, if_pos trivial]
  rw [am_R_n hd rfl rfl, e, e2]
  rfl
theorem am_R_ifc {idx M na o b ci cnt : Nat} {as rest : List Value} (ho : mi.2.1.1 = o) (hd : decode mi.1.2 pc = .ok (.invokeinterface idx cnt, 5))
    (h2 : ¬ (o = 12 ∧ idx = 52)) (h3 : am_in o idx = some (3, na)) (hck : am_ck σ.1 b = some ci) (hc16 : ci < 16) (h4 : am_ie o idx 3 ci = some (M, na)) (hl : as.length = na) (hw : am_wd rest ≤ 8) :
    am_R b0 d Γ call mi ((pc, L, as ++ .ref b :: rest), σ) = am_Kc b0 d Γ call mi pc 5 L rest (call M (.ref b :: as.reverse) σ) := by
  subst ho
  have e : am_tab b0 d Γ call mi (.invokeinterface idx cnt) 5 pc L (as ++ .ref b :: rest) σ = am_ifc d Γ call mi idx pc L (as ++ .ref b :: rest) σ := am_g_self 5 _
  have e2 : am_ifc d Γ call mi idx pc L (as ++ .ref b :: rest) σ = am_cal mi pc 5 L rest (call M (.ref b :: as.reverse) σ) := by
    unfold am_ifc
    rw [if_neg h2, h3]
    have ht : List.take na (as ++ .ref b :: rest) = as := by rw [← hl]; simp
    have hdr : List.drop na (as ++ .ref b :: rest) = .ref b :: rest := by rw [← hl]; simp
    simp only [hdr, ht, hck, h4, hw, hc16, if_true, true_and]
  rw [am_R_n hd rfl rfl, e, e2]
  rfl
theorem am_R_spc {idx k M na o b ci : Nat} {as rest : List Value} {x : Nat × Nat × Nat × Nat × Nat} (ho : mi.2.1.1 = o) (hd : decode mi.1.2 pc = .ok (.invokespecial idx, 3))
    (h2 : (o, idx) ∉ am_objI) (h3 : am_in o idx = some (k, na)) (hk : k = 2 ∨ k = 5 ∨ k = 7) (hck : am_ck σ.1 b = some ci) (hc16 : ci < 16) (h4 : (am_ti o).find? (fun e => e.1 == idx) = some x) (hM : x.2.2.2.1 = M) (hl : as.length = na) (hw : am_wd rest ≤ 8) :
    am_R b0 d Γ call mi ((pc, L, as ++ .ref b :: rest), σ) = am_Kc b0 d Γ call mi pc 3 L rest (call M (.ref b :: as.reverse) σ) := by
  subst ho
  subst hM
  have e : am_tab b0 d Γ call mi (.invokespecial idx) 3 pc L (as ++ .ref b :: rest) σ = am_spc d call mi idx pc L (as ++ .ref b :: rest) σ := am_g_self 3 _
  have e2 : am_spc d call mi idx pc L (as ++ .ref b :: rest) σ = am_cal mi pc 3 L rest (call x.2.2.2.1 (.ref b :: as.reverse) σ) := by
    unfold am_spc
    rw [if_neg h2, h3]
    have ht : List.take na (as ++ .ref b :: rest) = as := by rw [← hl]; simp
    have hdr : List.drop na (as ++ .ref b :: rest) = .ref b :: rest := by rw [← hl]; simp
    simp only [hdr, ht, hck, h4]
    rw [if_pos ⟨hk, hw⟩, if_pos hc16]
  rw [am_R_n hd rfl rfl, e, e2]
  rfl
theorem am_R_obj {idx o b : Nat} {rest : List Value} (ho : mi.2.1.1 = o) (hd : decode mi.1.2 pc = .ok (.invokespecial idx, 3)) (h2 : (o, idx) ∈ am_objI) (h1 : 1 ≤ d) (hw : am_wd rest ≤ 8) : am_R b0 d Γ call mi ((pc, L, .ref b :: rest), σ) = am_R b0 d Γ call mi ((pc + 3, L, rest), σ) := by
  subst ho
  have e : am_tab b0 d Γ call mi (.invokespecial idx) 3 pc L (.ref b :: rest) σ = am_spc d call mi idx pc L (.ref b :: rest) σ := am_g_self 3 _
  rw [am_R_n hd rfl rfl, e]
  unfold am_spc
  rw [if_pos h2]
  simp only [h1, hw, and_self, if_true]
  rfl
theorem am_R_mx {idx o q : Nat} {x y : Int32} {rest : List Value} (ho : mi.2.1.1 = o) (hd : decode mi.1.2 pc = .ok (.invokestatic idx, 3)) (h : (am_mx.find? (fun e => e.1 == o && e.2.1 == idx)).map (fun e => e.2.2) = some q) (h1 : 1 ≤ d) (hw : am_wd rest ≤ 8) : am_R b0 d Γ call mi ((pc, L, .int y :: .int x :: rest), σ) = am_R b0 d Γ call mi ((pc + 3, L, .int (if q = 0 then (if x < y then y else x) else (if y < x then y else x)) :: rest), σ) := by
  subst ho
  have e : am_tab b0 d Γ call mi (.invokestatic idx) 3 pc L (.int y :: .int x :: rest) σ = am_stc b0 d call mi idx pc L (.int y :: .int x :: rest) σ := am_g_self 3 _
  rw [am_R_n hd rfl rfl, e]
  unfold am_stc
  rw [h]
  simp only [h1, hw, and_self, if_true]
  rfl
theorem am_R_cpy {idx o a0 a : Nat} {sp dp n : Int32} {rest : List Value} (ho : mi.2.1.1 = o) (hd : decode mi.1.2 pc = .ok (.invokestatic idx, 3)) (hm : (am_mx.find? (fun e => e.1 == o && e.2.1 == idx)) = none) (h : (o = 22 ∧ idx = 150) ∨ (o = 12 ∧ idx = 112)) (h1 : 1 ≤ d) (hw : am_wd rest ≤ 8) : am_R b0 d Γ call mi ((pc, L, .int n :: .int dp :: .ref a :: .int sp :: .ref a0 :: rest), σ) = am_Kh b0 d Γ call mi (am_cpq b0 σ.1 a0 sp a dp n) (pc + 3) L rest σ.2 := by
  subst ho
  have e : am_tab b0 d Γ call mi (.invokestatic idx) 3 pc L (.int n :: .int dp :: .ref a :: .int sp :: .ref a0 :: rest) σ = am_stc b0 d call mi idx pc L (.int n :: .int dp :: .ref a :: .int sp :: .ref a0 :: rest) σ := am_g_self 3 _
  rw [am_R_n hd rfl rfl, e]
  unfold am_stc
  rw [hm]
  simp only [Option.map_none]
  rw [if_pos h]
  simp only [h1, hw, and_self, if_true]
  cases am_cpq b0 σ.1 a0 sp a dp n <;> rfl
theorem am_R_new {idx o ci N : Nat} {r : vw_C} (ho : mi.2.1.1 = o) (hd : decode mi.1.2 pc = .ok (.new idx, 3)) (hc : am_ce o idx 0 = some ci) (h14 : ci < 14) (hr : am_cl[ci]? = some r) (hN : r.2.2 = N) : am_R b0 d Γ call mi ((pc, L, S), σ) = am_R b0 d Γ call mi ((pc + 3, L, .ref σ.2.1 :: S), am_up σ.1 σ.2.1 (.inr (ci, am_def ci N)), σ.2.1 + 1, σ.2.2 + N) := by
  subst ho
  subst hN
  have e : am_tab b0 d Γ call mi (.new idx) 3 pc L S σ = am_new d mi idx pc L S σ := am_g_self 3 _
  rw [am_R_n hd rfl rfl, e]
  unfold am_new
  rw [hc]
  simp only [h14, if_true, hr]
  rfl
theorem am_R_newx {idx ci : Nat} (ho : mi.2.1.1 = 0) (hd : decode mi.1.2 pc = .ok (.new idx, 3)) (hc : am_ce 0 idx 0 = some ci) (hx : (ci = 14 ∧ idx = 1) ∨ (ci = 15 ∧ idx = 7)) (d3 : decode mi.1.2 (pc + 3) = .ok (.dup, 1)) (d4 : decode mi.1.2 (pc + 4) = .ok (.invokespecial (if ci = 14 then 3 else 9), 3)) (h8 : 8 ≤ d) (hw : am_wd S ≤ 8) : am_R b0 d Γ call mi ((pc, L, S), σ) = am_R b0 d Γ call mi ((pc + 7, L, .ref σ.2.1 :: S), am_up σ.1 σ.2.1 (.inr (ci, [])), σ.2.1 + 1, σ.2.2 + 6) := by
  have e : am_tab b0 d Γ call mi (.new idx) 3 pc L S σ = am_new d mi idx pc L S σ := am_g_self 3 _
  rw [am_R_n hd rfl rfl, e]
  unfold am_new
  rw [ho, hc]
  have hn : ¬ ci < 14 := by omega
  simp only [hn, if_false]
  rw [if_pos ⟨by simpa using hx, h8, hw, d3, d4⟩]
  rfl
theorem am_nar_go {t w : Nat} {n : Int32} {z : (Nat → Int32) ⊕ (Nat → Int64) ⊕ (Nat → UInt32) ⊕ (Nat → UInt64) ⊕ (Nat → Option Nat)} (hn : ¬ (n < 0 ∨ 536870912 < n.toNatClampNeg * 8)) : am_nar pc L (.int n :: S) σ t w z = some (.inl ((pc + w, L, .ref σ.2.1 :: S), am_up σ.1 σ.2.1 (.inl (t, n.toNatClampNeg, z)), σ.2.1 + 1, σ.2.2 + n.toNatClampNeg)) := by
  show (if n < 0 ∨ 536870912 < n.toNatClampNeg * 8 then none else _) = _
  rw [if_neg hn]
theorem am_R_newa {n : Int32} {at0 : ArrayType} {t : Nat} {z : (Nat → Int32) ⊕ (Nat → Int64) ⊕ (Nat → UInt32) ⊕ (Nat → UInt64) ⊕ (Nat → Option Nat)} (hd : decode mi.1.2 pc = .ok (.newarray at0, 2)) (ht : (at0 = .int ∧ t = 0 ∧ z = .inl fun _ => 0) ∨ (at0 = .byte ∧ t = 1 ∧ z = .inl fun _ => 0) ∨ (at0 = .boolean ∧ t = 2 ∧ z = .inl fun _ => 0) ∨ (at0 = .long ∧ t = 3 ∧ z = .inr (.inl fun _ => 0))) (hn : ¬ (n < 0 ∨ 536870912 < n.toNatClampNeg * 8)) : am_R b0 d Γ call mi ((pc, L, .int n :: S), σ) = am_R b0 d Γ call mi ((pc + 2, L, .ref σ.2.1 :: S), am_up σ.1 σ.2.1 (.inl (t, n.toNatClampNeg, z)), σ.2.1 + 1, σ.2.2 + n.toNatClampNeg) := by
  rcases ht with ⟨rfl, rfl, rfl⟩ | ⟨rfl, rfl, rfl⟩ | ⟨rfl, rfl, rfl⟩ | ⟨rfl, rfl, rfl⟩
  · have e : am_tab b0 d Γ call mi (.newarray .int) 2 pc L (.int n :: S) σ = am_nar pc L (.int n :: S) σ 0 2 (.inl fun _ => 0) := am_g_self 2 _
    rw [am_R_n hd rfl rfl, e, am_nar_go hn]
    rfl
  · have e : am_tab b0 d Γ call mi (.newarray .byte) 2 pc L (.int n :: S) σ = am_nar pc L (.int n :: S) σ 1 2 (.inl fun _ => 0) := am_g_self 2 _
    rw [am_R_n hd rfl rfl, e, am_nar_go hn]
    rfl
  · have e : am_tab b0 d Γ call mi (.newarray .boolean) 2 pc L (.int n :: S) σ = am_nar pc L (.int n :: S) σ 2 2 (.inl fun _ => 0) := am_g_self 2 _
    rw [am_R_n hd rfl rfl, e, am_nar_go hn]
    rfl
  · have e : am_tab b0 d Γ call mi (.newarray .long) 2 pc L (.int n :: S) σ = am_nar pc L (.int n :: S) σ 3 2 (.inr (.inl fun _ => 0)) := am_g_self 2 _
    rw [am_R_n hd rfl rfl, e, am_nar_go hn]
    rfl
theorem am_R_newq {n : Int32} {idx t o : Nat} (ho : mi.2.1.1 = o) (hd : decode mi.1.2 pc = .ok (.anewarray idx, 3)) (hc : am_ce o idx 1 = some t) (hn : ¬ (n < 0 ∨ 536870912 < n.toNatClampNeg * 8)) : am_R b0 d Γ call mi ((pc, L, .int n :: S), σ) = am_R b0 d Γ call mi ((pc + 3, L, .ref σ.2.1 :: S), am_up σ.1 σ.2.1 (.inl (t, n.toNatClampNeg, .inr (.inr (.inr (.inr fun _ => none))))), σ.2.1 + 1, σ.2.2 + n.toNatClampNeg) := by
  subst ho
  have e : am_tab b0 d Γ call mi (.anewarray idx) 3 pc L (.int n :: S) σ = (match am_ce mi.2.1.1 idx 1 with | some t => am_nar pc L (.int n :: S) σ t 3 (.inr (.inr (.inr (.inr fun _ => none)))) | none => none) := am_g_self 3 _
  rw [am_R_n hd rfl rfl, e, hc]
  simp only []
  rw [am_nar_go hn]
  rfl
theorem am_R_cst {idx a : Nat} {o : Nat} (ho : mi.2.1.1 = o) (hd : decode mi.1.2 pc = .ok (.checkcast idx, 3)) {ci : Nat} (hck : am_ck σ.1 a = some ci) (hc : am_ce o idx 0 = some ci ∨ (am_ce o idx 3 = some 0 ∧ (ci = 8 ∨ ci = 9 ∨ ci = 10 ∨ ci = 11))) : am_R b0 d Γ call mi ((pc, L, .ref a :: S), σ) = am_R b0 d Γ call mi ((pc + 3, L, .ref a :: S), σ) := by
  subst ho
  have e : am_tab b0 d Γ call mi (.checkcast idx) 3 pc L (.ref a :: S) σ = am_cst b0 mi idx pc L (.ref a :: S) σ := am_g_self 3 _
  rw [am_R_n hd rfl rfl, e]
  unfold am_ck at hck
  unfold am_cst
  split at hck
  · rename_i ci' fs hf
    cases hck
    simp only [hf, hc, if_true]
    rfl
  · cases hck
theorem am_R_csta {idx a : Nat} {o : Nat} (ho : mi.2.1.1 = o) (hd : decode mi.1.2 pc = .ok (.checkcast idx, 3)) {t : Nat} {x : vp_A} (hck : σ.1 a = some (.inl (t, x))) (hc : am_ce o idx 2 = some t) (hb : b0 ≤ a) : am_R b0 d Γ call mi ((pc, L, .ref a :: S), σ) = am_R b0 d Γ call mi ((pc + 3, L, .ref a :: S), σ) := by
  subst ho
  have e : am_tab b0 d Γ call mi (.checkcast idx) 3 pc L (.ref a :: S) σ = am_cst b0 mi idx pc L (.ref a :: S) σ := am_g_self 3 _
  rw [am_R_n hd rfl rfl, e]
  unfold am_cst
  simp only [hck, hc, hb, and_self, if_true]
  rfl
theorem am_R_cstn {idx : Nat} (hd : decode mi.1.2 pc = .ok (.checkcast idx, 3)) : am_R b0 d Γ call mi ((pc, L, .null :: S), σ) = am_R b0 d Γ call mi ((pc + 3, L, .null :: S), σ) := by
  have e : am_tab b0 d Γ call mi (.checkcast idx) 3 pc L (.null :: S) σ = am_cst b0 mi idx pc L (.null :: S) σ := am_g_self 3 _
  rw [am_R_n hd rfl rfl, e]
  rfl
end AMST2
