/-! SOUNDNESS 8: what a step keeps: the locals' number, the sizes' order -/
set_option maxRecDepth 100000
theorem am_push_l {pc len : Nat} {L : am_L} {S : List Value} {v : Option Value} {r : am_P} (h : am_push pc len L S v = some r) : r.2.1 = L := by
  unfold am_push at h
  split at h <;> cases h
  rfl
theorem am_st_l {L L' : am_L} {k : Nat} {v : Value} (h : am_st L k v = some L') : L'.length = L.length := by
  unfold am_st at h
  split at h
  · split at h <;> cases h
    simp
  · split at h <;> cases h
    simp
theorem am_store_l {pc len k : Nat} {L : am_L} {S : List Value} {q : Value → Bool} {r : am_P} (h : am_store pc len k L S q = some r) : r.2.1.length = L.length := by
  unfold am_store at h
  split at h
  · split at h
    · split at h
      · rename_i hs
        cases h
        exact am_st_l hs
      · cases h
    · cases h
  · cases h
theorem am_2i_l {pc : Nat} {L : am_L} {S : List Value} {f : Int32 → Int32 → Option Value} {r : am_P} (h : am_2i pc L S f = some r) : r.2.1 = L := by
  unfold am_2i at h
  split at h
  · exact am_push_l h
  · cases h
theorem am_2j_l {pc : Nat} {L : am_L} {S : List Value} {f : Int64 → Int64 → Option Value} {r : am_P} (h : am_2j pc L S f = some r) : r.2.1 = L := by
  unfold am_2j at h
  split at h
  · exact am_push_l h
  · cases h
theorem am_1i_l {pc : Nat} {L : am_L} {S : List Value} {f : Int32 → Option Value} {r : am_P} (h : am_1i pc L S f = some r) : r.2.1 = L := by
  unfold am_1i at h
  split at h
  · exact am_push_l h
  · cases h
theorem am_1j_l {pc : Nat} {L : am_L} {S : List Value} {f : Int64 → Option Value} {r : am_P} (h : am_1j pc L S f = some r) : r.2.1 = L := by
  unfold am_1j at h
  split at h
  · exact am_push_l h
  · cases h
theorem am_br_l {pc : Nat} {off : Int} {L : am_L} {S : List Value} {c : Prop} [Decidable c] {r : am_P} (h : am_br pc off L S c = some r) : r.2.1 = L := by
  unfold am_br at h
  split at h <;> cases h
  rfl
theorem am_if_l {pc : Nat} {off : Int} {L : am_L} {S : List Value} {op : Jvm.ClassFile.Cond} {r : am_P} (h : am_if pc off L S op = some r) : r.2.1 = L := by
  unfold am_if at h
  split at h
  · cases op <;> exact am_br_l h
  · cases h
theorem am_icmp_l {pc : Nat} {off : Int} {L : am_L} {S : List Value} {op : Jvm.ClassFile.Cond} {r : am_P} (h : am_icmp pc off L S op = some r) : r.2.1 = L := by
  unfold am_icmp at h
  split at h
  · cases op <;> exact am_br_l h
  · cases h
theorem am_nul_l {pc : Nat} {off : Int} {L : am_L} {S : List Value} {b : Bool} {r : am_P} (h : am_nul pc off L S b = some r) : r.2.1 = L := by
  unfold am_nul at h
  split at h
  · exact am_br_l h
  · exact am_br_l h
  · cases h
theorem am_acmp_l {pc : Nat} {off : Int} {L : am_L} {S : List Value} {op : ACond} {r : am_P} (h : am_acmp pc off L S op = some r) : r.2.1 = L := by
  unfold am_acmp at h
  split at h
  · split at h
    · cases op <;> exact am_br_l h
    · cases h
  · cases h
theorem am_pure_l {i : Instr} {len pc : Nat} {L : am_L} {S : List Value} {r : am_P} (h : am_pure i len pc L S = some r) : r.2.1.length = L.length := by
  unfold am_pure at h
  split at h
  all_goals first
    | exact congrArg List.length (am_push_l (am_g_some h).2)
    | exact am_store_l (am_g_some h).2
    | exact congrArg List.length (am_2i_l (am_g_some h).2)
    | exact congrArg List.length (am_2j_l (am_g_some h).2)
    | exact congrArg List.length (am_1i_l (am_g_some h).2)
    | exact congrArg List.length (am_1j_l (am_g_some h).2)
    | exact congrArg List.length (am_if_l (am_g_some h).2)
    | exact congrArg List.length (am_icmp_l (am_g_some h).2)
    | exact congrArg List.length (am_nul_l (am_g_some h).2)
    | exact congrArg List.length (am_acmp_l (am_g_some h).2)
    | (cases h; done)
    | skip
  all_goals (try replace h := (am_g_some h).2)
  all_goals repeat' split at h
  all_goals first
    | (cases h; done)
    | (cases h; rfl)
    | (cases h; exact am_st_l (by assumption))
    | exact congrArg List.length (am_push_l h)
theorem am_lda_l {pc : Nat} {L : am_L} {S : List Value} {σ : am_S} {g : am_H → Nat → Int32 → Option Value} {f : am_F} (h : am_lda pc L S σ g = some f) : f.1.2.1 = L ∧ f.2.2 = σ.2 := by
  unfold am_lda at h
  repeat' split at h
  all_goals first | (cases h; done) | (cases h; exact ⟨rfl, rfl⟩)
theorem am_put_l {pc : Nat} {L : am_L} {S : List Value} {σ : am_S} {o : Option am_H} {f : am_F} (h : am_put pc L S σ o = some f) : f.1.2.1 = L ∧ f.2.2 = σ.2 := by
  unfold am_put at h
  repeat' split at h
  all_goals first | (cases h; done) | (cases h; exact ⟨rfl, rfl⟩)
theorem am_arr_l {b0 : Nat} {i : Instr} {len pc : Nat} {L : am_L} {S : List Value} {σ : am_S} {f : am_F} (h : am_arr b0 i len pc L S σ = some f) : f.1.2.1 = L ∧ f.2.2 = σ.2 := by
  unfold am_arr at h
  split at h
  all_goals first | (cases h; done) | replace h := (am_g_some h).2
  all_goals first | exact am_lda_l h | skip
  all_goals repeat' split at h
  all_goals first
    | (cases h; done)
    | exact am_put_l h
    | (cases h; exact ⟨rfl, rfl⟩)
def am_y (y : am_F ⊕ am_O) : am_S := match y with
  | .inl f => f.2
  | .inr o => o.2
theorem am_thr_y {mi : am_Mi} {pc : Nat} {L : am_L} {E a : Nat} {σ : am_S} {y : am_F ⊕ am_O} (h : am_thr mi pc L E a σ = some y) : am_y y = σ := by
  unfold am_thr at h
  split at h <;> cases h <;> rfl
theorem am_thr_cases {mi : am_Mi} {pc : Nat} {L : am_L} {E a : Nat} {σ : am_S} {y : am_F ⊕ am_O} (h : am_thr mi pc L E a σ = some y) : (∃ t, y = .inl ((t, L, [.ref a]), σ)) ∨ y = .inr (.inr (E, a), σ) := by
  unfold am_thr at h
  split at h <;> cases h
  · exact Or.inl ⟨_, rfl⟩
  · exact Or.inr rfl
theorem am_cal_y {mi : am_Mi} {pc len : Nat} {L : am_L} {rest : List Value} {o : Option am_O} {y : am_F ⊕ am_O} (h : am_cal mi pc len L rest o = some y) : ∃ r, o = some (r, am_y y) := by
  unfold am_cal at h
  split at h
  · cases h
    exact ⟨_, rfl⟩
  · rw [am_thr_y h]
    exact ⟨_, rfl⟩
  · cases h
def am_le (σ σ' : am_S) : Prop := σ.2.1 ≤ σ'.2.1 ∧ σ.2.2 ≤ σ'.2.2
theorem am_le_refl (σ : am_S) : am_le σ σ := ⟨Nat.le_refl _, Nat.le_refl _⟩
theorem am_le_trans {a b c : am_S} (h : am_le a b) (k : am_le b c) : am_le a c := ⟨Nat.le_trans h.1 k.1, Nat.le_trans h.2 k.2⟩
def am_cle (call : Nat → List Value → am_S → Option am_O) : Prop := ∀ M as σ r σ', call M as σ = some (r, σ') → am_le σ σ'
theorem am_tab_le {b0 d : Nat} {Γ : Nat → Value} {call : Nat → List Value → am_S → Option am_O} (hc : am_cle call) {mi : am_Mi} {i : Instr} {len pc : Nat} {L : am_L} {S : List Value} {σ : am_S} {y : am_F ⊕ am_O} (h : am_tab b0 d Γ call mi i len pc L S σ = some y) : am_le σ (am_y y) := by
  have k : ∀ {pc len : Nat} {L : am_L} {rest : List Value} {M : Nat} {as : List Value}, am_cal mi pc len L rest (call M as σ) = some y → am_le σ (am_y y) := by
    intro pc len L rest M as h
    obtain ⟨r, hr⟩ := am_cal_y h
    exact hc _ _ _ _ _ hr
  have nar : ∀ {t w : Nat} {z}, am_nar pc L S σ t w z = some y → am_le σ (am_y y) := by
    intro t w z h
    obtain ⟨n, S', -, -, -, rfl⟩ := am_nar_ok h
    exact ⟨Nat.le_succ _, Nat.le_add_right _ _⟩
  unfold am_tab at h
  split at h
  all_goals first | (cases h; done) | replace h := (am_g_some h).2
  all_goals try unfold am_stc at h
  all_goals try unfold am_vrt at h
  all_goals try unfold am_ifc at h
  all_goals try unfold am_spc at h
  all_goals try unfold am_new at h
  all_goals try unfold am_cst at h
  all_goals repeat' split at h
  all_goals first
    | (cases h; done)
    | exact nar h
    | exact k h
    | (cases h; exact am_le_refl _)
    | (cases h; exact ⟨Nat.le_succ _, Nat.le_add_right _ _⟩)
    | (rw [am_thr_y h]; exact am_le_refl _)
theorem am_step_le {b0 d : Nat} {Γ : Nat → Value} {call : Nat → List Value → am_S → Option am_O} (hc : am_cle call) {mi : am_Mi} {f : am_F} {y : am_F ⊕ am_O} (h : am_step b0 d Γ call mi f = some y) : am_le f.2 (am_y y) := by
  unfold am_step at h
  split at h
  · split at h
    · cases h
      exact am_le_refl _
    · split at h
      · rename_i hf
        cases h
        have := (am_arr_l hf).2
        unfold am_le am_y
        dsimp only
        rw [this]
        exact ⟨Nat.le_refl _, Nat.le_refl _⟩
      · exact am_tab_le hc h
  · cases h
theorem am_run_sz {b0 d : Nat} {Γ : Nat → Value} {call : Nat → List Value → am_S → Option am_O} (hc : am_cle call) {mi : am_Mi} : ∀ (n : Nat) (f : am_F) (o : am_O), am_run b0 d Γ call mi n f = some o → am_le f.2 o.2 := by
  intro n
  induction n with
  | zero => intro f o h; cases h
  | succ n ih =>
    intro f o h
    rw [am_run_s] at h
    split at h
    · rename_i f' hs
      exact am_le_trans (am_step_le hc hs) (ih _ _ h)
    · rename_i o' hs
      cases h
      exact am_step_le hc hs
    · cases h
theorem am_C_le {b0 : Nat} {Γ : Nat → Value} : ∀ d, am_cle (am_C b0 Γ d) := by
  intro d
  induction d with
  | zero => intro M as σ r σ' h; cases h
  | succ d ih =>
    intro M as σ r σ' h
    unfold am_C at h
    split at h
    · split at h
      · obtain ⟨n, hn⟩ := am_R_iff.mp h
        exact am_run_sz ih _ _ _ hn
      · cases h
    · cases h
