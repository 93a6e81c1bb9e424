/-! SOUNDNESS 1: the pure instructions -/
set_option maxRecDepth 100000
def am_en (L : am_L) : List (Nat × Value) := (List.range L.length).filterMap fun i => match L[i]? with
  | some (some v) => if v.category = 2 then (match L[i + 1]? with | some none => some (i, v) | _ => none) else some (i, v)
  | _ => none
theorem am_en_mem {L : am_L} {q : Nat × Value} : q ∈ am_en L ↔ L[q.1]? = some (some q.2) ∧ (q.2.category = 2 → L[q.1 + 1]? = some none) := by
  unfold am_en
  rw [List.mem_filterMap]
  constructor
  · rintro ⟨i, hi, h⟩
    split at h
    · rename_i v hv
      split at h
      · split at h
        · rename_i hn
          cases h
          exact ⟨hv, fun _ => hn⟩
        · cases h
      · rename_i hc
        cases h
        exact ⟨hv, fun h => absurd h hc⟩
    · cases h
  · rintro ⟨h1, h2⟩
    refine ⟨q.1, List.mem_range.mpr (List.getElem?_eq_some_iff.mp h1).1, ?_⟩
    rw [h1]
    by_cases hc : q.2.category = 2
    · simp only [hc, if_true, h2 hc]
    · simp only [hc, if_false]
def am_LR (ls : Array Slot) (L : am_L) : Prop := lv_has ls L.length (am_en L)
theorem am_LR.get {ls : Array Slot} {L : am_L} (h : am_LR ls L) {k : Nat} {q : Value → Bool} {v : Value} (hv : am_ld L k q = some v) : ls[k]? = some (.val v) ∧ q v = true := by
  unfold am_ld at hv
  split at hv
  · rename_i w hw
    split at hv
    · rename_i hq
      split at hv
      · split at hv
        · rename_i hn
          have e := Option.some.inj hv
          subst e
          exact ⟨h.2.2 (k, w) (am_en_mem.mpr ⟨hw, fun _ => hn⟩), hq⟩
        · cases hv
      · rename_i hc
        have e := Option.some.inj hv
        subst e
        exact ⟨h.2.2 (k, w) (am_en_mem.mpr ⟨hw, fun z => absurd z hc⟩), hq⟩
    · cases hv
  · cases hv
theorem am_LR.set1 {ls' : Array Slot} {L L' : am_L} {k : Nat} {v : Value} (hc : ¬ v.category = 2) (hs : am_st L k v = some L') (h : lv_has ls' L.length ((k, v) :: (am_en L).filter (fun q => !(q.1 == k) && !(q.1 + 1 == k && q.2.category == 2)))) : k < L.length ∧ am_LR ls' L' := by
  unfold am_st at hs
  rw [if_neg hc] at hs
  split at hs
  · rename_i hk
    cases hs
    refine ⟨hk, ?_⟩
    refine ⟨by rw [h.1, List.length_set], h.2.1, fun q hq => h.2.2 q ?_⟩
    obtain ⟨h1, h2⟩ := am_en_mem.mp hq
    obtain ⟨j, w⟩ := q
    dsimp only at h1 h2
    by_cases hj : j = k
    · subst hj
      rw [List.getElem?_set_self hk] at h1
      cases h1
      exact List.mem_cons_self
    · rw [List.getElem?_set_ne (Ne.symm hj)] at h1
      have h3 : w.category = 2 → j + 1 ≠ k ∧ L[j + 1]? = some none := by
        intro hw
        have := h2 hw
        by_cases hz : j + 1 = k
        · rw [← hz, List.getElem?_set_self (by omega)] at this
          cases this
        · rw [List.getElem?_set_ne (Ne.symm hz)] at this
          exact ⟨hz, this⟩
      refine List.mem_cons_of_mem _ (List.mem_filter.mpr ⟨am_en_mem.mpr ⟨h1, fun hw => (h3 hw).2⟩, ?_⟩)
      simp only [Bool.and_eq_true, Bool.not_eq_true', beq_eq_false_iff_ne, ne_eq, Bool.and_eq_false_iff]
      refine ⟨hj, ?_⟩
      by_cases hw : w.category = 2
      · exact Or.inl (h3 hw).1
      · exact Or.inr hw
  · cases hs
theorem am_LR.set2 {ls' : Array Slot} {L L' : am_L} {k : Nat} {v : Value} (hc : v.category = 2) (hs : am_st L k v = some L') (h : lv_has ls' L.length ((k, v) :: (am_en L).filter (fun q => !(q.1 == k) && (!(q.1 == k + 1) && !(q.1 + 1 == k && q.2.category == 2))))) : k + 1 < L.length ∧ am_LR ls' L' := by
  unfold am_st at hs
  rw [if_pos hc] at hs
  split at hs
  · rename_i hk
    cases hs
    refine ⟨hk, ?_⟩
    refine ⟨by rw [h.1, List.length_set, List.length_set], h.2.1, fun q hq => h.2.2 q ?_⟩
    obtain ⟨h1, h2⟩ := am_en_mem.mp hq
    obtain ⟨j, w⟩ := q
    dsimp only at h1 h2
    have hl : (L.set k (some v)).length = L.length := List.length_set
    by_cases hj2 : j = k + 1
    · subst hj2
      rw [List.getElem?_set_self (by omega)] at h1
      cases h1
    · rw [List.getElem?_set_ne (Ne.symm hj2)] at h1
      by_cases hj : j = k
      · subst hj
        rw [List.getElem?_set_self (by omega)] at h1
        cases h1
        exact List.mem_cons_self
      · rw [List.getElem?_set_ne (Ne.symm hj)] at h1
        have h3 : w.category = 2 → j + 1 ≠ k ∧ L[j + 1]? = some none := by
          intro hw
          have := h2 hw
          rw [List.getElem?_set_ne (by omega)] at this
          by_cases hz : j + 1 = k
          · rw [← hz, List.getElem?_set_self (by omega)] at this
            cases this
          · rw [List.getElem?_set_ne (Ne.symm hz)] at this
            exact ⟨hz, this⟩
        refine List.mem_cons_of_mem _ (List.mem_filter.mpr ⟨am_en_mem.mpr ⟨h1, fun hw => (h3 hw).2⟩, ?_⟩)
        simp only [Bool.and_eq_true, Bool.not_eq_true', beq_eq_false_iff_ne, ne_eq, Bool.and_eq_false_iff]
        refine ⟨hj, hj2, ?_⟩
        by_cases hw : w.category = 2
        · exact Or.inl (h3 hw).1
        · exact Or.inr hw
  · cases hs
theorem am_tg_ok {pc : Nat} {off : Int} {t : Nat} (h : am_tg pc off = some t) : (pc : Int) + off = (t : Int) := by
  unfold am_tg at h
  split at h
  · rename_i q
    cases h
    exact (Int.toNat_of_nonneg q).symm
  · cases h
theorem am_push_ok {pc len : Nat} {L : am_L} {S : List Value} {v : Option Value} {q : am_P} (h : am_push pc len L S v = some q) : ∃ w, v = some w ∧ q = (pc + len, L, w :: S) := by
  unfold am_push at h
  split at h
  · exact ⟨_, rfl, (Option.some.inj h).symm⟩
  · cases h
theorem am_isI_ok {v : Value} (h : am_isI v = true) : ∃ x, v = .int x := by cases v <;> first | exact ⟨_, rfl⟩ | cases h
theorem am_isJ_ok {v : Value} (h : am_isJ v = true) : ∃ x, v = .long x := by cases v <;> first | exact ⟨_, rfl⟩ | cases h
theorem am_isA_ok {v : Value} (h : am_isA v = true) : (∃ x, v = .ref x) ∨ v = .null := by cases v <;> first | exact Or.inl ⟨_, rfl⟩ | exact Or.inr rfl | cases h
theorem am_store_ok {pc len k : Nat} {L : am_L} {S : List Value} {q : Value → Bool} {r : am_P} (h : am_store pc len k L S q = some r) : ∃ v S' L', S = v :: S' ∧ q v = true ∧ am_st L k v = some L' ∧ r = (pc + len, L', S') := by
  unfold am_store at h
  split at h
  · split at h
    · rename_i hq
      split at h
      · rename_i L' hL
        exact ⟨_, _, L', rfl, hq, hL, (Option.some.inj h).symm⟩
      · cases h
    · cases h
  · cases h
theorem am_2i_ok {pc : Nat} {L : am_L} {S : List Value} {f : Int32 → Int32 → Option Value} {r : am_P} (h : am_2i pc L S f = some r) : ∃ x y S' w, S = .int y :: .int x :: S' ∧ f x y = some w ∧ r = (pc + 1, L, w :: S') := by
  unfold am_2i at h
  split at h
  · obtain ⟨w, h1, h2⟩ := am_push_ok h
    exact ⟨_, _, _, w, rfl, h1, h2⟩
  · cases h
theorem am_2j_ok {pc : Nat} {L : am_L} {S : List Value} {f : Int64 → Int64 → Option Value} {r : am_P} (h : am_2j pc L S f = some r) : ∃ x y S' w, S = .long y :: .long x :: S' ∧ f x y = some w ∧ r = (pc + 1, L, w :: S') := by
  unfold am_2j at h
  split at h
  · obtain ⟨w, h1, h2⟩ := am_push_ok h
    exact ⟨_, _, _, w, rfl, h1, h2⟩
  · cases h
theorem am_1i_ok {pc : Nat} {L : am_L} {S : List Value} {f : Int32 → Option Value} {r : am_P} (h : am_1i pc L S f = some r) : ∃ x S' w, S = .int x :: S' ∧ f x = some w ∧ r = (pc + 1, L, w :: S') := by
  unfold am_1i at h
  split at h
  · obtain ⟨w, h1, h2⟩ := am_push_ok h
    exact ⟨_, _, w, rfl, h1, h2⟩
  · cases h
theorem am_1j_ok {pc : Nat} {L : am_L} {S : List Value} {f : Int64 → Option Value} {r : am_P} (h : am_1j pc L S f = some r) : ∃ x S' w, S = .long x :: S' ∧ f x = some w ∧ r = (pc + 1, L, w :: S') := by
  unfold am_1j at h
  split at h
  · obtain ⟨w, h1, h2⟩ := am_push_ok h
    exact ⟨_, _, w, rfl, h1, h2⟩
  · cases h
theorem am_br_ok {pc : Nat} {off : Int} {L : am_L} {S : List Value} {c : Prop} [Decidable c] {r : am_P} (h : am_br pc off L S c = some r) : ∃ t : Nat, (pc : Int) + off = (t : Int) ∧ (c → r = (t, L, S)) ∧ (¬ c → r = (pc + 3, L, S)) := by
  unfold am_br at h
  split at h
  · rename_i t ht
    refine ⟨t, am_tg_ok ht, fun hc => ?_, fun hc => ?_⟩
    · rw [if_pos hc] at h; exact (Option.some.inj h).symm
    · rw [if_neg hc] at h; exact (Option.some.inj h).symm
  · cases h
theorem am_st_lt {L L' : am_L} {k : Nat} {v : Value} (hc : ¬ v.category = 2) (hs : am_st L k v = some L') : k < L.length := by
  unfold am_st at hs
  rw [if_neg hc] at hs
  split at hs
  · assumption
  · cases hs
theorem am_st_lt2 {L L' : am_L} {k : Nat} {v : Value} (hc : v.category = 2) (hs : am_st L k v = some L') : k + 1 < L.length := by
  unfold am_st at hs
  rw [if_pos hc] at hs
  split at hs
  · assumption
  · cases hs
theorem am_ld_mem {L : am_L} {k : Nat} {q : Value → Bool} {v : Value} (hv : am_ld L k q = some v) : (k, v) ∈ am_en L := by
  unfold am_ld at hv
  split at hv
  · rename_i w hw
    split at hv
    · split at hv
      · split at hv
        · rename_i hn
          cases hv
          exact am_en_mem.mpr ⟨hw, fun _ => hn⟩
        · cases hv
      · rename_i hc
        cases hv
        exact am_en_mem.mpr ⟨hw, fun z => absurd z hc⟩
    · cases hv
  · cases hv
section AMP
variable {p : Program} {l : Launch} {e : Env} {R : Room} {s : State} {m : MethodId} {args : Array Value} {below : List Frame} {meth : Method} {c : Code} {H : Heap} {locs : List Loc} {cells slots : Nat} {Q : State → Prop}
variable {cc : ByteArray} {pc : Nat} {ls : Array Slot}
theorem am_if_W (hexec : p.tables.exec = Jvm.exec) (hb : c.code = cc) {op : Jvm.ClassFile.Cond} {off : Int} {L : am_L} {S : List Value} {r : am_P} (hd : decode cc pc = .ok (.ifCond op off, 3)) (hL : am_LR ls L) (h : am_if pc off L S op = some r) (k : ∀ ls', am_LR ls' r.2.1 → W p l e R s m args below meth c H locs cells slots Q (F0 m r.1 ls' r.2.2)) : W p l e R s m args below meth c H locs cells slots Q (F0 m pc ls S) := by
  unfold am_if at h
  split at h
  · rename_i x S'
    cases op with
    | eq =>
      obtain ⟨t, ht, h1, h2⟩ := am_br_ok h
      exact lv_if_eq hexec hb hd ht (fun q => by have z := h1 q; subst z; exact k _ hL) (fun q => by have z := h2 q; subst z; exact k _ hL)
    | ne =>
      obtain ⟨t, ht, h1, h2⟩ := am_br_ok h
      exact lv_if_ne hexec hb hd ht (fun q => by have z := h1 q; subst z; exact k _ hL) (fun q => by have z := h2 (fun w => w q); subst z; exact k _ hL)
    | lt =>
      obtain ⟨t, ht, h1, h2⟩ := am_br_ok h
      exact lv_if_lt hexec hb hd ht (fun q => by have z := h1 q; subst z; exact k _ hL) (fun q => by have z := h2 q; subst z; exact k _ hL)
    | ge =>
      obtain ⟨t, ht, h1, h2⟩ := am_br_ok h
      exact lv_if_ge hexec hb hd ht (fun q => by have z := h1 q; subst z; exact k _ hL) (fun q => by have z := h2 q; subst z; exact k _ hL)
    | gt =>
      obtain ⟨t, ht, h1, h2⟩ := am_br_ok h
      exact lv_if_gt hexec hb hd ht (fun q => by have z := h1 q; subst z; exact k _ hL) (fun q => by have z := h2 q; subst z; exact k _ hL)
    | le =>
      obtain ⟨t, ht, h1, h2⟩ := am_br_ok h
      exact lv_if_le hexec hb hd ht (fun q => by have z := h1 q; subst z; exact k _ hL) (fun q => by have z := h2 q; subst z; exact k _ hL)
  · cases h
theorem am_icmp_W (hexec : p.tables.exec = Jvm.exec) (hb : c.code = cc) {op : Jvm.ClassFile.Cond} {off : Int} {L : am_L} {S : List Value} {r : am_P} (hd : decode cc pc = .ok (.if_icmp op off, 3)) (hL : am_LR ls L) (h : am_icmp pc off L S op = some r) (k : ∀ ls', am_LR ls' r.2.1 → W p l e R s m args below meth c H locs cells slots Q (F0 m r.1 ls' r.2.2)) : W p l e R s m args below meth c H locs cells slots Q (F0 m pc ls S) := by
  unfold am_icmp at h
  split at h
  · rename_i y x S'
    cases op with
    | eq =>
      obtain ⟨t, ht, h1, h2⟩ := am_br_ok h
      exact lv_icmp_eq hexec hb hd ht (fun q => by have z := h1 q; subst z; exact k _ hL) (fun q => by have z := h2 q; subst z; exact k _ hL)
    | ne =>
      obtain ⟨t, ht, h1, h2⟩ := am_br_ok h
      exact lv_icmp_ne hexec hb hd ht (fun q => by have z := h1 q; subst z; exact k _ hL) (fun q => by have z := h2 (fun w => w q); subst z; exact k _ hL)
    | lt =>
      obtain ⟨t, ht, h1, h2⟩ := am_br_ok h
      exact lv_icmp_lt hexec hb hd ht (fun q => by have z := h1 q; subst z; exact k _ hL) (fun q => by have z := h2 q; subst z; exact k _ hL)
    | ge =>
      obtain ⟨t, ht, h1, h2⟩ := am_br_ok h
      exact lv_icmp_ge hexec hb hd ht (fun q => by have z := h1 q; subst z; exact k _ hL) (fun q => by have z := h2 q; subst z; exact k _ hL)
    | gt =>
      obtain ⟨t, ht, h1, h2⟩ := am_br_ok h
      exact lv_icmp_gt hexec hb hd ht (fun q => by have z := h1 q; subst z; exact k _ hL) (fun q => by have z := h2 q; subst z; exact k _ hL)
    | le =>
      obtain ⟨t, ht, h1, h2⟩ := am_br_ok h
      exact lv_icmp_le hexec hb hd ht (fun q => by have z := h1 q; subst z; exact k _ hL) (fun q => by have z := h2 q; subst z; exact k _ hL)
  · cases h
theorem am_rfv_ok {v : Value} {y : Option Nat} (h : am_rfv v = some y) : v = va_rf y := by
  cases v <;> cases h <;> rfl
theorem am_acmp_W (hexec : p.tables.exec = Jvm.exec) (hb : c.code = cc) {op : ACond} {off : Int} {L : am_L} {S : List Value} {r : am_P} (hd : decode cc pc = .ok (.if_acmp op off, 3)) (hL : am_LR ls L) (h : am_acmp pc off L S op = some r) (k : ∀ ls', am_LR ls' r.2.1 → W p l e R s m args below meth c H locs cells slots Q (F0 m r.1 ls' r.2.2)) : W p l e R s m args below meth c H locs cells slots Q (F0 m pc ls S) := by
  unfold am_acmp at h
  split at h
  · split at h
    · rename_i y x hy hx
      rw [am_rfv_ok hy, am_rfv_ok hx]
      cases op with
      | eq =>
        obtain ⟨t, ht, h1, h2⟩ := am_br_ok h
        exact lv_acmp_eq hexec hb hd ht (fun q => by have z := h1 q; subst z; exact k _ hL) (fun q => by have z := h2 q; subst z; exact k _ hL)
      | ne =>
        obtain ⟨t, ht, h1, h2⟩ := am_br_ok h
        exact lv_acmp_ne hexec hb hd ht (fun q => by have z := h1 q; subst z; exact k _ hL) (fun q => by have z := h2 (fun w => w q); subst z; exact k _ hL)
    · cases h
  · cases h
theorem am_ifnull_W (hexec : p.tables.exec = Jvm.exec) (hb : c.code = cc) {off : Int} {L : am_L} {S : List Value} {r : am_P} (hd : decode cc pc = .ok (.ifnull off, 3)) (hL : am_LR ls L) (h : am_nul pc off L S true = some r) (k : ∀ ls', am_LR ls' r.2.1 → W p l e R s m args below meth c H locs cells slots Q (F0 m r.1 ls' r.2.2)) : W p l e R s m args below meth c H locs cells slots Q (F0 m pc ls S) := by
  unfold am_nul at h
  split at h
  · obtain ⟨t, ht, h1, h2⟩ := am_br_ok h
    exact lv_ifnullN hexec hb hd ht (by have z := h1 rfl; subst z; exact k _ hL)
  · obtain ⟨t, ht, h1, h2⟩ := am_br_ok h
    exact lv_ifnull hexec hb hd (by have z := h2 (by decide); subst z; exact k _ hL)
  · cases h
theorem am_ifnonnull_W (hexec : p.tables.exec = Jvm.exec) (hb : c.code = cc) {off : Int} {L : am_L} {S : List Value} {r : am_P} (hd : decode cc pc = .ok (.ifnonnull off, 3)) (hL : am_LR ls L) (h : am_nul pc off L S false = some r) (k : ∀ ls', am_LR ls' r.2.1 → W p l e R s m args below meth c H locs cells slots Q (F0 m r.1 ls' r.2.2)) : W p l e R s m args below meth c H locs cells slots Q (F0 m pc ls S) := by
  unfold am_nul at h
  split at h
  · obtain ⟨t, ht, h1, h2⟩ := am_br_ok h
    exact lv_ifnonnullN hexec hb hd (by have z := h2 (by decide); subst z; exact k _ hL)
  · obtain ⟨t, ht, h1, h2⟩ := am_br_ok h
    exact lv_ifnonnull hexec hb hd ht (by have z := h1 rfl; subst z; exact k _ hL)
  · cases h
theorem am_pure_W (hexec : p.tables.exec = Jvm.exec) (hb : c.code = cc) {i : Instr} {len : Nat} {L : am_L} {S : List Value} {r : am_P} (hd : decode cc pc = .ok (i, len)) (hL : am_LR ls L) (h : am_pure i len pc L S = some r) (k : ∀ ls', am_LR ls' r.2.1 → W p l e R s m args below meth c H locs cells slots Q (F0 m r.1 ls' r.2.2)) : W p l e R s m args below meth c H locs cells slots Q (F0 m pc ls S) := by
  cases i with
  | iconst n =>
    replace h := am_g_some h
    obtain ⟨e0, h⟩ := h
    subst e0
    obtain ⟨w, h1, rfl⟩ := am_push_ok h
    cases h1
    exact lv_iconst hexec hb hd rfl (k _ hL)
  | bipush n =>
    replace h := am_g_some h
    obtain ⟨e0, h⟩ := h
    subst e0
    obtain ⟨w, h1, rfl⟩ := am_push_ok h
    cases h1
    exact lv_bipush hexec hb hd rfl (k _ hL)
  | sipush n =>
    replace h := am_g_some h
    obtain ⟨e0, h⟩ := h
    subst e0
    obtain ⟨w, h1, rfl⟩ := am_push_ok h
    cases h1
    exact lv_sipush hexec hb hd rfl (k _ hL)
  | lconst n =>
    replace h := am_g_some h
    obtain ⟨e0, h⟩ := h
    subst e0
    obtain ⟨w, h1, rfl⟩ := am_push_ok h
    cases h1
    exact lv_lconst hexec hb hd rfl (k _ hL)
  | aconst_null =>
    replace h := am_g_some h
    obtain ⟨e0, h⟩ := h
    subst e0
    obtain ⟨w, h1, rfl⟩ := am_push_ok h
    cases h1
    exact lv_null hexec hb hd (k _ hL)
  | iload_n j =>
    replace h := am_g_some h
    obtain ⟨e0, h⟩ := h
    subst e0
    obtain ⟨w, h1, rfl⟩ := am_push_ok h
    obtain ⟨g1, g2⟩ := hL.get h1
    obtain ⟨x, rfl⟩ := am_isI_ok g2
    exact lv_iload_n hexec hb hd rfl g1 (k _ hL)
  | iload j =>
    replace h := am_g_some h
    obtain ⟨e0, h⟩ := h
    subst e0
    obtain ⟨w, h1, rfl⟩ := am_push_ok h
    obtain ⟨g1, g2⟩ := hL.get h1
    obtain ⟨x, rfl⟩ := am_isI_ok g2
    exact lv_iload hexec hb hd g1 (k _ hL)
  | lload_n j =>
    replace h := am_g_some h
    obtain ⟨e0, h⟩ := h
    subst e0
    obtain ⟨w, h1, rfl⟩ := am_push_ok h
    obtain ⟨g1, g2⟩ := hL.get h1
    obtain ⟨x, rfl⟩ := am_isJ_ok g2
    exact lv_lload_n hexec hb hd rfl g1 (k _ hL)
  | lload j =>
    replace h := am_g_some h
    obtain ⟨e0, h⟩ := h
    subst e0
    obtain ⟨w, h1, rfl⟩ := am_push_ok h
    obtain ⟨g1, g2⟩ := hL.get h1
    obtain ⟨x, rfl⟩ := am_isJ_ok g2
    exact lv_lload hexec hb hd g1 (k _ hL)
  | aload_n j =>
    replace h := am_g_some h
    obtain ⟨e0, h⟩ := h
    subst e0
    obtain ⟨w, h1, rfl⟩ := am_push_ok h
    obtain ⟨g1, g2⟩ := hL.get h1
    rcases am_isA_ok g2 with ⟨x, rfl⟩ | rfl
    · exact lv_aload_n hexec hb hd rfl g1 (k _ hL)
    · exact lv_aload_nN hexec hb hd rfl g1 (k _ hL)
  | aload j =>
    replace h := am_g_some h
    obtain ⟨e0, h⟩ := h
    subst e0
    obtain ⟨w, h1, rfl⟩ := am_push_ok h
    obtain ⟨g1, g2⟩ := hL.get h1
    rcases am_isA_ok g2 with ⟨x, rfl⟩ | rfl
    · exact lv_aload hexec hb hd g1 (k _ hL)
    · exact lv_aloadN hexec hb hd g1 (k _ hL)
  | istore_n j =>
    replace h := am_g_some h
    obtain ⟨e0, h⟩ := h
    subst e0
    obtain ⟨v, S', L', rfl, hq, hs, rfl⟩ := am_store_ok h
    obtain ⟨x, rfl⟩ := am_isI_ok hq
    exact lv_istore_n (nL := L.length) hexec hb hd rfl hL (am_st_lt (by simp [Value.category]) hs) rfl (fun ls' hl => k _ (am_LR.set1 (by simp [Value.category]) hs hl).2)
  | istore j =>
    replace h := am_g_some h
    obtain ⟨e0, h⟩ := h
    subst e0
    obtain ⟨v, S', L', rfl, hq, hs, rfl⟩ := am_store_ok h
    obtain ⟨x, rfl⟩ := am_isI_ok hq
    exact lv_istore (nL := L.length) hexec hb hd hL (am_st_lt (by simp [Value.category]) hs) rfl (fun ls' hl => k _ (am_LR.set1 (by simp [Value.category]) hs hl).2)
  | lstore_n j =>
    replace h := am_g_some h
    obtain ⟨e0, h⟩ := h
    subst e0
    obtain ⟨v, S', L', rfl, hq, hs, rfl⟩ := am_store_ok h
    obtain ⟨x, rfl⟩ := am_isJ_ok hq
    exact lv_lstore_n (nL := L.length) hexec hb hd rfl hL (am_st_lt2 rfl hs) rfl (fun ls' hl => k _ (am_LR.set2 rfl hs hl).2)
  | lstore j =>
    replace h := am_g_some h
    obtain ⟨e0, h⟩ := h
    subst e0
    obtain ⟨v, S', L', rfl, hq, hs, rfl⟩ := am_store_ok h
    obtain ⟨x, rfl⟩ := am_isJ_ok hq
    exact lv_lstore (nL := L.length) hexec hb hd hL (am_st_lt2 rfl hs) rfl (fun ls' hl => k _ (am_LR.set2 rfl hs hl).2)
  | astore_n j =>
    replace h := am_g_some h
    obtain ⟨e0, h⟩ := h
    subst e0
    obtain ⟨v, S', L', rfl, hq, hs, rfl⟩ := am_store_ok h
    rcases am_isA_ok hq with ⟨x, rfl⟩ | rfl
    · exact lv_astore_n (nL := L.length) hexec hb hd rfl hL (am_st_lt (by simp [Value.category]) hs) rfl (fun ls' hl => k _ (am_LR.set1 (by simp [Value.category]) hs hl).2)
    · exact lv_astore_nN (nL := L.length) hexec hb hd rfl hL (am_st_lt (by simp [Value.category]) hs) rfl (fun ls' hl => k _ (am_LR.set1 (by simp [Value.category]) hs hl).2)
  | astore j =>
    replace h := am_g_some h
    obtain ⟨e0, h⟩ := h
    subst e0
    obtain ⟨v, S', L', rfl, hq, hs, rfl⟩ := am_store_ok h
    rcases am_isA_ok hq with ⟨x, rfl⟩ | rfl
    · exact lv_astore (nL := L.length) hexec hb hd hL (am_st_lt (by simp [Value.category]) hs) rfl (fun ls' hl => k _ (am_LR.set1 (by simp [Value.category]) hs hl).2)
    · exact lv_astoreN (nL := L.length) hexec hb hd hL (am_st_lt (by simp [Value.category]) hs) rfl (fun ls' hl => k _ (am_LR.set1 (by simp [Value.category]) hs hl).2)
  | iinc j n =>
    replace h := am_g_some h
    obtain ⟨e0, h⟩ := h
    subst e0
    split at h
    · rename_i x hx
      split at h
      · rename_i L' hs
        cases h
        obtain ⟨g1, g2⟩ := hL.get hx
        obtain ⟨a, ha⟩ := List.getElem?_of_mem (am_ld_mem hx)
        exact lv_iinc (nL := L.length) hexec hb hd hL ha rfl (am_st_lt (by simp [Value.category]) hs) rfl (fun ls' hl => k _ (am_LR.set1 (by simp [Value.category]) hs hl).2)
      · cases h
    · cases h
  | iadd =>
    replace h := am_g_some h
    obtain ⟨e0, h⟩ := h
    subst e0
    obtain ⟨x, y, S', w, rfl, h1, rfl⟩ := am_2i_ok h
    cases h1
    exact lv_iadd hexec hb hd (k _ hL)
  | isub =>
    replace h := am_g_some h
    obtain ⟨e0, h⟩ := h
    subst e0
    obtain ⟨x, y, S', w, rfl, h1, rfl⟩ := am_2i_ok h
    cases h1
    exact lv_isub hexec hb hd (k _ hL)
  | imul =>
    replace h := am_g_some h
    obtain ⟨e0, h⟩ := h
    subst e0
    obtain ⟨x, y, S', w, rfl, h1, rfl⟩ := am_2i_ok h
    cases h1
    exact lv_imul hexec hb hd (k _ hL)
  | iand =>
    replace h := am_g_some h
    obtain ⟨e0, h⟩ := h
    subst e0
    obtain ⟨x, y, S', w, rfl, h1, rfl⟩ := am_2i_ok h
    cases h1
    exact lv_iand hexec hb hd (k _ hL)
  | ior =>
    replace h := am_g_some h
    obtain ⟨e0, h⟩ := h
    subst e0
    obtain ⟨x, y, S', w, rfl, h1, rfl⟩ := am_2i_ok h
    cases h1
    exact lv_ior hexec hb hd (k _ hL)
  | ixor =>
    replace h := am_g_some h
    obtain ⟨e0, h⟩ := h
    subst e0
    obtain ⟨x, y, S', w, rfl, h1, rfl⟩ := am_2i_ok h
    cases h1
    exact lv_ixor hexec hb hd (k _ hL)
  | ishl =>
    replace h := am_g_some h
    obtain ⟨e0, h⟩ := h
    subst e0
    obtain ⟨x, y, S', w, rfl, h1, rfl⟩ := am_2i_ok h
    cases h1
    exact lv_ishl hexec hb hd (k _ hL)
  | ishr =>
    replace h := am_g_some h
    obtain ⟨e0, h⟩ := h
    subst e0
    obtain ⟨x, y, S', w, rfl, h1, rfl⟩ := am_2i_ok h
    cases h1
    exact lv_ishr hexec hb hd (k _ hL)
  | iushr =>
    replace h := am_g_some h
    obtain ⟨e0, h⟩ := h
    subst e0
    obtain ⟨x, y, S', w, rfl, h1, rfl⟩ := am_2i_ok h
    cases h1
    exact lv_iushr hexec hb hd rfl (k _ hL)
  | idiv =>
    replace h := am_g_some h
    obtain ⟨e0, h⟩ := h
    subst e0
    obtain ⟨x, y, S', w, rfl, h1, rfl⟩ := am_2i_ok h
    split at h1
    · cases h1
    · rename_i hne
      cases h1
      exact lv_idiv hexec hb hd hne (k _ hL)
  | irem =>
    replace h := am_g_some h
    obtain ⟨e0, h⟩ := h
    subst e0
    obtain ⟨x, y, S', w, rfl, h1, rfl⟩ := am_2i_ok h
    split at h1
    · cases h1
    · rename_i hne
      cases h1
      exact lv_irem hexec hb hd hne (k _ hL)
  | ineg =>
    replace h := am_g_some h
    obtain ⟨e0, h⟩ := h
    subst e0
    obtain ⟨x, S', w, rfl, h1, rfl⟩ := am_1i_ok h
    cases h1
    exact lv_ineg hexec hb hd (k _ hL)
  | i2l =>
    replace h := am_g_some h
    obtain ⟨e0, h⟩ := h
    subst e0
    obtain ⟨x, S', w, rfl, h1, rfl⟩ := am_1i_ok h
    cases h1
    exact lv_i2l hexec hb hd rfl (k _ hL)
  | i2b =>
    replace h := am_g_some h
    obtain ⟨e0, h⟩ := h
    subst e0
    obtain ⟨x, S', w, rfl, h1, rfl⟩ := am_1i_ok h
    cases h1
    exact lv_i2b hexec hb hd rfl (k _ hL)
  | i2c =>
    replace h := am_g_some h
    obtain ⟨e0, h⟩ := h
    subst e0
    obtain ⟨x, S', w, rfl, h1, rfl⟩ := am_1i_ok h
    cases h1
    exact lv_i2c hexec hb hd rfl (k _ hL)
  | l2i =>
    replace h := am_g_some h
    obtain ⟨e0, h⟩ := h
    subst e0
    obtain ⟨x, S', w, rfl, h1, rfl⟩ := am_1j_ok h
    cases h1
    exact lv_l2i hexec hb hd rfl (k _ hL)
  | ladd =>
    replace h := am_g_some h
    obtain ⟨e0, h⟩ := h
    subst e0
    obtain ⟨x, y, S', w, rfl, h1, rfl⟩ := am_2j_ok h
    cases h1
    exact lv_ladd hexec hb hd (k _ hL)
  | lsub =>
    replace h := am_g_some h
    obtain ⟨e0, h⟩ := h
    subst e0
    obtain ⟨x, y, S', w, rfl, h1, rfl⟩ := am_2j_ok h
    cases h1
    exact lv_lsub hexec hb hd (k _ hL)
  | lmul =>
    replace h := am_g_some h
    obtain ⟨e0, h⟩ := h
    subst e0
    obtain ⟨x, y, S', w, rfl, h1, rfl⟩ := am_2j_ok h
    cases h1
    exact lv_lmul hexec hb hd (k _ hL)
  | lor =>
    replace h := am_g_some h
    obtain ⟨e0, h⟩ := h
    subst e0
    obtain ⟨x, y, S', w, rfl, h1, rfl⟩ := am_2j_ok h
    cases h1
    exact lv_lor hexec hb hd (k _ hL)
  | ldiv =>
    replace h := am_g_some h
    obtain ⟨e0, h⟩ := h
    subst e0
    obtain ⟨x, y, S', w, rfl, h1, rfl⟩ := am_2j_ok h
    split at h1
    · cases h1
    · rename_i hne
      cases h1
      exact lv_ldiv hexec hb hd hne (k _ hL)
  | lrem =>
    replace h := am_g_some h
    obtain ⟨e0, h⟩ := h
    subst e0
    obtain ⟨x, y, S', w, rfl, h1, rfl⟩ := am_2j_ok h
    split at h1
    · cases h1
    · rename_i hne
      cases h1
      exact lv_lrem hexec hb hd hne (k _ hL)
  | lcmp =>
    replace h := am_g_some h
    obtain ⟨e0, h⟩ := h
    subst e0
    obtain ⟨x, y, S', w, rfl, h1, rfl⟩ := am_2j_ok h
    cases h1
    exact W.lcmp hexec hb hd (k _ hL)
  | lshl =>
    replace h := am_g_some h
    obtain ⟨e0, h⟩ := h
    subst e0
    split at h
    · obtain ⟨w, h1, rfl⟩ := am_push_ok h
      cases h1
      exact lv_lshl hexec hb hd rfl (k _ hL)
    · cases h
  | dup =>
    replace h := am_g_some h
    obtain ⟨e0, h⟩ := h
    subst e0
    split at h
    · split at h
      · rename_i hc
        cases h
        exact lv_dup hexec hb hd hc (k _ hL)
      · cases h
    · cases h
  | pop =>
    replace h := am_g_some h
    obtain ⟨e0, h⟩ := h
    subst e0
    split at h
    · split at h
      · rename_i hc
        cases h
        exact lv_pop hexec hb hd hc (k _ hL)
      · cases h
    · cases h
  | dup_x1 =>
    replace h := am_g_some h
    obtain ⟨e0, h⟩ := h
    subst e0
    split at h
    · split at h
      · rename_i hc
        cases h
        exact lv_dup_x1 hexec hb hd hc.1 hc.2 (k _ hL)
      · cases h
    · cases h
  | dup2 =>
    replace h := am_g_some h
    obtain ⟨e0, h⟩ := h
    subst e0
    split at h
    · split at h
      · rename_i hc
        cases h
        exact lv_dup2_11 hexec hb hd hc.1 hc.2 (k _ hL)
      · cases h
    · cases h
  | goto off =>
    replace h := am_g_some h
    obtain ⟨e0, h⟩ := h
    subst e0
    split at h
    · rename_i t ht
      cases h
      exact lv_goto hexec hb hd (am_tg_ok ht) (k _ hL)
    · cases h
  | ifCond op off =>
    replace h := am_g_some h
    obtain ⟨e0, h⟩ := h
    subst e0
    exact am_if_W hexec hb hd hL h k
  | if_icmp op off =>
    replace h := am_g_some h
    obtain ⟨e0, h⟩ := h
    subst e0
    exact am_icmp_W hexec hb hd hL h k
  | if_acmp op off =>
    replace h := am_g_some h
    obtain ⟨e0, h⟩ := h
    subst e0
    exact am_acmp_W hexec hb hd hL h k
  | ifnull off =>
    replace h := am_g_some h
    obtain ⟨e0, h⟩ := h
    subst e0
    exact am_ifnull_W hexec hb hd hL h k
  | ifnonnull off =>
    replace h := am_g_some h
    obtain ⟨e0, h⟩ := h
    subst e0
    exact am_ifnonnull_W hexec hb hd hL h k
  | tableswitch dflt lo hi offs =>
    simp only [am_pure] at h
    split at h
    · split at h
      · rename_i hx
        split at h
        · rename_i t ht
          cases h
          exact lv_tableOut hexec hb hd hx (am_tg_ok ht) (k _ hL)
        · cases h
      · rename_i hx
        split at h
        · rename_i off ho
          split at h
          · rename_i t ht
            cases h
            exact lv_tableIn hexec hb hd (fun q => hx (Or.inl q)) (fun q => hx (Or.inr q)) ho (am_tg_ok ht) (k _ hL)
          · cases h
        · cases h
    · cases h
  | _ => cases h
end AMP
