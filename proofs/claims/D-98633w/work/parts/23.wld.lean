/-! THE START 3: the old heap as a function; the invariant at the start -/
set_option maxRecDepth 100000
theorem am_aof {s : State} {c : Cell} {t t' : FieldType} (h : s.isArrayOf c t) (h' : s.isArrayOf c t') : t = t' := by
  obtain ⟨-, k, hk, comp, e⟩ := h
  obtain ⟨-, k', hk', comp', e'⟩ := h'
  cases hk.symm.trans hk'
  rw [e] at e'
  cases e'
  rfl
theorem am_nmu {vm : Vm} {A B : String} {c : ClassId} (h : vm.findClass A = some c) (h' : vm.findClass B = some c) : A = B := by
  obtain ⟨k, hk, e⟩ := Vm.findClass_spec h
  obtain ⟨k', hk', e'⟩ := Vm.findClass_spec h'
  cases hk.symm.trans hk'
  exact e.symm.trans e'
theorem am_ofu {o n d : String} {v v' : Value} {a : Nat} {A : Nat → Prop} {U : State} {H : Heap} (h : va_OF o n d v a A U H) (h' : va_OF o n d v' a A U H) : v = v' := by
  obtain ⟨cf, k, i, f, cell, g1, g2, g3, g4, g5, -⟩ := h
  obtain ⟨cf', k', i', f', cell', q1, q2, q3, q4, q5, -⟩ := h'
  cases g1.symm.trans q1
  cases g3.symm.trans q3
  exact Option.some.inj (g5.symm.trans q5)
def am_kd (s : State) (a k : Nat) : Prop := ∃ cell : Cell, s.heap[a]? = some cell ∧ (match k with
  | 0 => s.isArrayOf cell .int ∧ ∀ (j : Nat) (v : Value), cell.slots[j]? = some v → ∃ x, v = .int x
  | 1 => s.isArrayOf cell .byte ∧ s.vm.findClass "[B" = some cell.cls
  | 2 => s.isArrayOf cell (.object "java/lang/Object") ∧ s.vm.findClass "[Ljava/lang/Object;" = some cell.cls
  | 3 => s.isArrayOf cell (.object "java/lang/Integer") ∧ ∀ (j : Nat) (v : Value), cell.slots[j]? = some v → ∃ q, v = .ref q
  | 4 => s.vm.findClass "java/lang/Integer" = some cell.cls
  | _ => s.vm.findClass "java/lang/String" = some cell.cls ∧ (∃ i : Nat, cell.slots[i]? = some (.int 0)) ∧ ∃ (i : Nat) (q : Nat), cell.slots[i]? = some (.ref q))
theorem am_kd_lt {s : State} {cI : ClassId} (hI : ClassAt s "java/lang/Integer" cI) {a k k' : Nat} (h5 : k' ≤ 5) (hlt : k < k') (h : am_kd s a k) (h' : am_kd s a k') : False := by
  obtain ⟨cell, hc, h⟩ := h
  obtain ⟨cell', hc', h'⟩ := h'
  cases hc.symm.trans hc'
  have ord : s.vm.findClass "java/lang/Integer" = some cell.cls → ∀ t, s.isArrayOf cell t → False := by
    intro hf t ht
    obtain ⟨hf2, kC, hk, hkind⟩ := hI
    obtain ⟨-, k, hk', comp, e⟩ := ht
    cases hf.symm.trans hf2
    cases hk.symm.trans hk'
    rw [hkind] at e
    cases e
  have hc : (k = 0 ∧ k' = 1) ∨ (k = 0 ∧ k' = 2) ∨ (k = 0 ∧ k' = 3) ∨ (k = 0 ∧ k' = 4) ∨ (k = 0 ∧ k' = 5) ∨ (k = 1 ∧ k' = 2) ∨ (k = 1 ∧ k' = 3) ∨ (k = 1 ∧ k' = 4) ∨ (k = 1 ∧ k' = 5) ∨ (k = 2 ∧ k' = 3) ∨ (k = 2 ∧ k' = 4) ∨ (k = 2 ∧ k' = 5) ∨ (k = 3 ∧ k' = 4) ∨ (k = 3 ∧ k' = 5) ∨ (k = 4 ∧ k' = 5) := by omega
  rcases hc with ⟨rfl, rfl⟩ | ⟨rfl, rfl⟩ | ⟨rfl, rfl⟩ | ⟨rfl, rfl⟩ | ⟨rfl, rfl⟩ | ⟨rfl, rfl⟩ | ⟨rfl, rfl⟩ | ⟨rfl, rfl⟩ | ⟨rfl, rfl⟩ | ⟨rfl, rfl⟩ | ⟨rfl, rfl⟩ | ⟨rfl, rfl⟩ | ⟨rfl, rfl⟩ | ⟨rfl, rfl⟩ | ⟨rfl, rfl⟩
  · exact absurd (am_aof h.1 h'.1) (by decide +kernel)
  · exact absurd (am_aof h.1 h'.1) (by decide +kernel)
  · exact absurd (am_aof h.1 h'.1) (by decide +kernel)
  · exact ord h' _ h.1
  · obtain ⟨i, q, e⟩ := h'.2.2
    obtain ⟨x, hx⟩ := h.2 _ _ e
    cases hx
  · exact absurd (am_aof h.1 h'.1) (by decide +kernel)
  · exact absurd (am_aof h.1 h'.1) (by decide +kernel)
  · exact ord h' _ h.1
  · exact absurd (am_nmu h.2 h'.1) (by decide +kernel)
  · exact absurd (am_aof h.1 h'.1) (by decide +kernel)
  · exact ord h' _ h.1
  · exact absurd (am_nmu h.2 h'.1) (by decide +kernel)
  · exact ord h' _ h.1
  · obtain ⟨i, e⟩ := h'.2.1
    obtain ⟨x, hx⟩ := h.2 _ _ e
    cases hx
  · exact absurd (am_nmu h h'.1) (by decide +kernel)
theorem am_kd_u {s : State} {cI : ClassId} (hI : ClassAt s "java/lang/Integer" cI) {a k k' : Nat} (h5 : k ≤ 5) (h5' : k' ≤ 5) (h : am_kd s a k) (h' : am_kd s a k') : k = k' := by
  rcases Nat.lt_trichotomy k k' with hl | hl | hl
  · exact (am_kd_lt hI h5' hl h h').elim
  · exact hl
  · exact (am_kd_lt hI h5 hl h' h).elim
def am_tag : am_E → Nat
  | .inl (t, _) => if t = 0 then 0 else if t = 1 then 1 else if t = 4 then 2 else 3
  | .inr (ci, _) => if ci = 16 then 4 else 5
/-- the old cells, listed -/
def am_lsd (b L : Nat) (xs : Nat → Int32) (e0 e1 ca : Nat) (ad adK adV : Nat → Nat) (a : Nat) (e : am_E) : Prop := (a = b ∧ e = .inl (0, L, .inl xs)) ∨ ((a = e0 ∨ a = e1) ∧ e = .inl (4, am_em)) ∨ (a = ca ∧ e = .inl (8, am_ca ad)) ∨ (∃ k, k < 256 ∧ a = ad k ∧ e = .inr (16, [.int (vb_c k)])) ∨ (∃ j, j < 25 ∧ a = adK j ∧ e = .inr (17, [.ref (adV j), .int 0])) ∨ (∃ j, j < 25 ∧ a = adV j ∧ e = .inl (1, am_by j))
section AMW
variable {s : State} {b L : Nat} {xs : Nat → Int32} {e0 e1 ca : Nat} {ad adK adV : Nat → Nat}
def am_Ef (s : State) (e : Nat) : Prop := ∃ cell : Cell, s.heap[e]? = some cell ∧ cell.vm ≠ .unknown ∧ s.isArrayOf cell (.object "java/lang/Object") ∧ s.vm.findClass "[Ljava/lang/Object;" = some cell.cls ∧ Int32.ofNat cell.slots.size = 0
def am_Cf (s : State) (ca : Nat) (ad : Nat → Nat) : Prop := (∃ cell : Cell, s.heap[ca]? = some cell ∧ cell.vm ≠ .unknown ∧ s.isArrayOf cell (.object "java/lang/Integer") ∧ cell.slots.size = 256 ∧ (∀ k, k < 256 → cell.slots[k]? = some (.ref (ad k)))) ∧ vb_C ad (am_A s.heap.size) s s.heap
def am_Sf (s : State) (adK adV : Nat → Nat) : Prop := ∀ j, j < 25 → va_O "java/lang/String" (adK j) (am_A s.heap.size) s s.heap ∧ va_OF "java/lang/String" "coder" "B" (.int 0) (adK j) (am_A s.heap.size) s s.heap ∧ va_OF "java/lang/String" "value" "[B" (.ref (adV j)) (adK j) (am_A s.heap.size) s s.heap ∧ va_T .byte (adV j) (am_byt.getD j []).length (fun q => .int ((am_byt.getD j []).getD q 0)) (am_A s.heap.size) s s.heap ∧ ∃ cell : Cell, s.heap[adV j]? = some cell ∧ s.vm.findClass "[B" = some cell.cls
theorem am_lsd_lw (hX : va_X b L xs s s.heap) (h0 : am_Ef s e0) (h1 : am_Ef s e1) (hC : am_Cf s ca ad) (hS : am_Sf s adK adV) {a : Nat} {e : am_E} (h : am_lsd b L xs e0 e1 ca ad adK adV a e) : am_lw s.heap.size s s.heap a e := by
  have em : ∀ q, am_Ef s q → am_lw s.heap.size s s.heap q (.inl (4, am_em)) := by
    rintro q ⟨cell, g1, g2, g3, g4, g5⟩
    have hlt := (Array.getElem?_eq_some_iff.mp g1).1
    exact ⟨hlt, hlt, cell, g1, g2, g3, ⟨Nat.zero_le _, g5⟩, fun j hj => absurd hj (Nat.not_lt_zero j), fun _ => g4⟩
  rcases h with ⟨rfl, rfl⟩ | ⟨rfl | rfl, rfl⟩ | ⟨rfl, rfl⟩ | ⟨k, hk, rfl, rfl⟩ | ⟨j, hj, rfl, rfl⟩ | ⟨j, hj, rfl, rfl⟩
  · obtain ⟨scr, g1, g2, g3, g4, g5⟩ := hX
    have hlt := (Array.getElem?_eq_some_iff.mp g1).1
    exact ⟨hlt, hlt, scr, g1, g3, g2, ⟨Nat.le_of_eq g4.symm, by rw [g4]⟩, fun j hj => g5 j hj, fun h => by cases h⟩
  · exact em _ h0
  · exact em _ h1
  · obtain ⟨⟨cell, g1, g2, g3, g4, g5⟩, -⟩ := hC
    have hlt := (Array.getElem?_eq_some_iff.mp g1).1
    exact ⟨hlt, hlt, cell, g1, g2, g3, ⟨Nat.le_of_eq g4.symm, by rw [g4]; rfl⟩, fun j hj => g5 j hj, fun h => by cases h⟩
  · refine ⟨hC.2.1 k hk, fun i v hv => ?_⟩
    match i, hv with
    | 0, hv => cases hv; exact hC.2.2 k hk
    | i + 1, hv => cases hv
  · obtain ⟨g1, g2, g3, -⟩ := hS j hj
    refine ⟨g1, fun i v hv => ?_⟩
    match i, hv with
    | 0, hv => cases hv; exact g3
    | 1, hv => cases hv; exact g2
    | i + 2, hv => cases hv
  · obtain ⟨-, -, -, ⟨cell, g1, g2, g3, g4, g5, g6, g7⟩, -⟩ := hS j hj
    have hlt := (Array.getElem?_eq_some_iff.mp g1).1
    exact ⟨hlt, hlt, cell, g1, g3, g2, ⟨g4, g5⟩, fun i hi => g6 i hi, fun h => by cases h⟩
theorem am_lsd_kd (hX : va_X b L xs s s.heap) (h0 : am_Ef s e0) (h1 : am_Ef s e1) (hC : am_Cf s ca ad) (hS : am_Sf s adK adV) {a : Nat} {e : am_E} (h : am_lsd b L xs e0 e1 ca ad adK adV a e) : am_kd s a (am_tag e) ∧ am_tag e ≤ 5 := by
  have em : ∀ q, am_Ef s q → am_kd s q 2 := by
    rintro q ⟨cell, g1, g2, g3, g4, g5⟩
    exact ⟨cell, g1, g3, g4⟩
  rcases h with ⟨rfl, rfl⟩ | ⟨rfl | rfl, rfl⟩ | ⟨rfl, rfl⟩ | ⟨k, hk, rfl, rfl⟩ | ⟨j, hj, rfl, rfl⟩ | ⟨j, hj, rfl, rfl⟩
  · obtain ⟨scr, g1, g2, g3, g4, g5⟩ := hX
    refine ⟨⟨scr, g1, g2, fun j v hv => ?_⟩, (show (0 : Nat) ≤ 5 by decide)⟩
    have hj : j < L := by rw [← g4]; exact (Array.getElem?_eq_some_iff.mp hv).1
    exact ⟨_, Option.some.inj (hv.symm.trans (g5 j hj))⟩
  · exact ⟨em _ h0, (show (2 : Nat) ≤ 5 by decide)⟩
  · exact ⟨em _ h1, (show (2 : Nat) ≤ 5 by decide)⟩
  · obtain ⟨⟨cell, g1, g2, g3, g4, g5⟩, -⟩ := hC
    refine ⟨⟨cell, g1, g3, fun j v hv => ?_⟩, (show (3 : Nat) ≤ 5 by decide)⟩
    have hj : j < 256 := by rw [← g4]; exact (Array.getElem?_eq_some_iff.mp hv).1
    exact ⟨_, Option.some.inj (hv.symm.trans (g5 j hj))⟩
  · obtain ⟨cell, g1, g2, g3, -⟩ := hC.2.1 k hk
    exact ⟨⟨cell, g1, g3⟩, (show (4 : Nat) ≤ 5 by decide)⟩
  · obtain ⟨⟨cell, g1, g2, g3, -⟩, ⟨cf, k, i, f, c2, q1, q2, q3, q4, q5, -⟩, ⟨cf', k', i', f', c3, z1, z2, z3, z4, z5, -⟩, -⟩ := hS j hj
    cases g1.symm.trans q3
    cases g1.symm.trans z3
    exact ⟨⟨cell, g1, g3, ⟨_, q5⟩, _, _, z5⟩, (show (5 : Nat) ≤ 5 by decide)⟩
  · obtain ⟨-, -, -, ⟨cell, g1, g2, g3, g4, g5, g6, g7⟩, c2, z1, z2⟩ := hS j hj
    cases g1.symm.trans z1
    exact ⟨⟨cell, g1, g2, z2⟩, (show (1 : Nat) ≤ 5 by decide)⟩
theorem am_by_eq (hS : am_Sf s adK adV) {i j : Nat} (hi : i < 25) (hj : j < 25) (h : adV i = adV j) : am_by i = am_by j := by
  obtain ⟨-, -, -, ⟨cell, g1, g2, g3, g4, g5, g6, g7⟩, -⟩ := hS i hi
  obtain ⟨-, -, -, ⟨cell', k1, k2, k3, k4, k5, k6, k7⟩, -⟩ := hS j hj
  rw [h] at g1
  cases g1.symm.trans k1
  have hlt : ∀ j, j < 25 → (am_byt.getD j []).length < 100 := by decide +kernel
  have hl : (am_byt.getD i []).length = (am_byt.getD j []).length := by
    have e := g5.symm.trans k5
    have h1 : (Int32.ofNat (am_byt.getD i []).length).toNatClampNeg = (am_byt.getD i []).length := Int32.toNatClampNeg_ofNat_of_lt (Nat.lt_trans (hlt i hi) (by decide))
    have h2 : (Int32.ofNat (am_byt.getD j []).length).toNatClampNeg = (am_byt.getD j []).length := Int32.toNatClampNeg_ofNat_of_lt (Nat.lt_trans (hlt j hj) (by decide))
    rw [← h1, ← h2, e]
  have hv : ∀ q, (am_byt.getD i []).getD q 0 = (am_byt.getD j []).getD q 0 := by
    intro q
    by_cases hq : q < (am_byt.getD i []).length
    · have e1 := g6 q hq
      have e2 := k6 q (by rw [← hl]; exact hq)
      exact Value.int.inj (Option.some.inj (e1.symm.trans e2))
    · have q1 := Nat.not_lt.mp hq
      have q2 := q1
      rw [hl] at q2
      rw [List.getD_eq_getElem?_getD (l := am_byt.getD i []), List.getD_eq_getElem?_getD (l := am_byt.getD j []), List.getElem?_eq_none q1, List.getElem?_eq_none q2]
  unfold am_by
  rw [hl]
  congr 2
  funext q
  exact hv q
theorem am_lsd_u {cI : ClassId} (hI : ClassAt s "java/lang/Integer" cI) (hX : va_X b L xs s s.heap) (h0 : am_Ef s e0) (h1 : am_Ef s e1) (hC : am_Cf s ca ad) (hS : am_Sf s adK adV) {a : Nat} {e e' : am_E} (h : am_lsd b L xs e0 e1 ca ad adK adV a e) (h' : am_lsd b L xs e0 e1 ca ad adK adV a e') : e = e' := by
  obtain ⟨k1, k2⟩ := am_lsd_kd hX h0 h1 hC hS h
  obtain ⟨q1, q2⟩ := am_lsd_kd hX h0 h1 hC hS h'
  have ht := am_kd_u hI k2 q2 k1 q1
  rcases h with ⟨z, rfl⟩ | ⟨z, rfl⟩ | ⟨z, rfl⟩ | ⟨k, hk, z, rfl⟩ | ⟨j, hj, z, rfl⟩ | ⟨j, hj, z, rfl⟩ <;> rcases h' with ⟨z', rfl⟩ | ⟨z', rfl⟩ | ⟨z', rfl⟩ | ⟨k', hk', z', rfl⟩ | ⟨j', hj', z', rfl⟩ | ⟨j', hj', z', rfl⟩ <;> first | rfl | (exfalso; revert ht; simp [am_tag]; done) | skip
  · have e := hC.2.2 k hk
    rw [← z, z'] at e
    have e9 : Value.int (vb_c k) = Value.int (vb_c k') := am_ofu e (hC.2.2 k' hk')
    rw [e9]
  · have e := (hS j hj).2.2.1
    rw [← z, z'] at e
    have := am_ofu e (hS j' hj').2.2.1
    rw [this]
  · rw [am_by_eq hS hj hj' (z.symm.trans z')]
end AMW
