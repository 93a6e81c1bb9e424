/-! THE START 2: the old cells -/
set_option maxRecDepth 100000
def am_em : vp_A := (0, .inr (.inr (.inr (.inr fun _ => none))))
def am_ca (ad : Nat → Nat) : vp_A := (256, .inr (.inr (.inr (.inr fun k => some (ad k)))))
def am_by (j : Nat) : vp_A := ((am_byt.getD j []).length, .inl (fun q => (am_byt.getD j []).getD q 0))
/-- what the law's run may know of the world at its start -/
def am_W0 (b0 : Nat) (Γ : Nat → Value) (hl : am_H) (b L : Nat) (xs : Nat → Int32) : Prop :=
  hl b = some (.inl (0, L, .inl xs)) ∧ L ≤ 384 ∧
  (∃ e0 e1 : Nat, e0 ≠ e1 ∧ Γ 0 = .ref e0 ∧ Γ 1 = .ref e1 ∧ hl e0 = some (.inl (4, am_em)) ∧ hl e1 = some (.inl (4, am_em))) ∧
  Γ 2 = .int 127 ∧
  (∃ (ca : Nat) (ad : Nat → Nat), Γ 3 = .ref ca ∧ hl ca = some (.inl (8, am_ca ad)) ∧ ∀ k, k < 256 → hl (ad k) = some (.inr (16, [.int (vb_c k)]))) ∧
  Γ 4 = .int 1 ∧
  (∃ m1 m2 : Nat, m1 ≠ m2 ∧ Γ 20 = .ref m1 ∧ Γ 21 = .ref m2) ∧
  (∃ adK adV : Nat → Nat, ∀ j, j < 25 → Γ (100 + j) = .ref (adK j) ∧ hl (adK j) = some (.inr (17, [.ref (adV j), .int 0])) ∧ hl (adV j) = some (.inl (1, am_by j))) ∧
  ∀ a, b0 ≤ a → hl a = none
section AMST
variable {args : Array Value} {s : State}
theorem am_emp {t : Term} (h1 : (Cond.arrayOf t (.object "java/lang/Object")).before args s = true) (h2 : (Cond.exactly t "[Ljava/lang/Object;").before args s = true) (h3 : (Cond.eq (.length t) (.int 0)).before args s = true) :
    ∃ (e : Nat) (cell : Cell), t.eval args s none [] s = some (.ref e) ∧ s.heap[e]? = some cell ∧ cell.vm ≠ .unknown ∧ s.isArrayOf cell (.object "java/lang/Object") ∧ s.vm.findClass "[Ljava/lang/Object;" = some cell.cls ∧ Int32.ofNat cell.slots.size = 0 := by
  obtain ⟨a, c, cell, k, q1, q2, q3, q4, q5, q6, -⟩ := Cond.exactly_spec (args := args) (first := s) (o := none) (s := s) (idx := []) (t := t) (cls := "[Ljava/lang/Object;") h2
  obtain ⟨hof, hkn⟩ := Cond.arrayOf_spec h1 q1 q3
  obtain ⟨a', cell', l1, l2, l3⟩ := Term.length_spec (va_eqt h3)
  cases q1.symm.trans l1
  obtain ⟨hc, -, -, -⟩ := State.arrayAt?_spec l2
  cases q3.symm.trans hc
  exact ⟨a, cell, q1, q3, hkn, hof, by rw [q6]; exact q2, (Value.int.inj l3).symm⟩
theorem am_cac (h1 : (Cond.arrayOf am_tC (.object "java/lang/Integer")).before args s = true) (h2 : (Cond.eq (.length am_tC) (.int 256)).before args s = true) (h3 : (Cond.all am_tC (.and (.exactly (.elem am_tC (.index 0)) "java/lang/Integer") (.eq (.field (.elem am_tC (.index 0)) "java/lang/Integer" "value" "I") (.sub (.index 0) (.int 128))))).before args s = true) {A : Nat → Prop} (hA : ∀ a : Nat, a < s.heap.size → ¬ A a) :
    ∃ (ca : Nat) (cell : Cell) (ad : Nat → Nat), am_tC.eval args s none [] s = some (.ref ca) ∧ s.heap[ca]? = some cell ∧ cell.vm ≠ .unknown ∧ s.isArrayOf cell (.object "java/lang/Integer") ∧ cell.slots.size = 256 ∧ (∀ k, k < 256 → cell.slots[k]? = some (.ref (ad k))) ∧ vb_C ad A s s.heap := by
  have hlen := va_eqt h2
  obtain ⟨ca, cell, l1, l2, l3⟩ := Term.length_spec hlen
  obtain ⟨hc, -, -, -⟩ := State.arrayAt?_spec l2
  obtain ⟨hof, hkn⟩ := Cond.arrayOf_spec h1 l1 hc
  obtain ⟨ad, hC, hE⟩ := vb_Cof (st := am_tC) rfl hlen h3 hA
  have hall := Cond.all_elim l1 l2 (by simpa [Cond.before, Cond.holds] using h3)
  have hsz : cell.slots.size ≤ 2 ^ 31 := by
    rcases Nat.lt_or_ge (2 ^ 31) cell.slots.size with h | h
    · exfalso
      obtain ⟨hx, -⟩ := va_andE (hall (2 ^ 31) h)
      obtain ⟨a, c, cA, kA, q1, -⟩ := Cond.exactly_spec (args := args) (first := s) (o := none) (s := s) (idx := [2 ^ 31]) (t := .elem am_tC (.index 0)) (cls := "java/lang/Integer") (by simp [Cond.holds, hx])
      obtain ⟨a', i, cell2, e1, e2, e3, e4, e5⟩ := Term.elem_spec q1
      have hi : i = Int32.ofNat (2 ^ 31) := by
        simp [Term.eval] at e2
        exact e2.symm
      rw [hi] at e4
      exact e4 (Or.inl (by decide))
    · exact h
  have h256 : cell.slots.size = 256 := by
    have e : Int32.ofNat cell.slots.size = 256 := (Value.int.inj l3).symm
    have e2 : cell.slots.size % 4294967296 = 256 := by
      have := congrArg (fun z : Int32 => z.toBitVec.toNat) e
      simpa using this
    omega
  refine ⟨ca, cell, ad, l1, hc, hkn, hof, h256, fun k hk => ?_, hC⟩
  obtain ⟨a', i, cell2, e1, e2, e3, e4, e5⟩ := Term.elem_spec (hE k hk)
  cases l1.symm.trans e1
  cases l2.symm.trans e3
  have e : (Term.int (Int32.ofNat k)).eval args s none [] s = some (.int (Int32.ofNat k)) := rfl
  cases e2.symm.trans e
  rw [Int32.toNatClampNeg_ofNat_of_lt (by omega)] at e5
  exact e5
theorem am_Sof {A : Nat → Prop} (hex : ∀ j, j < 25 → ∀ w ∈ am_sw j, w.before args s = true) (hexB : ∀ j, j < 25 → (Cond.exactly (am_tv j) "[B").before args s = true) (hA : ∀ a : Nat, a < s.heap.size → ¬ A a) :
    ∃ adK adV : Nat → Nat, ∀ j, j < 25 → (am_tm j).eval args s none [] s = some (.ref (adK j)) ∧ va_O "java/lang/String" (adK j) A s s.heap ∧ va_OF "java/lang/String" "coder" "B" (.int 0) (adK j) A s s.heap ∧ va_OF "java/lang/String" "value" "[B" (.ref (adV j)) (adK j) A s s.heap ∧ va_T .byte (adV j) (am_byt.getD j []).length (fun q => .int ((am_byt.getD j []).getD q 0)) A s s.heap ∧ ∃ cell : Cell, s.heap[adV j]? = some cell ∧ s.vm.findClass "[B" = some cell.cls := by
  have hlt : ∀ j, j < 25 → (am_byt.getD j []).length < 2 ^ 31 := by decide +kernel
  have h0 : ∀ j : Nat, ∃ q : Nat × Nat, j < 25 → (am_tm j).eval args s none [] s = some (.ref q.1) ∧ va_O "java/lang/String" q.1 A s s.heap ∧ va_OF "java/lang/String" "coder" "B" (.int 0) q.1 A s s.heap ∧ va_OF "java/lang/String" "value" "[B" (.ref q.2) q.1 A s s.heap ∧ va_T .byte q.2 (am_byt.getD j []).length (fun i => .int ((am_byt.getD j []).getD i 0)) A s s.heap ∧ ∃ cell : Cell, s.heap[q.2]? = some cell ∧ s.vm.findClass "[B" = some cell.cls := by
    intro j
    by_cases hj : j < 25
    · have hw := hex j hj
      have w0 : (Cond.exactly (am_tm j) "java/lang/String").before args s = true := hw _ (by simp [am_sw])
      have w1 : (Cond.eq (.field (am_tm j) "java/lang/String" "coder" "B") (.int 0)).before args s = true := hw _ (by simp [am_sw])
      have w2 : (Cond.arrayOf (am_tv j) .byte).before args s = true := hw _ (by simp [am_sw])
      have w3 : (Cond.eq (.length (am_tv j)) (.int (Int32.ofNat (am_byt.getD j []).length))).before args s = true := hw _ (by simp [am_sw])
      have w4 : ∀ q, q < (am_byt.getD j []).length → (Cond.eq (.elem (am_tv j) (.int (Int32.ofNat q))) (.int ((am_byt.getD j []).getD q 0))).before args s = true := fun q hq => hw _ (List.mem_append.mpr (Or.inr (List.mem_map.mpr ⟨q, List.mem_range.mpr hq, rfl⟩)))
      obtain ⟨a, c, cA, kA, q1, q2, q3, q4, q5, q6, -⟩ := Cond.exactly_spec (args := args) (first := s) (o := none) (s := s) (idx := []) (t := am_tm j) (cls := "java/lang/String") w0
      obtain ⟨t, ht, hT⟩ := va_Tof (f := fun i => .int ((am_byt.getD j []).getD i 0)) (A := A) (hlt j hj) w2 (va_eqt w3) (fun i hi => va_eqt (w4 i hi)) hA
      obtain ⟨a2, c2, cA2, kA2, z1, z2, z3, z4, z5, z6, -⟩ := Cond.exactly_spec (args := args) (first := s) (o := none) (s := s) (idx := []) (t := am_tv j) (cls := "[B") (hexB j hj)
      cases ht.symm.trans z1
      exact ⟨(a, t), fun _ => ⟨q1, ⟨cA, q3, q5, by rw [q6]; exact q2, hA a (Array.getElem?_eq_some_iff.mp q3).1⟩, vk_OFof q1 (va_eqt w1) hA, vk_OFof q1 ht hA, hT, cA2, z3, by rw [z6]; exact z2⟩⟩
    · exact ⟨(0, 0), fun h => absurd h hj⟩
  obtain ⟨ad, had⟩ := Classical.axiomOfChoice h0
  exact ⟨fun j => (ad j).1, fun j => (ad j).2, fun j hj => had j hj⟩
end AMST
