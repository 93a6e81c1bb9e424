/-! THE START 4: the invariant; the law's run on the abstract machine is enough -/
set_option maxRecDepth 100000
section AMS
variable {args : Array Value} {s : State}
theorem am_selP {y : MethodName} (hy : y.cls ≠ "java/lang/invoke/MethodHandle" ∧ y.cls ≠ "java/lang/invoke/VarHandle") {n : Nat}
    (hins : (Cond.instantiable "java/lang/StringBuilder" n).before args s = true) (hpriv : (Cond.privateMethod y).before args s = true) (hinst : (Cond.instanceMethod y).before args s = true) (hsame : (Cond.sameMethod y.cls y.cls y.name y.desc).before args s = true) :
    (Cond.selects "java/lang/StringBuilder" y y).before args s = true := by
  obtain ⟨c, k, hc, hk, -, hniab, -, -⟩ := Cond.instantiable_spec hins
  obtain ⟨mk, methM, hnamed, hmethM, -, -⟩ := Cond.instanceMethod_spec hinst
  obtain ⟨c', ck, r, g1, g2, g3, g4, g5⟩ := Cond.sameMethod_found hsame
  have hfound : s.methodFound? y.cls y.name y.desc = some mk := State.methodFound?_of_named hnamed hy
  have hcls : mk.cls = c' := Option.some.inj ((findClass_of_methodNamed hnamed).symm.trans g1)
  have hsel : selectMethod {} s.vm c mk = .method mk := selectMethod_private hmethM (Cond.privateMethod_at hpriv mk methM hnamed hmethM)
  simp only [Cond.before, Cond.holds, Cond.value, hc, hfound, hnamed, hsel, hcls, g2]
  simp
  exact g3
theorem am_arT (hts : ∀ w ∈ lw_tbl, w.before args s = true) : ∀ t, t < 8 → ∃ c : ClassId, ArrOfT s c (am_aty t) ∧ va_RA s c (am_aty t) := by
  have pr : ∀ {ty : FieldType}, (Cond.arrayClass ty).before args s = true → ∃ (c : ClassId), ArrOfT s c ty ∧ s.vm.findClass ("[" ++ ty.toString) = some c := by
    intro ty h
    obtain ⟨c, k, comp, h1, h2, h3⟩ := Cond.arrayClass_spec h
    exact ⟨c, fun n z => ⟨fun k h => (by cases h), k, h2, comp, h3⟩, h1⟩
  have ob : ∀ {C : String}, C ∈ am_oA → ∃ (c : ClassId), ArrOfT s c (.object C) ∧ va_RA s c (.object C) := by
    intro C h
    obtain ⟨comp, c, k, h1, -, h2, h3, h4⟩ := Cond.arrayOver_spec (hts _ (am_oA_ok C h))
    exact ⟨c, fun n z => ⟨fun k h => (by cases h), k, h2, comp, h3⟩, k, comp, h2, h3, h1, h4⟩
  intro t ht
  have hc8 : t = 0 ∨ t = 1 ∨ t = 2 ∨ t = 3 ∨ t = 4 ∨ t = 5 ∨ t = 6 ∨ t = 7 := by omega
  rcases hc8 with rfl | rfl | rfl | rfl | rfl | rfl | rfl | rfl
  · exact pr (hts _ (lw_all_tbl q227))
  · exact pr (hts _ (lw_all_tbl q273))
  · exact pr (hts _ (lw_all_tbl q1771))
  · exact pr (hts _ (lw_all_tbl q2210))
  · exact ob (by decide +kernel)
  · exact ob (by decide +kernel)
  · exact ob (by decide +kernel)
  · exact ob (by decide +kernel)
theorem am_Od_of (hts : ∀ w ∈ lw_tbl, w.before args s = true) (hn : (Cond.not (.castable "java/lang/IllegalArgumentException" "java/util/NoSuchElementException")).before args s = true) : am_Od s := by
  refine ⟨fun e he => va_Nw.of rfl (hts _ (am_oF_ok e he)), fun e he => va_Nw.of rfl (hts _ (am_oM_ok e he)), fun e he => va_Nw.of rfl (hts _ (am_oC_ok e he)), fun e he => va_AO.of (hts _ (am_oA_ok e he)), fun e he => ?_, va_Dc.of (hts _ q651), va_Nc.of hn, ?_, am_Gi.of (hts _ q653) (hts _ q652) (hts _ q650) (hts _ q651)⟩
  · obtain ⟨h1, h2, h3, h4, h5, -⟩ := am_fw_ok e he
    exact va_Fw.of (hts _ h1) (hts _ h2) (hts _ h3) (hts _ h4) (hts _ h5)
  · exact List.forall_mem_cons.mpr ⟨va_Nw.of rfl (hts _ q678), List.forall_mem_cons.mpr ⟨va_Nw.of rfl (hts _ q680), List.forall_mem_cons.mpr ⟨va_Nw.of rfl (hts _ q682), fun _ h => absurd h List.not_mem_nil⟩⟩⟩
theorem am_Sb_of (hts : ∀ w ∈ lw_tbl, w.before args s = true) : am_Sb s := by
  have hi : (Cond.instantiable "java/lang/StringBuilder" 4).before args s = true := hts _ (lw_all_tbl q1123)
  exact ⟨va_Nw.of rfl (am_selP (by decide +kernel) hi (hts _ q1175) (hts _ (lw_all_tbl q1176)) (hts _ (lw_all_tbl q2214))), va_Nw.of rfl (am_selP (by decide +kernel) hi (hts _ q1179) (hts _ (lw_all_tbl q1180)) (hts _ (lw_all_tbl q2215))), va_Nw.of rfl (am_selP (by decide +kernel) hi (hts _ q1203) (hts _ (lw_all_tbl q1204)) (hts _ (lw_all_tbl q2216)))⟩
theorem am_cls_of (hts : ∀ w ∈ lw_tbl, w.before args s = true) : ∀ ci : Nat, ∃ q : ClassId × (Nat → Nat), ∀ r : vw_C, am_cl[ci]? = some r → u_Kn s r.1 r.2.1 r.2.2 q.1 q.2 := by
  intro ci
  cases hr : am_cl[ci]? with
  | none => exact ⟨(0, fun _ => 0), fun r h => by cases h⟩
  | some r =>
    obtain ⟨h1, -, -, -, -, h2, -⟩ := am_cl_ok ci r hr
    obtain ⟨cC, iS, h⟩ := u_known (C := r.1) (T := r.2.1) (N := r.2.2) (n := am_clN ci r.2.2) hts (fun w hw => lw_all_tbl (h1 w hw)) (hts _ (lw_all_tbl h2))
    exact ⟨(cC, iS), fun r' h' => by cases h'; exact h⟩
theorem am_start {b L : Nat} {xs : Nat → Int32} (hts : ∀ w ∈ lw_tbl, w.before args s = true) (hG : (Jvm.Cond.and given_1 narrow_1).before args s = true) (hX : va_X b L xs s s.heap) (hL : L ≤ 384) :
    ∃ (D : va_G) (dA : Nat → ClassId) (Γ : Nat → Value) (hl : am_H), am_I D dA s.heap.size Γ hl s s.heap ∧ am_W0 s.heap.size Γ hl b L xs := by
  have hnd : ∀ w ∈ am_nd0 ++ (am_nd1 ++ am_nd2), w.before args s = true := fun w hw => flat_of_before _ hG w ((List.isSublist_iff_sublist.mp am_nd_ok).subset hw)
  have n0 : ∀ w ∈ am_nd0, w.before args s = true := fun w hw => hnd w (List.mem_append.mpr (Or.inl hw))
  have n1 : ∀ j, j < 25 → ∀ w ∈ am_sw j, w.before args s = true := fun j hj w hw => hnd w (List.mem_append.mpr (Or.inr (List.mem_append.mpr (Or.inl (List.mem_flatMap.mpr ⟨j, List.mem_range.mpr hj, hw⟩)))))
  have n2 : ∀ j, j < 25 → (Cond.exactly (am_tv j) "[B").before args s = true := fun j hj => hnd _ (List.mem_append.mpr (Or.inr (List.mem_append.mpr (Or.inr (List.mem_map.mpr ⟨j, List.mem_range.mpr hj, rfl⟩)))))
  have at0 : ∀ {i : Nat} {w : Cond}, am_nd0[i]? = some w → w.before args s = true := fun h => n0 _ (List.mem_of_getElem? h)
  have hA : ∀ a : Nat, a < s.heap.size → ¬ am_A s.heap.size a := fun a h => Nat.not_le.mpr h
  obtain ⟨f, hf⟩ := Classical.axiomOfChoice (am_cls_of hts)
  have harr : ∀ t : Nat, ∃ c : ClassId, t < 8 → ArrOfT s c (am_aty t) ∧ va_RA s c (am_aty t) := fun t => by
    by_cases ht : t < 8
    · obtain ⟨c, hc⟩ := am_arT hts t ht
      exact ⟨c, fun _ => hc⟩
    · exact ⟨0, fun h => absurd h ht⟩
  obtain ⟨dA, hdA⟩ := Classical.axiomOfChoice harr
  obtain ⟨e0, c0, v0, E0⟩ := am_emp (at0 (i := 0) rfl) (at0 (i := 1) rfl) (at0 (i := 2) rfl)
  obtain ⟨e1, c1, v1, E1⟩ := am_emp (at0 (i := 4) rfl) (at0 (i := 5) rfl) (at0 (i := 6) rfl)
  have hne : e0 ≠ e1 := va_neR (at0 (i := 7) rfl) v0 v1
  obtain ⟨ca, cc, ad, v3, C1, C2, C3, C4, C5, C6⟩ := am_cac (at0 (i := 12) rfl) (at0 (i := 13) rfl) (at0 (i := 14) rfl) hA
  obtain ⟨adK, adV, hS⟩ := am_Sof n1 n2 hA
  obtain ⟨v7, hv7, -⟩ := Cond.isRef_spec (at0 (i := 3) rfl)
  obtain ⟨v5, hv5, -⟩ := Cond.isRef_spec (at0 (i := 8) rfl)
  obtain ⟨v6, hv6, -⟩ := Cond.isRef_spec (at0 (i := 9) rfl)
  have v4 := va_eqt (at0 (i := 10) rfl)
  have v2 := va_eqt (at0 (i := 11) rfl)
  obtain ⟨w2, hw2, -⟩ := Cond.isRef_spec (at0 (i := 16) rfl)
  obtain ⟨w1, hw1, -⟩ := Cond.isRef_spec (at0 (i := 17) rfl)
  obtain ⟨k2c, k2, m2, g1, g2, g3, rfl⟩ := Term.mirror_spec hw2
  obtain ⟨k1c, k1, m1, g4, g5, g6, rfl⟩ := Term.mirror_spec hw1
  have hmn : m2 ≠ m1 := va_neR (at0 (i := 18) rfl) hw2 hw1
  obtain ⟨cI, iI, hI⟩ := u_known (C := RJ17) (T := TJ17) (N := 1) (n := 1) hts (fun w hw => lw_all_tbl (in_J17 w hw)) (hts _ (lw_all_tbl q1044))
  have hEf0 : am_Ef s e0 := ⟨c0, E0⟩
  have hEf1 : am_Ef s e1 := ⟨c1, E1⟩
  have hCf : am_Cf s ca ad := ⟨⟨cc, C1, C2, C3, C4, C5⟩, C6⟩
  have hSf : am_Sf s adK adV := fun j hj => (hS j hj).2
  obtain ⟨hl, hhl⟩ : ∃ hl : am_H, ∀ a e, hl a = some e ↔ am_lsd b L xs e0 e1 ca ad adK adV a e := by
    refine ⟨fun a => @dite _ (∃ e, am_lsd b L xs e0 e1 ca ad adK adV a e) (Classical.propDecidable _) (fun h => some (Classical.choose h)) (fun _ => none), fun a e => ?_⟩
    constructor
    · intro h
      dsimp only at h
      split at h
      · rename_i q
        cases h
        exact Classical.choose_spec q
      · cases h
    · intro h
      have q : ∃ e, am_lsd b L xs e0 e1 ca ad adK adV a e := ⟨e, h⟩
      dsimp only
      rw [dif_pos q]
      exact congrArg some (am_lsd_u hI.2 hX hEf0 hEf1 hCf hSf (Classical.choose_spec q) h)
  have hlw : ∀ a e, hl a = some e → am_lw s.heap.size s s.heap a e := fun a e h => am_lsd_lw hX hEf0 hEf1 hCf hSf ((hhl a e).mp h)
  obtain ⟨Γ, hΓ⟩ : ∃ Γ : Nat → Value, Γ = fun k => if k = 0 then .ref e0 else if k = 1 then .ref e1 else if k = 2 then .int 127 else if k = 3 then .ref ca else if k = 4 then .int 1 else if k = 5 then v5 else if k = 6 then v6 else if k = 7 then v7 else if k = 20 then .ref m1 else if k = 21 then .ref m2 else .ref (adK (k - 100)) := ⟨_, rfl⟩
  have hΓs : ∀ j, Γ (100 + j) = .ref (adK j) := fun j => by
    rw [hΓ]
    dsimp only
    rw [if_neg (by omega), if_neg (by omega), if_neg (by omega), if_neg (by omega), if_neg (by omega), if_neg (by omega), if_neg (by omega), if_neg (by omega), if_neg (by omega), if_neg (by omega), Nat.add_sub_cancel_left]
  refine ⟨(fun c => (f c).1, fun c => (f c).2), dA, Γ, hl, ⟨⟨fun c q hq => hf c q hq, fun t q hq => ?_⟩, fun a e _ he => hlw a e he, fun sn hsn => ?_, fun j e he => ?_, ⟨m1, m2, by rw [hΓ]; rfl, ⟨k1c, k1, g4, g5, g6⟩, by rw [hΓ]; rfl, k2c, k2, g1, g2, g3⟩, am_Od_of hts (at0 (i := 15) rfl), am_Sb_of hts, vx_Zqof (hts _ q702) (hts _ (lw_all_tbl q107)) (at0 (i := 8) rfl) hA, vx_Zqof (hts _ q704) (hts _ (lw_all_tbl q107)) (at0 (i := 9) rfl) hA⟩, ?_⟩
  · have hlt : t < 8 := (List.getElem?_eq_some_iff.mp hq).1
    rw [am_tys_at dA hlt] at hq
    cases hq
    exact hdA t hlt
  · have h8 : sn = 0 ∨ sn = 1 ∨ sn = 2 ∨ sn = 3 ∨ sn = 4 ∨ sn = 5 ∨ sn = 6 ∨ sn = 7 := by omega
    rw [hΓ]
    rcases h8 with rfl | rfl | rfl | rfl | rfl | rfl | rfl | rfl
    · exact va_Zof (hts _ q162) (hts _ (lw_all_tbl q104)) v0 hA
    · exact va_Zof (hts _ q658) (hts _ (lw_all_tbl q104)) v1 hA
    · exact va_Zof (hts _ q1040) (hts _ (lw_all_tbl q127)) v2 hA
    · exact va_Zof (hts _ q1042) (hts _ (lw_all_tbl q127)) v3 hA
    · exact va_Zof (hts _ q847) (hts _ (lw_all_tbl q113)) v4 hA
    · exact va_Zof (hts _ q702) (hts _ (lw_all_tbl q107)) hv5 hA
    · exact va_Zof (hts _ q704) (hts _ (lw_all_tbl q107)) hv6 hA
    · exact va_Zof (hts _ q543) (hts _ (lw_all_tbl q116)) hv7 hA
  · have hj : j < 25 := (List.getElem?_eq_some_iff.mp he).1
    refine ⟨adK j, hΓs j, vk_R.of (A := args) (hts _ (am_str_ok e (List.mem_of_getElem? he))) ?_⟩
    have h4 : e.1 = 4 := by
      have key : ∀ e ∈ am_str, e.1 = 4 := by decide +kernel
      exact key e (List.mem_of_getElem? he)
    have hs := (hS j hj).1
    unfold am_tm at hs
    rw [List.getD_eq_getElem?_getD, he] at hs
    rw [h4]
    exact hs
  · refine ⟨(hhl _ _).mpr (Or.inl ⟨rfl, rfl⟩), hL, ⟨e0, e1, hne, by rw [hΓ]; rfl, by rw [hΓ]; rfl, (hhl _ _).mpr (Or.inr (Or.inl ⟨Or.inl rfl, rfl⟩)), (hhl _ _).mpr (Or.inr (Or.inl ⟨Or.inr rfl, rfl⟩))⟩, by rw [hΓ]; rfl, ⟨ca, ad, by rw [hΓ]; rfl, (hhl _ _).mpr (Or.inr (Or.inr (Or.inl ⟨rfl, rfl⟩))), fun k hk => (hhl _ _).mpr (Or.inr (Or.inr (Or.inr (Or.inl ⟨k, hk, rfl, rfl⟩))))⟩, by rw [hΓ]; rfl, ⟨m1, m2, hmn.symm, by rw [hΓ]; rfl, by rw [hΓ]; rfl⟩, ⟨adK, adV, fun j hj => ⟨hΓs j, (hhl _ _).mpr (Or.inr (Or.inr (Or.inr (Or.inr (Or.inl ⟨j, hj, rfl, rfl⟩))))), (hhl _ _).mpr (Or.inr (Or.inr (Or.inr (Or.inr (Or.inr ⟨j, hj, rfl, rfl⟩)))))⟩⟩, fun a ha => ?_⟩
    cases h : hl a with
    | none => rfl
    | some e =>
      exfalso
      have hw := hlw a e h
      match e, hw with
      | .inl (t, x), hw => exact Nat.not_lt.mpr ha hw.1
      | .inr (ci, fs), hw =>
        obtain ⟨⟨cell, z1, -⟩, -⟩ := hw
        exact Nat.not_lt.mpr ha (Array.getElem?_eq_some_iff.mp z1).1
end AMS
