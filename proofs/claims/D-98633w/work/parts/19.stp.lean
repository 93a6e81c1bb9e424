/-! SOUNDNESS 9: a table instruction's step -/
set_option maxRecDepth 100000
def am_end (mi : am_Mi) (i : Instr) (S : List Value) (v : Option Value) : Prop :=
  (i = .return_ ∧ S = [] ∧ mi.2.2.1 = none ∧ v = none)
  ∨ (i = .ireturn ∧ ∃ x ty, S = [.int x] ∧ mi.2.2.1 = some ty ∧ narrow ty (.int x) = .int x ∧ v = some (.int x))
  ∨ (i = .lreturn ∧ ∃ x, S = [.long x] ∧ mi.2.2.1 = some .long ∧ v = some (.long x))
  ∨ (i = .areturn ∧ ∃ w rt, S = [w] ∧ am_isA w = true ∧ mi.2.2.1 = some rt ∧ ((∃ n, rt = .object n) ∨ ∃ t, rt = .array t) ∧ v = some w)
theorem am_ts_lt (o : Nat) : ∀ e ∈ am_ts o, e.2 < 8 := by
  unfold am_ts
  split <;> decide
theorem am_tc_lt (o idx t : Nat) (h : am_ce o idx 1 = some t) : t < 8 := by
  have key : ∀ e ∈ am_tc o, e.2.1 = 1 → e.2.2 < 8 := by
    unfold am_tc
    split <;> decide
  unfold am_ce at h
  obtain ⟨x, h1, h2⟩ := Option.map_eq_some_iff.mp h
  obtain ⟨g1, g2⟩ := am_find_ok h1
  simp only [Bool.and_eq_true, beq_iff_eq] at g2
  have := key x g1 g2.2
  rw [h2] at this
  exact this
section AMX
variable {p : Program} {l : Launch} {e : Env} {R : Room} {s : State} {m : MethodId} {args : Array Value} {below : List Frame} {meth : Method} {c : Code} {H : Heap} {locs : List Loc} {cells slots : Nat} {Q : State → Prop}
variable {pc : Nat} {ls : Array Slot} {D : va_G} {dA : Nat → ClassId} {b0 d : Nat} {Γ : Nat → Value} {hl : am_H} {σ : am_S} {L : am_L} {S rest : List Value} {o : Nat}
theorem am_cell (hI : am_I D dA b0 Γ hl s s.heap) (hS : am_Sd D dA b0 hl s σ H locs) {a E : Nat} {fs : List Value} (ha : b0 ≤ a) (h : σ.1 a = some (.inr (E, fs))) : E < 16 ∧ ∃ ce : Cell, H[a]? = some ce ∧ ce.vm = .none ∧ s.vm.findClass (am_nm E) = some ce.cls := by
  obtain ⟨r, q0, cell, q1, q2, q3, q4⟩ := (hS.1.2.2.2 a _ ha h).1
  dsimp only at q0 q1 q2 q3 q4
  have hfc := (hI.1.1 E r q0).2.1
  rw [(am_cl_ok E r q0).2.2.2.1] at hfc
  exact ⟨(List.getElem?_eq_some_iff.mp q0).1, cell, q1, q3, by rw [q2]; exact hfc⟩
/-- what a table instruction's step needs of the machine -/
def am_Cx (p : Program) (l : Launch) (R : Room) (s : State) (m : MethodId) (args : Array Value) (meth : Method) (c : Code) (D : va_G) (dA : Nat → ClassId) (b0 d : Nat) (Γ : Nat → Value) (hl : am_H) (call : Nat → List Value → am_S → Option am_O) (mi : am_Mi) : Prop :=
  p.tables.exec = Jvm.exec ∧ l.stackTraces = false ∧ c.code = mi.1.2 ∧ c.maxLocals = mi.2.1.2 ∧ ((mi.1.1.name == "<init>") = true → meth.name = "<init>") ∧ c.exceptionTable.toList = tableOf mi.2.2.2 ∧ (∀ w ∈ lw_all, w.before args s = true) ∧ s.vm.findClass (am_nm mi.2.1.1) = some m.cls ∧ am_I D dA b0 Γ hl s s.heap ∧ am_good l D dA b0 Γ hl call d ∧ d ≤ R.frames ∧ 128 * d ≤ R.locals
/-- where a throw finds no handler -/
def am_nop (s : State) (args : Array Value) (c : Code) (mi : am_Mi) (pc E : Nat) : Prop := ∀ z ∈ c.exceptionTable.toList, covers z pc = false ∨ (z.catchType ≠ 0 ∧ ∃ nm : String, (Cond.classLink (am_nm mi.2.1.1) z.catchType nm).before args s = true ∧ va_Nc (am_nm E) nm s)
theorem am_cal_k {call : Nat → List Value → am_S → Option am_O} {mi : am_Mi} (hC : am_Cx p l R s m args meth c D dA b0 d Γ hl call mi) {len : Nat} {r : am_Rs} {σ' : am_S} {y : am_F ⊕ am_O} (h : am_cal mi pc len L rest (some (r, σ')) = some y) {k n : Nat}
    (kk : ∀ pc' S' H' locs', y = .inl ((pc', L, S'), σ') → am_Sd D dA b0 hl s σ' H' locs' → W p l e R s m args below meth c H' locs' k n Q (F0 m pc' ls S'))
    (kx : ∀ E a H' locs' ce rest, y = .inr (.inr (E, a), σ') → am_Sd D dA b0 hl s σ' H' locs' → H'[a]? = some ce → ce.vm = .none → s.vm.findClass (am_nm E) = some ce.cls → am_nop s args c mi pc E → vx_W p l e R s m args below meth c H' locs' k n Q (F0 m pc ls rest) a) :
    (∀ ci q ce H' locs', r = .inr (ci, q) → am_Sd D dA b0 hl s σ' H' locs' → H'[q]? = some ce → ce.vm = .none → s.vm.findClass (am_nm ci) = some ce.cls → vx_W p l e R s m args below meth c H' locs' k n Q (F0 m pc ls rest) q) ∧ (∀ v H' locs', r = .inl v → am_Sd D dA b0 hl s σ' H' locs' → W p l e R s m args below meth c H' locs' k n Q (F0 m (pc + len) ls (v.toList ++ rest))) := by
  obtain ⟨hx, hl0, hb, hml0, hin, hext, hts, hown, hI, hg, hfr, hlo⟩ := hC
  constructor
  · intro ci q ce H' locs' hr hS' hc hv hf
    subst hr
    have h : am_thr mi pc L ci q σ' = some y := h
    exact am_thr_W hts hown hI hext h hc hv hf (fun t ht => kk t _ H' locs' ht hS') (fun hy hp => kx ci q H' locs' ce rest hy hS' hc hv hf hp)
  · intro v H' locs' hr hS'
    subst hr
    have h : some (Sum.inl ((pc + len, L, v.toList ++ rest), σ')) = some y := h
    exact kk _ _ H' locs' (Option.some.inj h).symm hS'
theorem am_good_le {call : Nat → List Value → am_S → Option am_O} (hg : am_good l D dA b0 Γ hl call d) : am_cle call := fun M as σ r σ' h => ⟨(hg M as σ r σ' h).1, (hg M as σ r σ' h).2.1⟩
theorem am_tab_W {call : Nat → List Value → am_S → Option am_O} {mi : am_Mi} (hC : am_Cx p l R s m args meth c D dA b0 d Γ hl call mi) (hmx : ls.size = mi.2.1.2) {i : Instr} {len : Nat} (hd : decode mi.1.2 pc = .ok (i, len)) (hS : am_Sd D dA b0 hl s σ H locs) {y : am_F ⊕ am_O} (h : am_tab b0 d Γ call mi i len pc L S σ = some y)
    (hcl : cells + (am_y y).2.1 ≤ R.cells + σ.2.1) (hsl : slots + (am_y y).2.2 ≤ R.slots + σ.2.2)
    (kk : ∀ pc' S' H' locs' k n, y = .inl ((pc', L, S'), am_y y) → am_Sd D dA b0 hl s (am_y y) H' locs' → k + σ.2.1 = cells + (am_y y).2.1 → n + σ.2.2 = slots + (am_y y).2.2 → W p l e R s m args below meth c H' locs' k n Q (F0 m pc' ls S'))
    (kr : ∀ v, y = .inr (.inl v, σ) → len = 1 → am_end mi i S v → W p l e R s m args below meth c H locs cells slots Q (F0 m pc ls S))
    (kx : ∀ E a H' locs' ce rest k n, y = .inr (.inr (E, a), am_y y) → am_Sd D dA b0 hl s (am_y y) H' locs' → H'[a]? = some ce → ce.vm = .none → s.vm.findClass (am_nm E) = some ce.cls → am_nop s args c mi pc E → k + σ.2.1 = cells + (am_y y).2.1 → n + σ.2.2 = slots + (am_y y).2.2 → vx_W p l e R s m args below meth c H' locs' k n Q (F0 m pc ls rest) a) :
    W p l e R s m args below meth c H locs cells slots Q (F0 m pc ls S) := by
  have hC' := hC
  obtain ⟨hx, hl0, hb, hml0, hin, hext, hts, hown, hI, hg, hfr, hlo⟩ := hC'
  have hml : c.maxLocals = ls.size := hml0.trans hmx.symm
  -- a step that keeps the sizes
  have same : ∀ {pc' : Nat} {S' : List Value} {h' : am_H} {H' : Heap} {locs' : List Loc}, y = .inl ((pc', L, S'), h', σ.2) → am_Sd D dA b0 hl s (h', σ.2) H' locs' → W p l e R s m args below meth c H' locs' cells slots Q (F0 m pc' ls S') := by
    intro pc' S' h' H' locs' hy hS'
    subst hy
    exact kk _ _ H' locs' cells slots rfl hS' rfl rfl
  -- a call
  have ca : ∀ {wd M na : Nat} {as rest : List Value}, am_cal mi pc wd L rest (call M as σ) = some y → ∃ r mi' d', am_mt M = some mi' ∧ d = d' + 1 ∧ am_Met l D dA b0 Γ hl d' mi' as σ r (am_y y) ∧ (cells + ((am_y y).2.1 - σ.2.1) ≤ R.cells ∧ slots + ((am_y y).2.2 - σ.2.2) ≤ R.slots) ∧ ((∀ ci q ce H' locs', r = .inr (ci, q) → am_Sd D dA b0 hl s (am_y y) H' locs' → H'[q]? = some ce → ce.vm = .none → s.vm.findClass (am_nm ci) = some ce.cls → vx_W p l e R s m args below meth c H' locs' (cells + ((am_y y).2.1 - σ.2.1)) (slots + ((am_y y).2.2 - σ.2.2)) Q (F0 m pc ls rest) q) ∧ (∀ v H' locs', r = .inl v → am_Sd D dA b0 hl s (am_y y) H' locs' → W p l e R s m args below meth c H' locs' (cells + ((am_y y).2.1 - σ.2.1)) (slots + ((am_y y).2.2 - σ.2.2)) Q (F0 m (pc + wd) ls (v.toList ++ rest)))) := by
    intro wd M na as rest hh
    obtain ⟨r, hr⟩ := am_cal_y hh
    obtain ⟨l1, l2, mi', d', g1, g2, g3⟩ := hg _ _ _ _ _ hr
    rw [hr] at hh
    refine ⟨r, mi', d', g1, g2, g3, ⟨by omega, by omega⟩, am_cal_k hC hh (fun pc' S' H' locs' q1 q2 => kk pc' S' H' locs' _ _ q1 q2 (by omega) (by omega)) (fun E a H' locs' ce rest q1 q2 q3 q4 q5 q6 => kx E a H' locs' ce rest _ _ q1 q2 q3 q4 q5 q6 (by omega) (by omega))⟩
  cases i with
  | getfield idx =>
    replace h := am_g_some h
    obtain ⟨e0, h⟩ := h
    subst e0
    split at h
    · split at h
      · rename_i v hv
        cases h
        exact am_getf_W hx hb hts hown hI hd hS hv (same rfl hS)
      · cases h
    · cases h
  | putfield idx =>
    replace h := am_g_some h
    obtain ⟨e0, h⟩ := h
    subst e0
    split at h
    · split at h
      · rename_i hba
        split at h
        · rename_i h' hv
          cases h
          exact am_putf_W hx hb hts hown hI hin hd hS hba hv (fun H' locs' hS' => same rfl hS')
        · cases h
      · cases h
    · cases h
  | getstatic idx =>
    replace h := am_g_some h
    obtain ⟨e0, h⟩ := h
    subst e0
    split at h
    · rename_i x hv
      cases h
      have h8 : x.2 < 8 := am_ts_lt _ _ (am_find_ok hv).1
      exact am_gets_W hx hb hts hown hI hd hS hv h8 (same rfl hS)
    · cases h
  | ldc idx =>
    replace h := am_g_some h
    obtain ⟨e0, h⟩ := h
    subst e0
    split at h
    · rename_i v hv
      cases h
      exact (am_ldc_W hx hb hts hown hI hv).1 hd (same rfl hS)
    · cases h
  | ldc_w idx =>
    replace h := am_g_some h
    obtain ⟨e0, h⟩ := h
    subst e0
    split at h
    · cases h
    · rename_i hno
      split at h
      · rename_i v hv
        cases h
        rcases (am_ldc_W (p := p) (l := l) (e := e) (R := R) (below := below) (meth := meth) (c := c) (pc := pc) (cells := cells) (slots := slots) (Q := Q) (ls := ls) (H := H) (locs := locs) (rest := S) hx hb hts hown hI hv).2 with q | q | q | q
        · exact absurd (Or.inl ⟨q.1, Or.inl q.2⟩) hno
        · exact absurd (Or.inl ⟨q.1, Or.inr q.2⟩) hno
        · exact absurd (Or.inr q) hno
        · exact q hd (same rfl hS)
      · cases h
  | ldc2_w idx =>
    replace h := am_g_some h
    obtain ⟨e0, h⟩ := h
    subst e0
    split at h
    · rename_i x hv
      cases h
      obtain ⟨f1, f2⟩ := am_find_ok hv
      simp only [Bool.and_eq_true, beq_iff_eq] at f2
      have hq := hts _ (am_conL_ok x f1)
      rw [f2.1, f2.2] at hq
      exact lv_ldc2 hx hb hown hq hd (same rfl hS)
    · cases h
  | new idx =>
    replace h := am_g_some h
    obtain ⟨e0, h⟩ := h
    subst e0
    unfold am_new at h
    split at h
    · rename_i ci hci
      split at h
      · rename_i h14
        split at h
        · rename_i r hr
          cases h
          dsimp only [am_y] at hcl hsl kk
          exact am_newo_W hx hb hts hown hI hci h14 hr (by omega) (by omega) hd hS (fun H' hS' => kk _ _ H' locs _ _ rfl hS' (by omega) (by omega))
        · cases h
      · by_cases hc : ((ci = 14 ∧ mi.2.1.1 = 0 ∧ idx = 1) ∨ (ci = 15 ∧ mi.2.1.1 = 0 ∧ idx = 7)) ∧ 8 ≤ d ∧ am_wd S ≤ 8 ∧ decode mi.1.2 (pc + 3) = .ok (.dup, 1) ∧ decode mi.1.2 (pc + 4) = .ok (.invokespecial (if ci = 14 then 3 else 9), 3)
        · rw [if_pos hc] at h
          obtain ⟨h1, h8, hw, d3, d4⟩ := hc
          cases h
          dsimp only [am_y] at hcl hsl kk
          have h0 : mi.2.1.1 = 0 := by rcases h1 with ⟨-, h, -⟩ | ⟨-, h, -⟩ <;> exact h
          rw [h0] at hown
          exact am_newx_W hx hl0 hb hml hts hown hI hS (h1.elim (fun q => Or.inl ⟨q.1, q.2.2⟩) (fun q => Or.inr ⟨q.1, q.2.2⟩)) hd d3 d4 (by omega) (by omega) (by omega) (by omega) (fun H' hS' => kk _ _ H' locs _ _ rfl hS' (by omega) (by omega))
        · rw [if_neg hc] at h
          cases h
    · cases h
  | newarray t =>
    replace h := am_g_some h
    obtain ⟨e0, h⟩ := h
    subst e0
    cases t with
    | int =>
      obtain ⟨n, S', rfl, hn, hby, rfl⟩ := am_nar_ok h
      dsimp only [am_y] at hcl hsl kk
      exact am_newa_W hx hb (at0 := .int) (t := 0) (hts _ q227) (by decide) (am_arnm hI (t := 0) (by decide)) rfl (by decide) hn hby (by omega) (by omega) hd hS (fun H' hS' => kk _ _ H' locs _ _ rfl hS' (by omega) (by omega))
    | byte =>
      obtain ⟨n, S', rfl, hn, hby, rfl⟩ := am_nar_ok h
      dsimp only [am_y] at hcl hsl kk
      exact am_newa_W hx hb (at0 := .byte) (t := 1) (hts _ q273) (by decide) (am_arnm hI (t := 1) (by decide)) rfl (by decide) hn hby (by omega) (by omega) hd hS (fun H' hS' => kk _ _ H' locs _ _ rfl hS' (by omega) (by omega))
    | boolean =>
      obtain ⟨n, S', rfl, hn, hby, rfl⟩ := am_nar_ok h
      dsimp only [am_y] at hcl hsl kk
      exact am_newa_W hx hb (at0 := .boolean) (t := 2) (hts _ q1771) (by decide) (am_arnm hI (t := 2) (by decide)) rfl (by decide) hn hby (by omega) (by omega) hd hS (fun H' hS' => kk _ _ H' locs _ _ rfl hS' (by omega) (by omega))
    | long =>
      obtain ⟨n, S', rfl, hn, hby, rfl⟩ := am_nar_ok h
      dsimp only [am_y] at hcl hsl kk
      exact am_newa_W hx hb (at0 := .long) (t := 3) (hts _ q2210) (by decide) (am_arnm hI (t := 3) (by decide)) rfl (by decide) hn hby (by omega) (by omega) hd hS (fun H' hS' => kk _ _ H' locs _ _ rfl hS' (by omega) (by omega))
    | _ => cases h
  | anewarray idx =>
    replace h := am_g_some h
    obtain ⟨e0, h⟩ := h
    subst e0
    split at h
    · rename_i t ht
      obtain ⟨n, S', rfl, hn, hby, rfl⟩ := am_nar_ok h
      dsimp only [am_y] at hcl hsl kk
      have h8 : t < 8 := am_tc_lt _ _ _ ht
      exact am_newq_W hx hb hts hown hI ht h8 hn hby (by omega) (by omega) hd hS (fun H' hS' => kk _ _ H' locs _ _ rfl hS' (by omega) (by omega))
    · cases h
  | checkcast idx =>
    replace h := am_g_some h
    obtain ⟨e0, h⟩ := h
    subst e0
    obtain ⟨rfl, k⟩ := am_cst_W (p := p) (l := l) (e := e) (R := R) (below := below) (meth := meth) (c := c) (cells := cells) (slots := slots) (Q := Q) (ls := ls) hx hb hts hown hI hd hS h
    exact k (same rfl hS)
  | invokestatic idx =>
    replace h := am_g_some h
    obtain ⟨e0, h⟩ := h
    subst e0
    unfold am_stc at h
    split at h
    · rename_i q hq
      split at h
      · split at h
        · rename_i hc
          cases h
          exact am_mx_W hx hb hml hts hown hq (by omega) (by omega) (by dsimp only [am_y] at hcl; omega) (by dsimp only [am_y] at hsl; omega) hd (same rfl hS)
        · cases h
      · cases h
    · split at h
      · rename_i hor
        split at h
        · split at h
          · rename_i hc
            split at h
            · rename_i h' hv
              cases h
              have hlink : (Cond.methodLink (am_nm mi.2.1.1) idx arraycopyName).before args s = true := by
                rcases hor with ⟨h1, rfl⟩ | ⟨h1, rfl⟩
                · rw [h1]; exact hts _ q368
                · rw [h1]; exact hts _ q401
              exact am_cpq_W hx hb hml hts hown hlink hI hS hv (by omega) (by omega) hd (fun H' locs' hS' => same rfl hS')
            · cases h
          · cases h
        · cases h
      · split at h
        · rename_i k na hin'
          split at h
          · rename_i hc
            obtain ⟨hk, hna, hw⟩ := hc
            split at h
            · rename_i M na' hie
              split at h
              · rename_i hnn
                subst hnn
                obtain ⟨r, mi', d', g1, rfl, g3, g4, g5, g6⟩ := ca (na := 0) h
                have hlen : (S.take na').reverse.length = na' := by simp; omega
                have eS : (S.take na').reverse.reverse ++ S.drop na' = S := by rw [List.reverse_reverse, List.take_append_drop]
                have hr := am_stat_run (p := p) (l := l) (e := e) (R := R) (below := below) (meth := meth) (pc := pc) hx hb hml0 hmx hts hown hI hS hk hd (am_ie_ok hie) g1 hlen hw g3 hfr (by omega) g4
                rw [eS] at hr
                exact am_run3_W hr hS g5 g6
              · cases h
            · cases h
          · cases h
        · cases h
  | invokevirtual idx =>
    replace h := am_g_some h
    obtain ⟨e0, h⟩ := h
    subst e0
    unfold am_vrt at h
    split at h
    · rename_i hoi
      obtain ⟨ho, rfl⟩ := hoi
      split at h
      · split at h
        · rename_i x hf
          split at h
          · cases h
            rw [ho] at hown
            exact am_getA_W hx hb hml hts hown hI hS hf (by omega) (by omega) hd (same rfl hS)
          · cases h
        · cases h
      · cases h
    · split at h
      · rename_i k na hin'
        split at h
        · rename_i b rest hdr
          split at h
          · rename_i hc
            obtain ⟨hk, hw⟩ := hc
            split at h
            · rename_i ci hck
              split at h
              · rename_i M na' hie
                split at h
                · rename_i hnn
                  subst hnn
                  obtain ⟨r, mi', d', g1, rfl, g3, g4, g5, g6⟩ := ca (na := 0) h
                  have hlt : na' < S.length := by
                    rcases Nat.lt_or_ge na' S.length with h | h
                    · exact h
                    · rw [List.drop_eq_nil_of_le h] at hdr; cases hdr
                  have hlen : (S.take na').reverse.length = na' := by simp; omega
                  have eS : (S.take na').reverse.reverse ++ .ref b :: rest = S := by rw [List.reverse_reverse, ← hdr, List.take_append_drop]
                  have hr := am_virt_run (p := p) (l := l) (e := e) (R := R) (below := below) (meth := meth) (pc := pc) hx hb hml0 hmx hts hown hI hS hk hd (am_ie_ok hie) hck g1 hlen hw g3 hfr (by omega) g4
                  rw [eS] at hr
                  exact am_run3_W hr hS g5 g6
                · cases h
              · cases h
            · cases h
          · cases h
        · cases h
      · cases h
  | invokeinterface idx cnt =>
    replace h := am_g_some h
    obtain ⟨e0, h⟩ := h
    subst e0
    unfold am_ifc at h
    split at h
    · rename_i hoi
      obtain ⟨ho, rfl⟩ := hoi
      split at h
      · split at h
        · rename_i hf
          split at h
          · cases h
            rw [ho] at hown
            exact am_getI_W hx hb hml hts hown hI hS hf (by omega) (by omega) hd (same rfl hS)
          · cases h
        · cases h
      · cases h
    · split at h
      · rename_i k na hin'
        split at h
        · rename_i b rest hdr
          split at h
          · rename_i hc
            obtain ⟨hk, hw⟩ := hc
            split at h
            · rename_i ci hck
              split at h
              · rename_i h16
                split at h
                · rename_i M na' hie
                  split at h
                  · rename_i hnn
                    subst hnn
                    obtain ⟨r, mi', d', g1, rfl, g3, g4, g5, g6⟩ := ca (na := 0) h
                    have hlt : na' < S.length := by
                      rcases Nat.lt_or_ge na' S.length with h | h
                      · exact h
                      · rw [List.drop_eq_nil_of_le h] at hdr; cases hdr
                    have hlen : (S.take na').reverse.length = na' := by simp; omega
                    have eS : (S.take na').reverse.reverse ++ .ref b :: rest = S := by rw [List.reverse_reverse, ← hdr, List.take_append_drop]
                    have hr := am_face_run (p := p) (l := l) (e := e) (R := R) (below := below) (meth := meth) (pc := pc) hx hb hml0 hmx hts hown hI hS h16 hd (am_ie_ok hie) hck g1 hlen hw g3 hfr (by omega) g4
                    rw [eS] at hr
                    exact am_run5_W hr hS g5 g6
                  · cases h
                · cases h
              · cases h
            · cases h
          · cases h
        · cases h
      · cases h
  | invokespecial idx =>
    replace h := am_g_some h
    obtain ⟨e0, h⟩ := h
    subst e0
    unfold am_spc at h
    split at h
    · rename_i hoi
      split at h
      · split at h
        · cases h
          exact am_objI_W hx hb hml hts hown hoi (by omega) (by omega) hd (same rfl hS)
        · cases h
      · cases h
    · split at h
      · rename_i k na hin'
        split at h
        · rename_i b rest hdr
          split at h
          · rename_i hc
            obtain ⟨hk, hw⟩ := hc
            split at h
            · rename_i ci hck
              split at h
              · rename_i h16
                split at h
                · rename_i x hfi
                  obtain ⟨r, mi', d', g1, rfl, g3, g4, g5, g6⟩ := ca (na := 0) h
                  have hlt : na < S.length := by
                    rcases Nat.lt_or_ge na S.length with h | h
                    · exact h
                    · rw [List.drop_eq_nil_of_le h] at hdr; cases hdr
                  have hlen : (S.take na).reverse.length = na := by simp; omega
                  have eS : (S.take na).reverse.reverse ++ .ref b :: rest = S := by rw [List.reverse_reverse, ← hdr, List.take_append_drop]
                  obtain ⟨f1, f2⟩ := am_find_ok hfi
                  have hok := am_ti_ok _ x f1
                  unfold am_in at hin'
                  rw [hfi] at hin'
                  cases hin'
                  rw [beq_iff_eq] at f2
                  obtain ⟨x1, x2, x3, x4, x5⟩ := x
                  dsimp only at f2 hok hk hlen eS g1
                  subst f2
                  have hr := am_spec_run (p := p) (l := l) (e := e) (R := R) (below := below) (meth := meth) (pc := pc) hx hb hml0 hmx hts hown hI hS hk h16 hd hok hck g1 hlen hw g3 hfr (by omega) g4
                  rw [eS] at hr
                  exact am_run3_W hr hS g5 g6
                · cases h
              · cases h
            · cases h
          · cases h
        · cases h
      · cases h
  | return_ =>
    replace h := am_g_some h
    obtain ⟨e0, h⟩ := h
    subst e0
    split at h
    · split at h
      · rename_i hr
        cases h
        exact kr _ rfl rfl (Or.inl ⟨rfl, rfl, hr, rfl⟩)
      · cases h
    · cases h
  | ireturn =>
    replace h := am_g_some h
    obtain ⟨e0, h⟩ := h
    subst e0
    split at h
    · split at h
      · rename_i ty hr
        split at h
        · rename_i hn
          cases h
          exact kr _ rfl rfl (Or.inr (Or.inl ⟨rfl, _, _, rfl, hr, hn, rfl⟩))
        · cases h
      · cases h
    · cases h
  | lreturn =>
    replace h := am_g_some h
    obtain ⟨e0, h⟩ := h
    subst e0
    split at h
    · split at h
      · rename_i hr
        cases h
        exact kr _ rfl rfl (Or.inr (Or.inr (Or.inl ⟨rfl, _, rfl, hr, rfl⟩)))
      · cases h
    · cases h
  | areturn =>
    replace h := am_g_some h
    obtain ⟨e0, h⟩ := h
    subst e0
    split at h
    · split at h
      · rename_i hv
        split at h
        · rename_i n hr
          cases h
          exact kr _ rfl rfl (Or.inr (Or.inr (Or.inr ⟨rfl, _, _, rfl, hv, hr, Or.inl ⟨_, rfl⟩, rfl⟩)))
        · rename_i n hr
          cases h
          exact kr _ rfl rfl (Or.inr (Or.inr (Or.inr ⟨rfl, _, _, rfl, hv, hr, Or.inr ⟨_, rfl⟩, rfl⟩)))
        · cases h
      · cases h
    · cases h
  | athrow =>
    replace h := am_g_some h
    obtain ⟨e0, h⟩ := h
    subst e0
    split at h
    · rename_i a S'
      split at h
      · rename_i hba
        split at h
        · rename_i E hE
          unfold am_ck at hE
          split at hE
          · rename_i ci fs hf
            cases hE
            obtain ⟨-, ce, c1, c2, c3⟩ := am_cell hI hS hba hf
            have hy := am_thr_y h
            refine vx_athrow hx hb hd (am_thr_W hts hown hI hext h c1 c2 c3 (fun t ht => same ht hS) (fun hy' hp => kx _ _ H locs ce S' cells slots (by rw [hy]; exact hy') (by rw [hy]; exact hS) c1 c2 c3 hp (by rw [hy]) (by rw [hy])))
          · cases hE
        · cases h
      · cases h
    · cases h
  | _ => cases h
end AMX
