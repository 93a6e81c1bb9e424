/-! SOUNDNESS 10: a whole run; methods' contracts -/
set_option maxRecDepth 100000
theorem am_ent_sl : ∀ vs : List Value, (am_ent vs).length = (lg_sl vs).length ∧ ∀ (i : Nat) (v : Value), (am_ent vs)[i]? = some (some v) → (lg_sl vs)[i]? = some (Slot.val v) := by
  intro vs
  induction vs with
  | nil => exact ⟨rfl, fun i v h => by cases i <;> cases h⟩
  | cons w r ih =>
    obtain ⟨i1, i2⟩ := ih
    by_cases hc : w.category = 2
    · have e1 : am_ent (w :: r) = some w :: none :: am_ent r := if_pos hc
      have e2 : lg_sl (w :: r) = .val w :: .second :: lg_sl r := by simp [lg_sl, hc]
      rw [e1, e2]
      refine ⟨by simp [i1], fun i v h => ?_⟩
      match i, h with
      | 0, h => cases h; rfl
      | 1, h => cases h
      | i + 2, h => exact i2 i v h
    · have e1 : am_ent (w :: r) = some w :: am_ent r := if_neg hc
      have e2 : lg_sl (w :: r) = .val w :: lg_sl r := by simp [lg_sl, hc]
      rw [e1, e2]
      refine ⟨by simp [i1], fun i v h => ?_⟩
      match i, h with
      | 0, h => cases h; rfl
      | i + 1, h => exact i2 i v h
theorem am_ent_LR (vs : List Value) {n : Nat} (h : (am_ent vs).length ≤ n) : am_LR ((lg_sl vs ++ List.replicate (n - (lg_sl vs).length) Slot.unset).toArray) (am_ent vs ++ List.replicate (n - (am_ent vs).length) none) ∧ (am_ent vs ++ List.replicate (n - (am_ent vs).length) none).length = n := by
  obtain ⟨e1, e2⟩ := am_ent_sl vs
  have hl : (am_ent vs ++ List.replicate (n - (am_ent vs).length) none).length = n := by simp; omega
  refine ⟨?_, hl⟩
  unfold am_LR
  rw [hl]
  obtain ⟨h1, h2, -⟩ := lv_entry vs (n := n) (by omega)
  refine ⟨h1, h2, fun q hq => ?_⟩
  obtain ⟨g1, -⟩ := am_en_mem.mp hq
  have hlt : q.1 < (am_ent vs).length := by
    rcases Nat.lt_or_ge q.1 (am_ent vs).length with g | g
    · exact g
    · rw [List.getElem?_append_right g, List.getElem?_replicate] at g1
      split at g1 <;> cases g1
  rw [List.getElem?_append_left hlt] at g1
  have g2 := e2 _ _ g1
  rw [List.getElem?_toArray, List.getElem?_append_left (by omega)]
  exact g2
section AMG
variable {p : Program} {l : Launch} {e : Env} {R : Room} {s : State} {m : MethodId} {args : Array Value} {below : List Frame} {meth : Method} {c : Code} {Q : State → Prop}
variable {D : va_G} {dA : Nat → ClassId} {b0 d : Nat} {Γ : Nat → Value} {hl : am_H}
theorem am_run_W {call : Nat → List Value → am_S → Option am_O} {mi : am_Mi} (hC : am_Cx p l R s m args meth c D dA b0 d Γ hl call mi) {r : am_Rs} {σ' : am_S} {z0 y0 : Nat} (hcb : σ'.2.1 ≤ z0 + R.cells) (hsb : σ'.2.2 ≤ y0 + R.slots)
    (kr : ∀ v pc i S ls H locs k n, r = .inl v → decode mi.1.2 pc = .ok (i, 1) → am_end mi i S v → am_Sd D dA b0 hl s σ' H locs → k + z0 = σ'.2.1 → n + y0 = σ'.2.2 → W p l e R s m args below meth c H locs k n Q (F0 m pc ls S))
    (kx : ∀ E a pc ls rest H locs ce k n, r = .inr (E, a) → am_Sd D dA b0 hl s σ' H locs → H[a]? = some ce → ce.vm = .none → s.vm.findClass (am_nm E) = some ce.cls → am_nop s args c mi pc E → k + z0 = σ'.2.1 → n + y0 = σ'.2.2 → vx_W p l e R s m args below meth c H locs k n Q (F0 m pc ls rest) a) :
    ∀ (N : Nat) (pc : Nat) (L : am_L) (S : List Value) (σ : am_S) (H : Heap) (locs : List Loc) (k n : Nat) (ls : Array Slot), am_run b0 d Γ call mi N ((pc, L, S), σ) = some (r, σ') → am_Sd D dA b0 hl s σ H locs → am_LR ls L → L.length = mi.2.1.2 → k + z0 = σ.2.1 → n + y0 = σ.2.2 → W p l e R s m args below meth c H locs k n Q (F0 m pc ls S) := by
  have hC' := hC
  obtain ⟨hx, hl0, hb, hml0, hin, hext, hts, hown, hI, hg, hfr, hlo⟩ := hC'
  have hle := am_good_le hg
  intro N
  induction N with
  | zero => intro pc L S σ H locs k n ls h; cases h
  | succ N ih =>
    intro pc L S σ H locs k n ls h hS hLR hlen hk hn
    have hsz : ls.size = mi.2.1.2 := hLR.1.trans hlen
    rw [am_run_s] at h
    cases hst : am_step b0 d Γ call mi ((pc, L, S), σ) with
    | none => rw [hst] at h; cases h
    | some x =>
      rw [hst] at h
      unfold am_step at hst
      dsimp only at hst
      split at hst
      · rename_i i len hd
        split at hst
        · rename_i q hq
          cases hst
          exact am_pure_W hx hb hd hLR hq (fun ls' hl' => ih q.1 q.2.1 q.2.2 σ H locs k n ls' h hS hl' ((am_pure_l hq).trans hlen) hk hn)
        · split at hst
          · rename_i f' hf
            cases hst
            have hf2 := am_arr_l hf
            exact am_arr_W hx hb hts hI hd hS hLR hf (fun H' locs' ls' hS' hl' => ih f'.1.1 f'.1.2.1 f'.1.2.2 f'.2 H' locs' k n ls' h hS' hl' (by rw [hf2.1]; exact hlen) (by rw [hf2.2]; exact hk) (by rw [hf2.2]; exact hn))
          · have hfin : am_le (am_y x) σ' := by
              cases x with
              | inl f' => exact am_run_sz hle _ _ _ h
              | inr o => cases h; exact am_le_refl _
            obtain ⟨b1, b2⟩ := hfin
            refine am_tab_W hC hsz hd hS hst (by omega) (by omega) ?_ ?_ ?_
            · intro pc' S' H' locs' k' n' hy hS' e1 e2
              rw [hy] at h
              exact ih pc' L S' (am_y x) H' locs' k' n' ls h hS' hLR hlen (by omega) (by omega)
            · intro v hy h1 hend
              subst hy
              cases h
              subst h1
              exact kr v pc i S ls H locs k n rfl hd hend hS hk hn
            · intro E a H' locs' ce rest k' n' hy hS' q1 q2 q3 q4 e1 e2
              rw [hy] at h
              have h : (Sum.inr (E, a), am_y x) = (r, σ') := Option.some.inj h
              cases h
              exact kx E a pc ls rest H' locs' ce k' n' rfl hS' q1 q2 q3 q4 (by omega) (by omega)
      · cases hst
end AMG
section AMV
variable {l : Launch} {D : va_G} {dA : Nat → ClassId} {b0 d : Nat} {Γ : Nat → Value} {hl : am_H}
/-- a body's walk -/
theorem am_body {p : Program} {e : Env} {s : State} {m : MethodId} {args : Array Value} {below : List Frame} {meth : Method} {c : Code} {s₁ : State} (hl0 : l.stackTraces = false) {call : Nat → List Value → am_S → Option am_O} (hg : am_good l D dA b0 Γ hl call d) {M : Nat} {mi : am_Mi} {as : List Value} {σ : am_S} {r : am_Rs} {σ' : am_S} (hM : am_mt M = some mi) (hle : am_le σ σ') (hln : (am_ent as).length ≤ mi.2.1.2) (hrun : am_R b0 d Γ call mi ((0, am_ent as ++ List.replicate (mi.2.1.2 - (am_ent as).length) none, []), σ) = some (r, σ'))
    (B : BodyLoose p l mi.1.1 (headSpec (am_ws mi) (am_rm d (σ'.2.1 - σ.2.1) (σ'.2.2 - σ.2.2))) mi.1.2 mi.2.1.2 mi.2.2.1 e s m args below meth c s₁) (hml : c.maxLocals = mi.2.1.2) (hext : c.exceptionTable.toList = tableOf mi.2.2.2) (hP : am_Pc D dA b0 Γ hl as σ args s) :
    W p l e (headSpec (am_ws mi) (am_rm d (σ'.2.1 - σ.2.1) (σ'.2.2 - σ.2.2))).room s m args below meth c s.heap [] 0 0 (vx_MQ below (am_Qc D dA b0 hl r σ') (am_XC D dA b0 hl r σ') args s (σ'.2.1 - σ.2.1) (σ'.2.2 - σ.2.2) (am_A b0)) (entryFrame m args mi.2.1.2) := by
  obtain ⟨rfl, hI, hR⟩ := hP
  have hm := am_mt_ok hM
  have hts0 := atoms_spec (ws := am_ws mi) B.pre
  have hts : ∀ w ∈ lw_all, w.before as.toArray s = true := fun w hw => hts0 w (by
    unfold am_ws
    split <;> exact List.mem_cons_of_mem _ hw)
  have hown : s.vm.findClass (am_nm mi.2.1.1) = some m.cls := by rw [hm.1]; exact findClass_of_methodNamed B.named
  have hname := (name_of_methodNamed B.named B.method).1
  have hC : am_Cx p l (headSpec (am_ws mi) (am_rm d (σ'.2.1 - σ.2.1) (σ'.2.2 - σ.2.2))).room s m as.toArray meth c D dA b0 d Γ hl call mi := ⟨B.exec, hl0, B.bytes, hml, fun h => by rw [hname]; exact eq_of_beq h, hext, hts, hown, hI, hg, Nat.le_refl _, Nat.le_refl _⟩
  obtain ⟨N, hN⟩ := am_R_iff.mp hrun
  obtain ⟨hLR, hlen⟩ := am_ent_LR as hln
  rw [lg_entry_eq]
  have hroom : (headSpec (am_ws mi) (am_rm d (σ'.2.1 - σ.2.1) (σ'.2.2 - σ.2.2))).room = am_rm d (σ'.2.1 - σ.2.1) (σ'.2.2 - σ.2.2) := rfl
  obtain ⟨l1, l2⟩ := hle
  refine am_run_W hC (r := r) (σ' := σ') (z0 := σ.2.1) (y0 := σ.2.2) (by rw [hroom]; show _ ≤ σ.2.1 + (σ'.2.1 - σ.2.1); omega) (by rw [hroom]; show _ ≤ σ.2.2 + (σ'.2.2 - σ.2.2); omega) ?_ ?_ N 0 _ [] σ s.heap [] 0 0 _ hN ⟨hR, ⟨Nat.le_refl _, fun q _ _ => rfl, fun q hq => by cases hq⟩⟩ hLR hlen (Nat.zero_add _) (Nat.zero_add _)
  · intro v pc i S ls H locs k n hr hd hend hS hk hn
    subst hr
    have ek : k = σ'.2.1 - σ.2.1 := by omega
    have en : n = σ'.2.2 - σ.2.2 := by omega
    subst ek
    subst en
    apply vx_ret
    have hlk : meth.locks = false := B.notSynchronized
    have hret := B.returns
    have hq : ∀ (t : State), t.heap = H → s.WarmedH t.vm → am_Qc D dA b0 hl (.inl v) σ' as.toArray s (.returned v) t := fun t ht hW => ⟨v, rfl, rfl, by rw [ht]; exact hS.1, (by rw [ht]; exact hS.2.1), fun q g1 g2 => by rw [ht]; exact hS.2.2.1 q g1 g2⟩
    rcases hend with ⟨rfl, rfl, h1, rfl⟩ | ⟨rfl, x, ty, rfl, h1, h2, rfl⟩ | ⟨rfl, x, rfl, h1, rfl⟩ | ⟨rfl, w, rt, rfl, h1, h2, h3, rfl⟩
    · rw [h1] at hret
      exact W.vret B.exec B.bytes hret hq hS.2.2.2 hd hlk
    · rw [h1] at hret
      exact W.zret B.exec B.bytes hret h2 hq hS.2.2.2 hd hlk
    · rw [h1] at hret
      exact W.lret B.exec B.bytes hret hq hS.2.2.2 hd hlk
    · rw [h2] at hret
      refine W.aret B.exec B.bytes hret h3 ?_ hq hS.2.2.2 hd hlk
      cases w <;> first | exact Or.inl rfl | exact Or.inr ⟨_, rfl⟩ | cases h1
  · intro E a pc ls rest H locs ce k n hr hS hc hv hcl hp hk hn
    exact vx_outP hown B.notSynchronized hp hc hv hcl (fun t ht _ => ⟨E, hr, rfl, by rw [ht]; exact hS.1, (by rw [ht]; exact hS.2.1), fun q g1 g2 => by rw [ht]; exact hS.2.2.1 q g1 g2⟩) hS.2.2.2 (by omega) (by omega)
theorem am_met (hl0 : l.stackTraces = false) {call : Nat → List Value → am_S → Option am_O} (hg : am_good l D dA b0 Γ hl call d) {M : Nat} {mi : am_Mi} {as : List Value} {σ : am_S} {r : am_Rs} {σ' : am_S} (hM : am_mt M = some mi) (hle : am_le σ σ') (hln : (am_ent as).length ≤ mi.2.1.2) (hrun : am_R b0 d Γ call mi ((0, am_ent as ++ List.replicate (mi.2.1.2 - (am_ent as).length) none, []), σ) = some (r, σ')) : am_Met l D dA b0 Γ hl d mi as σ r σ' := by
  have hm := am_mt_ok hM
  unfold am_Met
  by_cases h0 : mi.2.2.2 = []
  · refine vx_ofW hm.2.1 (am_words hm h0).1 ?_
    intro p e s m args below meth c s₁ B hml hno hP
    refine am_body hl0 hg hM hle hln hrun B hml ?_ hP
    rw [h0]
    cases hc : c.exceptionTable.toList with
    | nil => rfl
    | cons x t => exact (hno x (by rw [hc]; exact List.mem_cons_self)).elim
  · refine vx_ofWH hm.2.1 (am_wordsW hm h0).1 ?_
    intro p e s m args below meth c s₁ B hml hP
    exact am_body hl0 hg hM hle hln hrun B hml (vx_table (x := mi.1.1) B (atoms_spec (ws := am_ws mi) B.pre _ (by rw [(am_wordsW hm h0).1]; exact List.mem_cons_self))) hP
theorem am_sound (hl0 : l.stackTraces = false) : ∀ d, am_good l D dA b0 Γ hl (am_C b0 Γ d) d := by
  intro d
  induction d with
  | zero => intro M as σ r σ' h; cases h
  | succ d ih =>
    intro M as σ r σ' h
    obtain ⟨l1, l2⟩ := am_C_le (d + 1) M as σ r σ' h
    unfold am_C at h
    split at h
    · rename_i mi hM
      split at h
      · rename_i hln
        exact ⟨l1, l2, mi, d, hM, rfl, am_met hl0 ih hM ⟨l1, l2⟩ hln h⟩
      · cases h
    · cases h
end AMV
