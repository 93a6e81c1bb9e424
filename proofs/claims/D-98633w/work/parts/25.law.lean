/-! THE LAW: its run on the machine out of its run on the abstract machine (the head is the skeleton's) -/
set_option maxRecDepth 100000
def R_law : String := "ValleyMassLaw"
def lw_P (b : Addr) (xs : List Int32) (args : Array Value) (s : State) : Prop := args = #[.ref b] ∧ s.IntsAt b xs ∧ xs.length ≤ 384 ∧ (Jvm.Cond.and given_1 narrow_1).before args s = true
def lw_Q (_ : Array Value) (s : State) (o : Outcome) (t : State) : Prop := o = .returned (some (.int 1)) ∧ Framed s o t [] 1200128 5501098
def lw_Z (below : List Frame) (a : Array Value) (s : State) : State → Prop := fun t => ∃ o, t.status = .running ∧ Ended t below o ∧ lw_Q a s o t
/-- the law's own end, with 1 on the stack, nothing written that was there before, its room as the claim has it -/
theorem lw_ret {p : Program} {l : Launch} {e : Env} {s : State} {m : MethodId} {below : List Frame} {meth : Method} {c : Code} {b : Nat} (hx : p.tables.exec = Jvm.exec) (hb : c.code = code) (hr : meth.sig.returnType = ret) (hlocks : meth.locks = false) {pc : Nat} {H : Heap} {ls : Array Slot} (hdg : decode code pc = .ok (.ireturn, 1)) : W p l e room_1 s m #[Value.ref b] below meth c H [] 1200128 5501098 (lw_Z below #[Value.ref b] s) (F0 m pc ls [.int 1]) := by
  intro T hT X
  obtain ⟨fs, hret, hrun, hended, hW, hframe⟩ := X.leave (v := some (.int 1)) (hlocks := hlocks) (fun h => by rw [hr] at h; cases h)
  have hmeth' : T.vm.method? m = some meth := X.method'
  refine ⟨T.setFrames fs, ?_, .returned (some (.int 1)), hrun, hended, rfl, ⟨_, rfl⟩, hW, hframe⟩
  jvm_step X.here [X.here.top, hx, hb, hdg, hmeth', hr, ret, narrow_b1]
  (try refine ⟨rfl, ?_⟩); (try refine ⟨rfl, ?_⟩)
  first | (intro acts; rw [hret _ acts rfl rfl rfl]) | rw [hret _ _ rfl rfl rfl]
  exact Steps.refl _
/-- what holds at the law's entry: the machine, the code, the tables' words (any of lw_tbl by 'hts w (by decide +kernel)'), the script of L ints xs at the cell b, what the Statement gives of the start (any of its parts by flat_of_before) -/
def lw_At (p : Program) (s : State) (m : MethodId) (meth : Method) (c : Code) (b L : Nat) (xs : Nat → Int32) : Prop :=
  p.tables.exec = Jvm.exec ∧ c.code = code ∧ meth.sig.returnType = ret ∧ c.maxLocals = 8 ∧ s.vm.findClass R_law = some m.cls ∧ (∀ w ∈ lw_tbl, w.before #[Value.ref b] s = true) ∧ va_X b L xs s s.heap ∧ b < s.heap.size ∧ meth.locks = false ∧ (Jvm.Cond.and given_1 narrow_1).before #[Value.ref b] s = true ∧ meth.name = "law" ∧ c.exceptionTable.toList = []

def mi_law : am_Mi := ((⟨"ValleyMassLaw", "law", "([I)Z"⟩, code), (18, 8), ret, [])
theorem am_whole {p : Program} {e : Env} {s : State} {m : MethodId} {below : List Frame} {meth : Method} {c : Code} (l : Launch) (hflags : l.flags = flags0) {b L : Nat} {xs : Nat → Int32} (hL : L ≤ 384) (C0 : lw_At p s m meth c b L xs)
    (law : ∀ (b0 : Nat) (Γ : Nat → Value) (hl : am_H), am_W0 b0 Γ hl b L xs → ∃ σ' : am_S, am_R b0 700 Γ (am_C b0 Γ 700) mi_law ((0, [some (.ref b), none, none, none, none, none, none, none], []), hl, b0, 0) = some (.inl (some (.int 1)), σ') ∧ σ'.2.1 ≤ b0 + 1200128 ∧ σ'.2.2 ≤ 5501098) :
    W p l e room_1 s m #[Value.ref b] below meth c s.heap [] 0 0 (lw_Z below #[Value.ref b] s) (entryFrame m ([Value.ref b] : List Value).toArray 8) := by
  obtain ⟨hx, hb, hr, hml, hown, hts, hX, hbl, hlocks, hG, hname, hext⟩ := C0
  have hl0 : l.stackTraces = false := by
    unfold Launch.stackTraces
    rw [hflags]
    decide +kernel
  obtain ⟨D, dA, Γ, hl, hI, hW0⟩ := am_start hts hG hX hL
  obtain ⟨σ', hrun, hc1, hc2⟩ := law s.heap.size Γ hl hW0
  obtain ⟨N, hN⟩ := am_R_iff.mp hrun
  have hC : am_Cx p l room_1 s m #[Value.ref b] meth c D dA s.heap.size 700 Γ hl (am_C s.heap.size Γ 700) mi_law := ⟨hx, hl0, hb, hml, fun h => absurd h (by decide +kernel), hext, fun w hw => hts w (lw_all_tbl hw), hown, hI, am_sound hl0 700, by decide, by decide⟩
  have hR : am_Rp D dA s.heap.size hl (hl, s.heap.size, 0) s.heap := ⟨rfl, Nat.le_refl _, fun a _ => rfl, fun a e ha he => by
    have := hW0.2.2.2.2.2.2.2.2 a ha
    dsimp only at he
    rw [this] at he
    cases he⟩
  obtain ⟨hLR, hlen⟩ := am_ent_LR [Value.ref b] (n := 8) (show 1 ≤ 8 by decide)
  rw [lg_entry_eq]
  refine am_run_W hC (r := .inl (some (.int 1))) (σ' := σ') (z0 := s.heap.size) (y0 := 0) hc1 (by rw [Nat.zero_add]; exact hc2) ?_ (fun E a pc ls rest H locs ce k n h => by cases h) N 0 _ [] (hl, s.heap.size, 0) s.heap [] 0 0 _ hN ⟨hR, ⟨Nat.le_refl _, fun q _ _ => rfl, fun q hq => by cases hq⟩⟩ hLR hlen (Nat.zero_add _) (Nat.zero_add _)
  intro v pc i S ls H locs k n hv hd hend hS hk hn
  cases hv
  rcases hend with ⟨-, -, -, h⟩ | ⟨rfl, x, ty, rfl, -, -, h⟩ | ⟨-, x, -, -, h⟩ | ⟨-, w, rt, -, h1, -, -, h⟩
  · cases h
  · cases h
    exact va_forget (fun q hq => hS.2.2.2 q hq) (W.widen (by show k ≤ 1200128; omega) (by show n ≤ 5501098; omega) (lw_ret hx hb hr hlocks hd))
  · cases h
  · cases h
    cases h1
