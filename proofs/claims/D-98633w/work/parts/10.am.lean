set_option maxRecDepth 100000
/-! THE ABSTRACT MACHINE (AM): a deterministic interpreter over a functional heap; pure, no machine in sight -/
abbrev am_L : Type := List (Option Value)
/-- a cell: an array (its type's number, length and contents) or an object (its class's number, its fields) -/
abbrev am_E : Type := (Nat × vp_A) ⊕ (Nat × List Value)
abbrev am_H : Type := Nat → Option am_E
/-- heap, its size, slots used -/
abbrev am_S : Type := am_H × Nat × Nat
abbrev am_Rs : Type := Option Value ⊕ (Nat × Nat)
abbrev am_P : Type := Nat × am_L × List Value
abbrev am_F : Type := am_P × am_S
abbrev am_O : Type := am_Rs × am_S
def am_g {α : Type} (a b : Nat) (r : Option α) : Option α := if a = b then r else none
theorem am_g_self {α : Type} (a : Nat) (r : Option α) : am_g a a r = r := if_pos rfl
theorem am_g_some {α : Type} {a b : Nat} {r : Option α} {x : α} (h : am_g a b r = some x) : a = b ∧ r = some x := by
  unfold am_g at h
  split at h
  · exact ⟨by assumption, h⟩
  · cases h
def am_ld (L : am_L) (k : Nat) (q : Value → Bool) : Option Value := match L[k]? with
  | some (some v) => if q v = true then (if v.category = 2 then (match L[k + 1]? with | some none => some v | _ => none) else some v) else none
  | _ => none
def am_isI : Value → Bool | .int _ => true | _ => false
def am_isJ : Value → Bool | .long _ => true | _ => false
def am_isA : Value → Bool | .ref _ => true | .null => true | _ => false
def am_st (L : am_L) (k : Nat) (v : Value) : Option am_L := if v.category = 2 then (if k + 1 < L.length then some ((L.set k (some v)).set (k + 1) none) else none) else (if k < L.length then some (L.set k (some v)) else none)
def am_tg (pc : Nat) (off : Int) : Option Nat := if 0 ≤ (pc : Int) + off then some ((pc : Int) + off).toNat else none
def am_push (pc len : Nat) (L : am_L) (S : List Value) (v : Option Value) : Option am_P := match v with
  | some v => some (pc + len, L, v :: S)
  | none => none
def am_store (pc len k : Nat) (L : am_L) (S : List Value) (q : Value → Bool) : Option am_P := match S with
  | v :: S' => if q v = true then (match am_st L k v with | some L' => some (pc + len, L', S') | none => none) else none
  | _ => none
def am_2i (pc : Nat) (L : am_L) (S : List Value) (f : Int32 → Int32 → Option Value) : Option am_P := match S with
  | .int y :: .int x :: S' => am_push pc 1 L S' (f x y)
  | _ => none
def am_2j (pc : Nat) (L : am_L) (S : List Value) (f : Int64 → Int64 → Option Value) : Option am_P := match S with
  | .long y :: .long x :: S' => am_push pc 1 L S' (f x y)
  | _ => none
def am_1i (pc : Nat) (L : am_L) (S : List Value) (f : Int32 → Option Value) : Option am_P := match S with
  | .int x :: S' => am_push pc 1 L S' (f x)
  | _ => none
def am_1j (pc : Nat) (L : am_L) (S : List Value) (f : Int64 → Option Value) : Option am_P := match S with
  | .long x :: S' => am_push pc 1 L S' (f x)
  | _ => none
def am_br (pc : Nat) (off : Int) (L : am_L) (S : List Value) (c : Prop) [Decidable c] : Option am_P := match am_tg pc off with
  | some t => some (if c then t else pc + 3, L, S)
  | none => none
def am_if (pc : Nat) (off : Int) (L : am_L) (S : List Value) (op : Jvm.ClassFile.Cond) : Option am_P := match S with
  | .int x :: S' => (match op with
    | .eq => am_br pc off L S' (x = 0)
    | .ne => am_br pc off L S' (¬ x = 0)
    | .lt => am_br pc off L S' (x < 0)
    | .ge => am_br pc off L S' (0 ≤ x)
    | .gt => am_br pc off L S' (0 < x)
    | .le => am_br pc off L S' (x ≤ 0))
  | _ => none
def am_icmp (pc : Nat) (off : Int) (L : am_L) (S : List Value) (op : Jvm.ClassFile.Cond) : Option am_P := match S with
  | .int y :: .int x :: S' => (match op with
    | .eq => am_br pc off L S' (x = y)
    | .ne => am_br pc off L S' (¬ x = y)
    | .lt => am_br pc off L S' (x < y)
    | .ge => am_br pc off L S' (y ≤ x)
    | .gt => am_br pc off L S' (y < x)
    | .le => am_br pc off L S' (x ≤ y))
  | _ => none
def am_nul (pc : Nat) (off : Int) (L : am_L) (S : List Value) (isNull : Bool) : Option am_P := match S with
  | .null :: S' => am_br pc off L S' (isNull = true)
  | .ref _ :: S' => am_br pc off L S' (isNull = false)
  | _ => none
def am_rfv : Value → Option (Option Nat)
  | .ref a => some (some a)
  | .null => some none
  | _ => none
def am_acmp (pc : Nat) (off : Int) (L : am_L) (S : List Value) (op : ACond) : Option am_P := match S with
  | v :: w :: S' => (match am_rfv v, am_rfv w with
    | some y, some x => (match op with
      | .eq => am_br pc off L S' (x = y)
      | .ne => am_br pc off L S' (¬ x = y))
    | _, _ => none)
  | _ => none
/-- instructions that read no heap and no table -/
def am_pure (i : Instr) (len pc : Nat) (L : am_L) (S : List Value) : Option am_P := match i with
  | .iconst n => am_g len 1 (am_push pc 1 L S (some (.int (Int32.ofInt n))))
  | .bipush n => am_g len 2 (am_push pc 2 L S (some (.int (Int8.ofInt n).toInt32)))
  | .sipush n => am_g len 3 (am_push pc 3 L S (some (.int (Int16.ofInt n).toInt32)))
  | .lconst n => am_g len 1 (am_push pc 1 L S (some (.long (Int64.ofNat (n : Nat)))))
  | .aconst_null => am_g len 1 (am_push pc 1 L S (some .null))
  | .iload_n k => am_g len 1 (am_push pc 1 L S (am_ld L k am_isI))
  | .iload k => am_g len 2 (am_push pc 2 L S (am_ld L k am_isI))
  | .lload_n k => am_g len 1 (am_push pc 1 L S (am_ld L k am_isJ))
  | .lload k => am_g len 2 (am_push pc 2 L S (am_ld L k am_isJ))
  | .aload_n k => am_g len 1 (am_push pc 1 L S (am_ld L k am_isA))
  | .aload k => am_g len 2 (am_push pc 2 L S (am_ld L k am_isA))
  | .istore_n k => am_g len 1 (am_store pc 1 k L S am_isI)
  | .istore k => am_g len 2 (am_store pc 2 k L S am_isI)
  | .lstore_n k => am_g len 1 (am_store pc 1 k L S am_isJ)
  | .lstore k => am_g len 2 (am_store pc 2 k L S am_isJ)
  | .astore_n k => am_g len 1 (am_store pc 1 k L S am_isA)
  | .astore k => am_g len 2 (am_store pc 2 k L S am_isA)
  | .iinc k n => am_g len 3 (match am_ld L k am_isI with
    | some (.int x) => (match am_st L k (.int (x + Int32.ofInt n)) with | some L' => some (pc + 3, L', S) | none => none)
    | _ => none)
  | .iadd => am_g len 1 (am_2i pc L S fun x y => some (.int (x + y)))
  | .isub => am_g len 1 (am_2i pc L S fun x y => some (.int (x - y)))
  | .imul => am_g len 1 (am_2i pc L S fun x y => some (.int (x * y)))
  | .iand => am_g len 1 (am_2i pc L S fun x y => some (.int (x &&& y)))
  | .ior => am_g len 1 (am_2i pc L S fun x y => some (.int (x ||| y)))
  | .ixor => am_g len 1 (am_2i pc L S fun x y => some (.int (x ^^^ y)))
  | .idiv => am_g len 1 (am_2i pc L S fun x y => if y = 0 then none else some (.int (x / y)))
  | .irem => am_g len 1 (am_2i pc L S fun x y => if y = 0 then none else some (.int (x - x / y * y)))
  | .ishl => am_g len 1 (am_2i pc L S fun x y => some (.int (x <<< (y &&& 31))))
  | .ishr => am_g len 1 (am_2i pc L S fun x y => some (.int (x >>> (y &&& 31))))
  | .iushr => am_g len 1 (am_2i pc L S fun x y => some (.int (x.toUInt32 >>> (y.toUInt32 &&& Int32.toUInt32 31)).toInt32))
  | .ineg => am_g len 1 (am_1i pc L S fun x => some (.int (-x)))
  | .i2l => am_g len 1 (am_1i pc L S fun x => some (.long x.toInt64))
  | .i2b => am_g len 1 (am_1i pc L S fun x => some (.int x.toInt8.toInt32))
  | .i2c => am_g len 1 (am_1i pc L S fun x => some (.int (x.toUInt32 % 65536).toInt32))
  | .l2i => am_g len 1 (am_1j pc L S fun x => some (.int x.toInt32))
  | .ladd => am_g len 1 (am_2j pc L S fun x y => some (.long (x + y)))
  | .lsub => am_g len 1 (am_2j pc L S fun x y => some (.long (x - y)))
  | .lmul => am_g len 1 (am_2j pc L S fun x y => some (.long (x * y)))
  | .lor => am_g len 1 (am_2j pc L S fun x y => some (.long (x ||| y)))
  | .ldiv => am_g len 1 (am_2j pc L S fun x y => if y = 0 then none else some (.long (x / y)))
  | .lrem => am_g len 1 (am_2j pc L S fun x y => if y = 0 then none else some (.long (x - x / y * y)))
  | .lcmp => am_g len 1 (am_2j pc L S fun x y => some (.int (lg_cmp x y)))
  | .lshl => am_g len 1 (match S with
    | .int y :: .long x :: S' => am_push pc 1 L S' (some (.long (x <<< (y.toInt64 &&& 63))))
    | _ => none)
  | .dup => am_g len 1 (match S with
    | v :: S' => if v.category = 1 then some (pc + 1, L, v :: v :: S') else none
    | _ => none)
  | .pop => am_g len 1 (match S with
    | v :: S' => if v.category = 1 then some (pc + 1, L, S') else none
    | _ => none)
  | .dup_x1 => am_g len 1 (match S with
    | v :: w :: S' => if v.category = 1 ∧ w.category = 1 then some (pc + 1, L, v :: w :: v :: S') else none
    | _ => none)
  | .dup2 => am_g len 1 (match S with
    | v :: w :: S' => if v.category = 1 ∧ w.category = 1 then some (pc + 1, L, v :: w :: v :: w :: S') else none
    | _ => none)
  | .goto off => am_g len 3 (match am_tg pc off with | some t => some (t, L, S) | none => none)
  | .ifCond op off => am_g len 3 (am_if pc off L S op)
  | .if_icmp op off => am_g len 3 (am_icmp pc off L S op)
  | .if_acmp op off => am_g len 3 (am_acmp pc off L S op)
  | .ifnull off => am_g len 3 (am_nul pc off L S true)
  | .ifnonnull off => am_g len 3 (am_nul pc off L S false)
  | .tableswitch dflt lo hi offs => (match S with
    | .int x :: S' => if x.toInt < lo ∨ hi < x.toInt then (match am_tg pc dflt with | some t => some (t, L, S') | none => none)
        else (match offs[(x.toInt - lo).toNat]? with
          | some off => (match am_tg pc off with | some t => some (t, L, S') | none => none)
          | none => none)
    | _ => none)
  | _ => none
/-! ## heap instructions -/
def am_aix (i : Int32) (n : Nat) : Option Nat := if i < 0 ∨ n ≤ i.toNatClampNeg then none else some i.toNatClampNeg
def am_up (h : am_H) (a : Nat) (e : am_E) : am_H := fun q => if q = a then some e else h q
/-- the class of an object -/
def am_ck (h : am_H) (a : Nat) : Option Nat := match h a with
  | some (.inr (ci, _)) => some ci
  | _ => none
def am_len (h : am_H) (a : Nat) : Option Nat := match h a with
  | some (.inl (_, n, _)) => some n
  | _ => none
def am_gI (h : am_H) (a : Nat) (i : Int32) : Option Value := match h a with
  | some (.inl (0, n, .inl f)) => (match am_aix i n with | some j => some (.int (f j)) | none => none)
  | _ => none
def am_gB (h : am_H) (a : Nat) (i : Int32) : Option Value := match h a with
  | some (.inl (1, n, .inl f)) => (match am_aix i n with | some j => some (.int (f j)) | none => none)
  | some (.inl (2, n, .inl f)) => (match am_aix i n with | some j => some (.int (f j)) | none => none)
  | _ => none
def am_gJ (h : am_H) (a : Nat) (i : Int32) : Option Value := match h a with
  | some (.inl (3, n, .inr (.inl f))) => (match am_aix i n with | some j => some (.long (f j)) | none => none)
  | _ => none
def am_gQ (h : am_H) (a : Nat) (i : Int32) : Option Value := match h a with
  | some (.inl (t + 4, n, .inr (.inr (.inr (.inr f))))) => (match am_aix i n with | some j => some (va_rf (f j)) | none => none)
  | _ => none
def am_sI (h : am_H) (a : Nat) (i x : Int32) : Option am_H := match h a with
  | some (.inl (0, n, .inl f)) => (match am_aix i n with | some j => some (am_up h a (.inl (0, n, .inl (upd f j x)))) | none => none)
  | _ => none
def am_sB (h : am_H) (a : Nat) (i x : Int32) : Option am_H := match h a with
  | some (.inl (1, n, .inl f)) => (match am_aix i n with | some j => some (am_up h a (.inl (1, n, .inl (upd f j (vp_nar .byte x))))) | none => none)
  | some (.inl (2, n, .inl f)) => (match am_aix i n with | some j => some (am_up h a (.inl (2, n, .inl (upd f j (vp_nar .boolean x))))) | none => none)
  | _ => none
def am_sJ (h : am_H) (a : Nat) (i : Int32) (x : Int64) : Option am_H := match h a with
  | some (.inl (3, n, .inr (.inl f))) => (match am_aix i n with | some j => some (am_up h a (.inl (3, n, .inr (.inl (vp_updL f j x))))) | none => none)
  | _ => none
/-- may an array of type t hold this object -/
def am_as (b0 t v : Nat) : Option am_E → Bool
  | some (.inr (ci, _)) => (match t with
    | 4 => ci < 14 || ci == 16 || ci == 17
    | 5 => ci == 8 || ci == 9 || ci == 10 || ci == 11
    | 6 => ci == 7
    | 7 => ci == 17
    | _ => false)
  | some (.inl (t', _)) => t == 4 && (t' < 8 && b0 ≤ v)
  | none => false
def am_aso (b0 t : Nat) (h : am_H) : Option Nat → Bool
  | some y => am_as b0 t y (h y)
  | none => true
def am_sQ (b0 : Nat) (h : am_H) (a : Nat) (i : Int32) (v : Option Nat) : Option am_H := match h a with
  | some (.inl (t + 4, n, .inr (.inr (.inr (.inr f))))) => if am_aso b0 (t + 4) h v = true then (match am_aix i n with | some j => some (am_up h a (.inl (t + 4, n, .inr (.inr (.inr (.inr (va_up f j v))))))) | none => none) else none
  | _ => none
def am_lda (pc : Nat) (L : am_L) (S : List Value) (σ : am_S) (g : am_H → Nat → Int32 → Option Value) : Option am_F := match S with
  | .int i :: .ref a :: S' => (match g σ.1 a i with | some v => some ((pc + 1, L, v :: S'), σ) | none => none)
  | _ => none
def am_put (pc : Nat) (L : am_L) (S : List Value) (σ : am_S) (h : Option am_H) : Option am_F := match h with
  | some h => some ((pc + 1, L, S), h, σ.2)
  | none => none
def am_arr (b0 : Nat) (i : Instr) (len pc : Nat) (L : am_L) (S : List Value) (σ : am_S) : Option am_F := match i with
  | .arraylength => am_g len 1 (match S with
    | .ref a :: S' => (match am_len σ.1 a with | some n => some ((pc + 1, L, .int (Int32.ofNat n) :: S'), σ) | none => none)
    | _ => none)
  | .iaload => am_g len 1 (am_lda pc L S σ am_gI)
  | .baload => am_g len 1 (am_lda pc L S σ am_gB)
  | .laload => am_g len 1 (am_lda pc L S σ am_gJ)
  | .aaload => am_g len 1 (am_lda pc L S σ am_gQ)
  | .iastore => am_g len 1 (match S with
    | .int x :: .int i :: .ref a :: S' => if b0 ≤ a then am_put pc L S' σ (am_sI σ.1 a i x) else none
    | _ => none)
  | .bastore => am_g len 1 (match S with
    | .int x :: .int i :: .ref a :: S' => if b0 ≤ a then am_put pc L S' σ (am_sB σ.1 a i x) else none
    | _ => none)
  | .lastore => am_g len 1 (match S with
    | .long x :: .int i :: .ref a :: S' => if b0 ≤ a then am_put pc L S' σ (am_sJ σ.1 a i x) else none
    | _ => none)
  | .aastore => am_g len 1 (match S with
    | .ref v :: .int i :: .ref a :: S' => if b0 ≤ a then am_put pc L S' σ (am_sQ b0 σ.1 a i (some v)) else none
    | .null :: .int i :: .ref a :: S' => if b0 ≤ a then am_put pc L S' σ (am_sQ b0 σ.1 a i none) else none
    | _ => none)
  | _ => none
/-! ## instructions that read the tables -/
/-- a field's place: link idx of class o, on an object of class ci -/
def am_fk (o idx ci : Nat) : Option Nat := ((am_tf o).find? (fun e => e.1 == idx && e.2.1 == ci)).map (fun e => e.2.2.1)
def am_fe (o idx ci : Nat) : Option (Nat × Nat × Nat × Nat) := (am_tf o).find? (fun e => e.1 == idx && e.2.1 == ci)
def am_ce (o idx kind : Nat) : Option Nat := ((am_tc o).find? (fun e => e.1 == idx && e.2.1 == kind)).map (fun e => e.2.2)
def am_ie (o idx kind ci : Nat) : Option (Nat × Nat) := ((am_ti o).find? (fun e => e.1 == idx && (e.2.1 == kind && e.2.2.1 == ci))).map (fun e => e.2.2.2)
/-- the place of a link's arguments: any row of it -/
def am_in (o idx : Nat) : Option (Nat × Nat) := ((am_ti o).find? (fun e => e.1 == idx)).map (fun e => (e.2.1, e.2.2.2.2))
def am_gF (h : am_H) (a o idx : Nat) : Option Value := match h a with
  | some (.inr (ci, fs)) => (match am_fk o idx ci with | some k => fs[k]? | none => none)
  | _ => none
/-- may field k of class ci be written with v in class o (in a constructor: isI) -/
def am_okv (ty : FieldType) (v : Value) : Bool := decide (narrow ty v = v) && fits ty v
def am_pF (h : am_H) (a o idx : Nat) (isI : Bool) (v : Value) : Option am_H := match h a with
  | some (.inr (ci, fs)) => (match am_fe o idx ci with
    | some e => if (e.2.2.2 = 1 ∧ (am_ft ci e.2.2.1).2.2.2 = false ∨ e.2.2.2 = 0 ∧ ((am_ft ci e.2.2.1).2.2.2 = false ∨ isI = true ∧ (am_ft ci e.2.2.1).1 = am_nm o)) ∧ am_okv (am_ty ci e.2.2.1) v = true ∧ e.2.2.1 < fs.length then some (am_up h a (.inr (ci, fs.set e.2.2.1 v))) else none
    | none => none)
  | _ => none
def am_def (ci N : Nat) : List Value := (List.range N).map (fun k => defaultValue (am_ty ci k))
def am_wd (S : List Value) : Nat := (S.map fun v => v.category).sum
/-- catching: the handler, or none there, or not known -/
def am_hl (o pc E : Nat) : List (Nat × Nat × Nat × Nat) → Option (Option Nat)
  | [] => some none
  | (s, e, h, c) :: r => if s ≤ pc ∧ pc < e then (match am_ce o c 0 with
      | some ci => if ci = E ∧ (E = 5 ∨ E = 14 ∨ E = 15) ∧ c ≠ 0 then some (some h) else if (ci = 14 ∧ E = 15) ∧ c ≠ 0 then am_hl o pc E r else none
      | none => none) else am_hl o pc E r
def am_thr (mi : am_Mi) (pc : Nat) (L : am_L) (E a : Nat) (σ : am_S) : Option (am_F ⊕ am_O) := match am_hl mi.2.1.1 pc E mi.2.2.2 with
  | some (some t) => some (.inl ((t, L, [.ref a]), σ))
  | some none => some (.inr (.inr (E, a), σ))
  | none => none
def am_cal (mi : am_Mi) (pc len : Nat) (L : am_L) (rest : List Value) (o : Option am_O) : Option (am_F ⊕ am_O) := match o with
  | some (.inl v, σ) => some (.inl ((pc + len, L, v.toList ++ rest), σ))
  | some (.inr (E, a), σ) => am_thr mi pc L E a σ
  | none => none
/-- System.arraycopy -/
def am_cpq (b0 : Nat) (h : am_H) (a0 : Nat) (sp : Int32) (a : Nat) (dp n : Int32) : Option am_H := match h a0, h a with
  | some (.inl (4, n0, .inr (.inr (.inr (.inr f))))), some (.inl (4, n1, .inr (.inr (.inr (.inr g))))) => if ¬ sp < 0 ∧ ¬ dp < 0 ∧ ¬ n < 0 ∧ sp.toNatClampNeg + n.toNatClampNeg ≤ n0 ∧ dp.toNatClampNeg + n.toNatClampNeg ≤ n1 ∧ b0 ≤ a ∧ ((List.range n.toNatClampNeg).all (fun i => am_aso b0 4 h (f (sp.toNatClampNeg + i))) = true)
      then some (am_up h a (.inl (4, n1, .inr (.inr (.inr (.inr (va_cpy f g sp.toNatClampNeg dp.toNatClampNeg n.toNatClampNeg))))))) else none
  | some (.inl (1, n0, .inl f)), some (.inl (1, n1, .inl g)) => if ¬ sp < 0 ∧ ¬ dp < 0 ∧ ¬ n < 0 ∧ sp.toNatClampNeg + n.toNatClampNeg ≤ n0 ∧ dp.toNatClampNeg + n.toNatClampNeg ≤ n1 ∧ b0 ≤ a ∧ ((List.range n.toNatClampNeg).all (fun i => fits .byte (.int (f (sp.toNatClampNeg + i)))) = true)
      then some (am_up h a (.inl (1, n1, .inl (va_cpy f g sp.toNatClampNeg dp.toNatClampNeg n.toNatClampNeg)))) else none
  | _, _ => none
def am_stc (b0 : Nat) (d : Nat) (call : Nat → List Value → am_S → Option am_O) (mi : am_Mi) (idx pc : Nat) (L : am_L) (S : List Value) (σ : am_S) : Option (am_F ⊕ am_O) :=
  match (am_mx.find? (fun e => e.1 == mi.2.1.1 && e.2.1 == idx)).map (fun e => e.2.2) with
  | some q => (match S with
    | .int y :: .int x :: S' => if 1 ≤ d ∧ am_wd S' ≤ 8 then some (.inl ((pc + 3, L, .int (if q = 0 then (if x < y then y else x) else (if y < x then y else x)) :: S'), σ)) else none
    | _ => none)
  | none => if (mi.2.1.1 = 22 ∧ idx = 150) ∨ (mi.2.1.1 = 12 ∧ idx = 112) then (match S with
      | .int n :: .int dp :: .ref a :: .int sp :: .ref a0 :: S' => if 1 ≤ d ∧ am_wd S' ≤ 8 then (match am_cpq b0 σ.1 a0 sp a dp n with
        | some h => some (.inl ((pc + 3, L, S'), h, σ.2))
        | none => none) else none
      | _ => none)
    else (match am_in mi.2.1.1 idx with
      | some (k, na) => if (k = 0 ∨ k = 6) ∧ na ≤ S.length ∧ am_wd (S.drop na) ≤ 8 then (match am_ie mi.2.1.1 idx k 99 with
        | some (M, na') => if na' = na then am_cal mi pc 3 L (S.drop na) (call M (S.take na).reverse σ) else none
        | none => none) else none
      | none => none)
def am_vrt (d : Nat) (Γ : Nat → Value) (call : Nat → List Value → am_S → Option am_O) (mi : am_Mi) (idx pc : Nat) (L : am_L) (S : List Value) (σ : am_S) : Option (am_F ⊕ am_O) :=
  if mi.2.1.1 = 22 ∧ idx = 86 then (match S with
    | .ref a :: S' => (match σ.1 a with
      | some (.inl (4, _)) => if 1 ≤ d ∧ am_wd S' ≤ 8 then some (.inl ((pc + 3, L, Γ 21 :: S'), σ)) else none
      | _ => none)
    | _ => none)
  else match am_in mi.2.1.1 idx with
  | some (k, na) => (match S.drop na with
    | .ref b :: rest => if (k = 1 ∨ k = 4) ∧ am_wd rest ≤ 8 then (match am_ck σ.1 b with
      | some ci => (match am_ie mi.2.1.1 idx k ci with
        | some (M, na') => if na' = na then am_cal mi pc 3 L rest (call M (.ref b :: (S.take na).reverse) σ) else none
        | none => none)
      | none => none) else none
    | _ => none)
  | none => none
def am_ifc (d : Nat) (Γ : Nat → Value) (call : Nat → List Value → am_S → Option am_O) (mi : am_Mi) (idx pc : Nat) (L : am_L) (S : List Value) (σ : am_S) : Option (am_F ⊕ am_O) :=
  if mi.2.1.1 = 12 ∧ idx = 52 then (match S with
    | .ref a :: S' => (match am_ck σ.1 a with
      | some 12 => if 1 ≤ d ∧ am_wd S' ≤ 8 then some (.inl ((pc + 5, L, Γ 20 :: S'), σ)) else none
      | _ => none)
    | _ => none)
  else match am_in mi.2.1.1 idx with
  | some (k, na) => (match S.drop na with
    | .ref b :: rest => if k = 3 ∧ am_wd rest ≤ 8 then (match am_ck σ.1 b with
      | some ci => if ci < 16 then (match am_ie mi.2.1.1 idx 3 ci with
        | some (M, na') => if na' = na then am_cal mi pc 5 L rest (call M (.ref b :: (S.take na).reverse) σ) else none
        | none => none) else none
      | none => none) else none
    | _ => none)
  | none => none
def am_spc (d : Nat) (call : Nat → List Value → am_S → Option am_O) (mi : am_Mi) (idx pc : Nat) (L : am_L) (S : List Value) (σ : am_S) : Option (am_F ⊕ am_O) :=
  if (mi.2.1.1, idx) ∈ am_objI then (match S with
    | .ref _ :: S' => if 1 ≤ d ∧ am_wd S' ≤ 8 then some (.inl ((pc + 3, L, S'), σ)) else none
    | _ => none)
  else match am_in mi.2.1.1 idx with
  | some (k, na) => (match S.drop na with
    | .ref b :: rest => if (k = 2 ∨ k = 5 ∨ k = 7) ∧ am_wd rest ≤ 8 then (match am_ck σ.1 b with
      | some ci => if ci < 16 then (match (am_ti mi.2.1.1).find? (fun e => e.1 == idx) with
        | some e => am_cal mi pc 3 L rest (call e.2.2.2.1 (.ref b :: (S.take na).reverse) σ)
        | none => none) else none
      | none => none) else none
    | _ => none)
  | none => none
def am_ldc (Γ : Nat → Value) (o idx : Nat) : Option Value := match am_str.findIdx? (fun e => e.1 == o && e.2.1 == idx) with
  | some j => some (Γ (100 + j))
  | none => (match am_con.find? (fun e => e.1 == o && e.2.1 == idx) with
    | some e => some (.int e.2.2)
    | none => if o = 12 ∧ idx = 10 then some (Γ 20) else if (o = 12 ∧ idx = 56) ∨ (o = 22 ∧ idx = 110) then some (Γ 21) else none)
def am_new (d : Nat) (mi : am_Mi) (idx pc : Nat) (L : am_L) (S : List Value) (σ : am_S) : Option (am_F ⊕ am_O) := match am_ce mi.2.1.1 idx 0 with
  | some ci => if ci < 14 then (match am_cl[ci]? with
      | some r => some (.inl ((pc + 3, L, .ref σ.2.1 :: S), am_up σ.1 σ.2.1 (.inr (ci, am_def ci r.2.2)), σ.2.1 + 1, σ.2.2 + r.2.2))
      | none => none)
    else if ((ci = 14 ∧ mi.2.1.1 = 0 ∧ idx = 1) ∨ (ci = 15 ∧ mi.2.1.1 = 0 ∧ idx = 7)) ∧ 8 ≤ d ∧ am_wd S ≤ 8 ∧ decode mi.1.2 (pc + 3) = .ok (.dup, 1) ∧ decode mi.1.2 (pc + 4) = .ok (.invokespecial (if ci = 14 then 3 else 9), 3) then
      some (.inl ((pc + 7, L, .ref σ.2.1 :: S), am_up σ.1 σ.2.1 (.inr (ci, [])), σ.2.1 + 1, σ.2.2 + 6))
    else none
  | none => none
def am_nar (pc : Nat) (L : am_L) (S : List Value) (σ : am_S) (t w : Nat) (z : (Nat → Int32) ⊕ (Nat → Int64) ⊕ (Nat → UInt32) ⊕ (Nat → UInt64) ⊕ (Nat → Option Nat)) : Option (am_F ⊕ am_O) := match S with
  | .int n :: S' => if n < 0 ∨ 536870912 < n.toNatClampNeg * 8 then none else some (.inl ((pc + w, L, .ref σ.2.1 :: S'), am_up σ.1 σ.2.1 (.inl (t, n.toNatClampNeg, z)), σ.2.1 + 1, σ.2.2 + n.toNatClampNeg))
  | _ => none
def am_cst (b0 : Nat) (mi : am_Mi) (idx pc : Nat) (L : am_L) (S : List Value) (σ : am_S) : Option (am_F ⊕ am_O) := match S with
  | .null :: _ => some (.inl ((pc + 3, L, S), σ))
  | .ref a :: _ => (match σ.1 a with
    | some (.inr (ci, _)) => if am_ce mi.2.1.1 idx 0 = some ci ∨ (am_ce mi.2.1.1 idx 3 = some 0 ∧ (ci = 8 ∨ ci = 9 ∨ ci = 10 ∨ ci = 11)) then some (.inl ((pc + 3, L, S), σ)) else none
    | some (.inl (t, _)) => if am_ce mi.2.1.1 idx 2 = some t ∧ b0 ≤ a then some (.inl ((pc + 3, L, S), σ)) else none
    | none => none)
  | _ => none
def am_tab (b0 d : Nat) (Γ : Nat → Value) (call : Nat → List Value → am_S → Option am_O) (mi : am_Mi) (i : Instr) (len pc : Nat) (L : am_L) (S : List Value) (σ : am_S) : Option (am_F ⊕ am_O) := match i with
  | .getfield idx => am_g len 3 (match S with
    | .ref a :: S' => (match am_gF σ.1 a mi.2.1.1 idx with | some v => some (.inl ((pc + 3, L, v :: S'), σ)) | none => none)
    | _ => none)
  | .putfield idx => am_g len 3 (match S with
    | v :: .ref a :: S' => if b0 ≤ a then (match am_pF σ.1 a mi.2.1.1 idx (mi.1.1.name == "<init>") v with | some h => some (.inl ((pc + 3, L, S'), h, σ.2)) | none => none) else none
    | _ => none)
  | .getstatic idx => am_g len 3 (match (am_ts mi.2.1.1).find? (fun e => e.1 == idx) with | some e => some (.inl ((pc + 3, L, Γ e.2 :: S), σ)) | none => none)
  | .ldc idx => am_g len 2 (match am_ldc Γ mi.2.1.1 idx with | some v => some (.inl ((pc + 2, L, v :: S), σ)) | none => none)
  | .ldc_w idx => am_g len 3 (if (mi.2.1.1 = 12 ∧ (idx = 10 ∨ idx = 56)) ∨ (mi.2.1.1 = 22 ∧ idx = 110) then none else match am_ldc Γ mi.2.1.1 idx with | some v => some (.inl ((pc + 3, L, v :: S), σ)) | none => none)
  | .ldc2_w idx => am_g len 3 (match am_conL.find? (fun e => e.1 == mi.2.1.1 && e.2.1 == idx) with | some e => some (.inl ((pc + 3, L, .long e.2.2 :: S), σ)) | none => none)
  | .new idx => am_g len 3 (am_new d mi idx pc L S σ)
  | .newarray t => am_g len 2 (match t with
    | .int => am_nar pc L S σ 0 2 (.inl fun _ => 0)
    | .byte => am_nar pc L S σ 1 2 (.inl fun _ => 0)
    | .boolean => am_nar pc L S σ 2 2 (.inl fun _ => 0)
    | .long => am_nar pc L S σ 3 2 (.inr (.inl fun _ => 0))
    | _ => none)
  | .anewarray idx => am_g len 3 (match am_ce mi.2.1.1 idx 1 with | some t => am_nar pc L S σ t 3 (.inr (.inr (.inr (.inr fun _ => none)))) | none => none)
  | .checkcast idx => am_g len 3 (am_cst b0 mi idx pc L S σ)
  | .invokestatic idx => am_g len 3 (am_stc b0 d call mi idx pc L S σ)
  | .invokevirtual idx => am_g len 3 (am_vrt d Γ call mi idx pc L S σ)
  | .invokespecial idx => am_g len 3 (am_spc d call mi idx pc L S σ)
  | .invokeinterface idx _ => am_g len 5 (am_ifc d Γ call mi idx pc L S σ)
  | .return_ => am_g len 1 (match S with
    | [] => if mi.2.2.1 = none then some (.inr (.inl none, σ)) else none
    | _ => none)
  | .ireturn => am_g len 1 (match S with
    | [.int v] => (match mi.2.2.1 with | some ty => if narrow ty (.int v) = .int v then some (.inr (.inl (some (.int v)), σ)) else none | none => none)
    | _ => none)
  | .lreturn => am_g len 1 (match S with
    | [.long v] => if mi.2.2.1 = some .long then some (.inr (.inl (some (.long v)), σ)) else none
    | _ => none)
  | .areturn => am_g len 1 (match S with
    | [v] => if am_isA v = true then (match mi.2.2.1 with | some (.object _) => some (.inr (.inl (some v), σ)) | some (.array _) => some (.inr (.inl (some v), σ)) | _ => none) else none
    | _ => none)
  | .athrow => am_g len 1 (match S with
    | .ref a :: _ => if b0 ≤ a then (match am_ck σ.1 a with | some E => am_thr mi pc L E a σ | none => none) else none
    | _ => none)
  | _ => none
def am_step (b0 d : Nat) (Γ : Nat → Value) (call : Nat → List Value → am_S → Option am_O) (mi : am_Mi) (f : am_F) : Option (am_F ⊕ am_O) := match decode mi.1.2 f.1.1 with
  | .ok (i, len) => (match am_pure i len f.1.1 f.1.2.1 f.1.2.2 with
    | some q => some (.inl (q, f.2))
    | none => (match am_arr b0 i len f.1.1 f.1.2.1 f.1.2.2 f.2 with
      | some f' => some (.inl f')
      | none => am_tab b0 d Γ call mi i len f.1.1 f.1.2.1 f.1.2.2 f.2))
  | .error _ => none
def am_run (b0 d : Nat) (Γ : Nat → Value) (call : Nat → List Value → am_S → Option am_O) (mi : am_Mi) : Nat → am_F → Option am_O
  | 0, _ => none
  | n + 1, f => match am_step b0 d Γ call mi f with
    | some (.inl f') => am_run b0 d Γ call mi n f'
    | some (.inr o) => some o
    | none => none
theorem am_run_s {b0 d : Nat} {Γ : Nat → Value} {call : Nat → List Value → am_S → Option am_O} {mi : am_Mi} (n : Nat) (f : am_F) : am_run b0 d Γ call mi (n + 1) f = (match am_step b0 d Γ call mi f with
    | some (.inl f') => am_run b0 d Γ call mi n f'
    | some (.inr o) => some o
    | none => none) := rfl
theorem am_run_mono {b0 d : Nat} {Γ : Nat → Value} {call : Nat → List Value → am_S → Option am_O} {mi : am_Mi} : ∀ (n : Nat) (f : am_F) (o : am_O), am_run b0 d Γ call mi n f = some o → am_run b0 d Γ call mi (n + 1) f = some o := by
  intro n
  induction n with
  | zero => intro f o h; cases h
  | succ n ih =>
    intro f o h
    rw [am_run_s] at h
    rw [am_run_s]
    cases hst : am_step b0 d Γ call mi f with
    | none => rw [hst] at h; cases h
    | some x =>
      rw [hst] at h
      cases x with
      | inl f' => exact ih _ _ h
      | inr o' => exact h
theorem am_run_le {b0 d : Nat} {Γ : Nat → Value} {call : Nat → List Value → am_S → Option am_O} {mi : am_Mi} {n m : Nat} {f : am_F} {o : am_O} (hnm : n ≤ m) (h : am_run b0 d Γ call mi n f = some o) : am_run b0 d Γ call mi m f = some o := by
  induction hnm with
  | refl => exact h
  | step _ ih => exact am_run_mono _ _ _ ih
/-- the run without fuel -/
noncomputable def am_R (b0 d : Nat) (Γ : Nat → Value) (call : Nat → List Value → am_S → Option am_O) (mi : am_Mi) (f : am_F) : Option am_O := @dite _ (∃ o n, am_run b0 d Γ call mi n f = some o) (Classical.propDecidable _) (fun h => some (Classical.choose h)) (fun _ => none)
theorem am_R_iff {b0 d : Nat} {Γ : Nat → Value} {call : Nat → List Value → am_S → Option am_O} {mi : am_Mi} {f : am_F} {o : am_O} : am_R b0 d Γ call mi f = some o ↔ ∃ n, am_run b0 d Γ call mi n f = some o := by
  constructor
  · intro h
    unfold am_R at h
    split at h
    · rename_i q
      cases h
      exact Classical.choose_spec q
    · cases h
  · rintro ⟨n, h⟩
    unfold am_R
    have q : ∃ o n, am_run b0 d Γ call mi n f = some o := ⟨o, n, h⟩
    rw [dif_pos q]
    obtain ⟨m, hm⟩ := Classical.choose_spec q
    have h1 := am_run_le (Nat.le_max_left n m) h
    have h2 := am_run_le (Nat.le_max_right n m) hm
    rw [h1] at h2
    exact h2.symm
theorem am_R_step {b0 d : Nat} {Γ : Nat → Value} {call : Nat → List Value → am_S → Option am_O} {mi : am_Mi} (f : am_F) : am_R b0 d Γ call mi f = (match am_step b0 d Γ call mi f with
    | some (.inl f') => am_R b0 d Γ call mi f'
    | some (.inr o) => some o
    | none => none) := by
  have key : ∀ o, am_R b0 d Γ call mi f = some o ↔ (match am_step b0 d Γ call mi f with
    | some (.inl f') => am_R b0 d Γ call mi f'
    | some (.inr o) => some o
    | none => none) = some o := by
    intro o
    rw [am_R_iff]
    cases hst : am_step b0 d Γ call mi f with
    | none =>
      constructor
      · rintro ⟨n, h⟩
        cases n with
        | zero => cases h
        | succ n => rw [am_run_s, hst] at h; cases h
      · intro h; cases h
    | some x =>
      cases x with
      | inl f' =>
        constructor
        · rintro ⟨n, h⟩
          cases n with
          | zero => cases h
          | succ n => rw [am_run_s, hst] at h; exact am_R_iff.mpr ⟨n, h⟩
        · intro h
          obtain ⟨n, hn⟩ := am_R_iff.mp h
          exact ⟨n + 1, by rw [am_run_s, hst]; exact hn⟩
      | inr o' =>
        constructor
        · rintro ⟨n, h⟩
          cases n with
          | zero => cases h
          | succ n => rw [am_run_s, hst] at h; exact h
        · intro h
          exact ⟨1, by rw [am_run_s, hst]; exact h⟩
  cases h1 : am_R b0 d Γ call mi f with
  | some o => exact ((key o).mp h1).symm
  | none =>
    cases h2 : (match am_step b0 d Γ call mi f with
    | some (.inl f') => am_R b0 d Γ call mi f'
    | some (.inr o) => some o
    | none => none) with
    | none => rfl
    | some o => rw [(key o).mpr h2] at h1; cases h1
/-- the arguments as locals -/
def am_ent : List Value → am_L
  | [] => []
  | v :: r => if v.category = 2 then some v :: none :: am_ent r else some v :: am_ent r
noncomputable def am_C (b0 : Nat) (Γ : Nat → Value) : Nat → Nat → List Value → am_S → Option am_O
  | 0, _, _, _ => none
  | d + 1, M, args, σ => match am_mt M with
    | some mi => if (am_ent args).length ≤ mi.2.1.2 then am_R b0 d Γ (am_C b0 Γ d) mi ((0, am_ent args ++ List.replicate (mi.2.1.2 - (am_ent args).length) none, []), σ) else none
    | none => none
