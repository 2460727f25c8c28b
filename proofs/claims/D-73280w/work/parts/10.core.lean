/-! THE SMALL MACHINE: cells, frames, one step, a run; no program in sight but for its tables, which are arguments of class jm_T (one tuple). -/
abbrev jm_C : Type := (Nat × (Nat → Value)) ⊕ (Nat × vp_A)
abbrev jm_G : Type := (Nat → Option jm_C) × (Nat → Value)
abbrev jm_H : Type := (Nat → Option jm_C) × Nat × Nat
abbrev jm_L : Type := List (Option Value)
abbrev jm_N : Type := Nat × jm_L × List Value × jm_H
abbrev jm_A : Type := jm_N ⊕ ((Nat × List Value) × jm_N) ⊕ (Option Value × jm_H) ⊕ (Nat × jm_H)
abbrev jm_R : Type := (Option Value ⊕ Nat) × jm_H
def jm_look (G : jm_G) (h : jm_H) (a : Nat) : Option jm_C := match h.1 a with
  | some c => some c
  | none => G.1 a
def jm_upd (h : jm_H) (a : Nat) (c : jm_C) : jm_H := (fun b => if b = a then some c else h.1 b, h.2)
def jm_alloc (h : jm_H) (c : jm_C) (n : Nat) : jm_H := (fun b => if b = h.2.1 then some c else h.1 b, h.2.1 + 1, h.2.2 + n + 1)
def jm_kd (c : jm_C) : Nat := match c with
  | .inl o => 2 * o.1
  | .inr x => 2 * x.1 + 1
def jm_get (L : jm_L) (i : Nat) : Option Value := match L[i]? with
  | some (some v) => some v
  | _ => none
def jm_n1 (o : Option Value) : Option Value := match o with
  | some (.long _) => none
  | some (.double _) => none
  | o => o
def jm_st1 : jm_L → Nat → Value → jm_L
  | [], _, _ => []
  | _ :: r, 0, v => some v :: r
  | o :: r, 1, v => jm_n1 o :: jm_st1 r 0 v
  | o :: r, n + 2, v => o :: jm_st1 r (n + 1) v
def jm_st2 : jm_L → Nat → Value → jm_L
  | _ :: _ :: r, 0, v => some v :: none :: r
  | o :: r, 1, v => jm_n1 o :: jm_st2 r 0 v
  | o :: r, n + 2, v => o :: jm_st2 r (n + 1) v
  | _, _, _ => []
/-- the arguments in the locals -/
def jm_sl : List Value → jm_L
  | [] => []
  | .long x :: r => some (.long x) :: none :: jm_sl r
  | .double x :: r => some (.double x) :: none :: jm_sl r
  | v :: r => some v :: jm_sl r
def jm_args (n : Nat) (as : List Value) : jm_L := jm_sl as ++ List.replicate (n - (jm_sl as).length) none
def jm_nx (pc : Nat) (L : jm_L) (st : List Value) (h : jm_H) : Option jm_A := some (.inl (pc, L, st, h))
def jm_br (pc : Nat) (off : Int) (L : jm_L) (st : List Value) (h : jm_H) : Option jm_A := match (pc : Int) + off with
  | .ofNat t => jm_nx t L st h
  | _ => none
/-- a branch, taken or not: its aim must be a place -/
def jm_cbr (b : Bool) (pc nxt : Nat) (off : Int) (L : jm_L) (st : List Value) (h : jm_H) : Option jm_A := match (pc : Int) + off with
  | .ofNat t => if b = true then jm_nx t L st h else jm_nx nxt L st h
  | _ => none
/-- the value of field k of an object of class ci -/
def jm_gf (G : jm_G) (h : jm_H) (a : Nat) (fl : List (Nat × Nat)) : Option Value := match jm_look G h a with
  | some (.inl o) => match fl.lookup o.1 with
    | some k => some (o.2 k)
    | none => none
  | _ => none
def jm_pf (h : jm_H) (a : Nat) (fl : List (Nat × Nat)) (v : Value) (ok : Nat → Nat → Value → Bool) : Option jm_H := match h.1 a with
  | some (.inl o) => match fl.lookup o.1 with
    | some k => if ok o.1 k v = true then some (jm_upd h a (.inl (o.1, fun j => if j = k then v else o.2 j))) else none
    | none => none
  | _ => none
/-- arrays: of ints (of any small kind), longs, references -/
def jm_inb (i : Int32) (n : Nat) : Bool := decide (0 ≤ i.toInt) && decide (i.toInt < n)
def jm_ai (G : jm_G) (h : jm_H) (a : Nat) (ts : List Nat) (i : Int32) : Option Int32 := match jm_look G h a with
  | some (.inr (t, n, .inl f)) => if ts.contains t = true then (if jm_inb i n = true then some (f i.toInt.toNat) else none) else none
  | _ => none
def jm_aj (G : jm_G) (h : jm_H) (a : Nat) (ts : List Nat) (i : Int32) : Option Int64 := match jm_look G h a with
  | some (.inr (t, n, .inr (.inl f))) => if ts.contains t = true then (if jm_inb i n = true then some (f i.toInt.toNat) else none) else none
  | _ => none
def jm_aq (G : jm_G) (h : jm_H) (a : Nat) (i : Int32) : Option Value := match jm_look G h a with
  | some (.inr (t, n, .inr (.inr (.inr (.inr f))))) => if (jm_inb i n && Nat.ble 5 t) = true then some (va_rf (f i.toInt.toNat)) else none
  | _ => none
def jm_up {α : Type} (f : Nat → α) (k : Nat) (v : α) : Nat → α := fun j => if j = k then v else f j
/-- a store into an array of ints: the kinds and what is kept of a number -/
def jm_si (h : jm_H) (a : Nat) (ts : List (Nat × FieldType)) (i x : Int32) : Option jm_H := match h.1 a with
  | some (.inr (t, n, .inl f)) => match ts.lookup t with
    | some ty => if jm_inb i n = true then some (jm_upd h a (.inr (t, n, .inl (jm_up f i.toInt.toNat (vp_nar ty x))))) else none
    | none => none
  | _ => none
def jm_sj (h : jm_H) (a : Nat) (ts : List Nat) (i : Int32) (x : Int64) : Option jm_H := match h.1 a with
  | some (.inr (t, n, .inr (.inl f))) => if ts.contains t = true then (if jm_inb i n = true then some (jm_upd h a (.inr (t, n, .inr (.inl (jm_up f i.toInt.toNat x))))) else none) else none
  | _ => none
def jm_sq (G : jm_G) (h : jm_H) (a : Nat) (ok : Nat → Nat → Bool) (i : Int32) (v : Value) : Option jm_H := match h.1 a with
  | some (.inr (t, n, .inr (.inr (.inr (.inr f))))) => if jm_inb i n = true then (match v with
      | .null => if ok t 0 = true then some (jm_upd h a (.inr (t, n, .inr (.inr (.inr (.inr (jm_up f i.toInt.toNat none))))))) else none
      | .ref b => match jm_look G h b with
        | some c => if ok t (jm_kd c + 1) = true then some (jm_upd h a (.inr (t, n, .inr (.inr (.inr (.inr (jm_up f i.toInt.toNat (some b)))))))) else none
        | none => none
      | _ => none) else none
  | _ => none
def jm_len (G : jm_G) (h : jm_H) (a : Nat) : Option Int32 := match jm_look G h a with
  | some (.inr x) => some (Int32.ofNat x.2.1)
  | _ => none
/-- an array of n zeroes -/
def jm_zero (ty : FieldType) (n : Nat) : Option vp_A := match ty with
  | .int => some (n, .inl (fun _ => 0))
  | .byte => some (n, .inl (fun _ => 0))
  | .char => some (n, .inl (fun _ => 0))
  | .boolean => some (n, .inl (fun _ => 0))
  | .long => some (n, .inr (.inl (fun _ => 0)))
  | _ => none
/-- rows of an array of arrays -/
def jm_rows (q ti k : Nat) (g : Nat → Option jm_C) (n : Nat) : Nat → Option jm_C := fun b => if q ≤ b ∧ b < q + n then some (.inr (ti, k, .inl (fun _ => 0))) else g b
def jm_multi (h : jm_H) (to ti n k : Nat) : jm_H := (fun b => if b = h.2.1 then some (.inr (to, n, .inr (.inr (.inr (.inr (fun j => if j < n then some (h.2.1 + 1 + j) else none)))))) else jm_rows (h.2.1 + 1) ti k h.1 n b, h.2.1 + 1 + n, h.2.2 + 1 + n + n + n * k)
/-- what lies between s and s + n of one goes to d of the other -/
def jm_cpy {α : Type} (f g : Nat → α) (s d n : Nat) : Nat → α := fun j => if d ≤ j ∧ j < d + n then f (s + (j - d)) else g j
def jm_okv (ok : Nat → Nat → Bool) (G : jm_G) (h : jm_H) (t : Nat) (y : Option Nat) : Bool := match y with
  | none => true
  | some b => match jm_look G h b with
    | some c => ok t (jm_kd c + 1)
    | none => false
def jm_copy (ok : Nat → Nat → Bool) (G : jm_G) (h : jm_H) (a : Nat) (s : Int32) (b : Nat) (d n : Int32) : Option jm_H := match jm_look G h a, h.1 b with
  | some (.inr (t, N, .inl f)), some (.inr (u, M, .inl g)) => if (t == 1) = true ∧ t = u ∧ 0 ≤ s.toInt ∧ 0 ≤ d.toInt ∧ 0 ≤ n.toInt ∧ s.toInt + n.toInt ≤ N ∧ d.toInt + n.toInt ≤ M ∧ (∀ i, i < n.toInt.toNat → fits .byte (.int (f (s.toInt.toNat + i))) = true) then some (jm_upd h b (.inr (u, M, .inl (jm_cpy f g s.toInt.toNat d.toInt.toNat n.toInt.toNat)))) else none
  | some (.inr (t, N, .inr (.inr (.inr (.inr f))))), some (.inr (u, M, .inr (.inr (.inr (.inr g))))) => if (t == 5) = true ∧ t = u ∧ 0 ≤ s.toInt ∧ 0 ≤ d.toInt ∧ 0 ≤ n.toInt ∧ s.toInt + n.toInt ≤ N ∧ d.toInt + n.toInt ≤ M ∧ (∀ i, i < n.toInt.toNat → jm_okv ok G h u (f (s.toInt.toNat + i)) = true) then some (jm_upd h b (.inr (u, M, .inr (.inr (.inr (.inr (jm_cpy f g s.toInt.toNat d.toInt.toNat n.toInt.toNat))))))) else none
  | _, _ => none
def jm_fit (ty : FieldType) (v : Value) : Bool := match ty, v with
  | .int, .int _ => true
  | .long, .long _ => true
  | .boolean, .int x => x == 0 || x == 1
  | .byte, .int x => vp_nar .byte x == x && fits .byte (.int x)
  | .char, .int x => vp_nar .char x == x && fits .char (.int x)
  | .float, .float b => decide (b &&& 0x7fffffff ≤ 0x7f800000)
  | .object _, .ref _ => true
  | .object _, .null => true
  | .array _, .ref _ => true
  | .array _, .null => true
  | _, _ => false
def jm_pop (n : Nat) (st : List Value) : Option (List Value × List Value) := if n ≤ st.length ∧ (st.drop n).length ≤ 4 then some ((st.take n).reverse, st.drop n) else none
def jm_cal (mi : Nat) (as : List Value) (pc : Nat) (L : jm_L) (st : List Value) (h : jm_H) : Option jm_A := some (.inr (.inl ((mi, as), (pc, L, st, h))))
def jm_gee (v : Value) : Option Nat := match v with
  | .ref a => some a
  | _ => none
/-- a call: what kind, how many arguments, where to -/
def jm_do (oks : List Nat) (ok : Nat → Nat → Bool) (G : jm_G) (k n : Nat) (tg : List (Nat × Nat)) (pc' : Nat) (L : jm_L) (st : List Value) (h : jm_H) : Option jm_A :=
  if oks.contains k = true then (match jm_pop n st with
  | none => none
  | some (as, r) => match k with
    | 0 => match tg with
      | (_, mi) :: _ => jm_cal mi as pc' L r h
      | [] => none
    | 1 => match r with
      | .ref a :: r' => match jm_look G h a with
        | some (.inl _) => match tg with
          | (_, mi) :: _ => jm_cal mi (.ref a :: as) pc' L r' h
          | [] => none
        | _ => none
      | _ => none
    | 2 => match r with
      | .ref _ :: r' => jm_nx pc' L r' h
      | _ => none
    | 3 => match r with
      | .ref a :: r' => match jm_look G h a with
        | some (.inl o) => match tg.lookup o.1 with
          | some mi => jm_cal mi (.ref a :: as) pc' L r' h
          | none => none
        | _ => none
      | _ => none
    | 4 => match as with
      | [.ref a, .int s, .ref b, .int d, .int n] => match jm_copy ok G h a s b d n with
        | some h' => jm_nx pc' L r h'
        | none => none
      | _ => none
    | 5 => match r with
      | .ref a :: r' => match jm_look G h a with
        | some (.inr x) => match tg.lookup x.1 with
          | some q => jm_nx pc' L (G.2 q :: r') h
          | none => none
        | _ => none
      | _ => none
    | 6 => match r with
      | .ref a :: r' => match jm_look G h a with
        | some (.inl o) => match tg.lookup o.1 with
          | some mi => jm_cal mi (.ref a :: as) pc' L r' h
          | none => none
        | _ => none
      | _ => none
    | _ => none) else none
def jm_cast (G : jm_G) (h : jm_H) (v : Value) (ks : List Nat) : Bool := match v with
  | .null => true
  | .ref a => match jm_look G h a with
    | some c => ks.contains (jm_kd c)
    | none => false
  | _ => false
def jm_inst (G : jm_G) (h : jm_H) (v : Value) (ks : List (Nat × Bool)) : Option Int32 := match v with
  | .null => some 0
  | .ref a => match jm_look G h a with
    | some c => match ks.lookup (jm_kd c) with
      | some true => some 1
      | some false => some 0
      | none => none
    | none => none
  | _ => none
def jm_newc (h : jm_H) (ci N : Nat) (ty : Nat → FieldType) : jm_H := jm_alloc h (.inl (ci, fun k => defaultValue (ty k))) N
def jm_int1 (st : List Value) (f : Int32 → Value) (pc : Nat) (L : jm_L) (h : jm_H) : Option jm_A := match st with
  | .int x :: r => jm_nx pc L (f x :: r) h
  | _ => none
def jm_int2 (st : List Value) (f : Int32 → Int32 → Int32) (pc : Nat) (L : jm_L) (h : jm_H) : Option jm_A := match st with
  | .int y :: .int x :: r => jm_nx pc L (.int (f x y) :: r) h
  | _ => none
def jm_lng2 (st : List Value) (f : Int64 → Int64 → Int64) (pc : Nat) (L : jm_L) (h : jm_H) : Option jm_A := match st with
  | .long y :: .long x :: r => jm_nx pc L (.long (f x y) :: r) h
  | _ => none
def jm_cnd (c : Jvm.ClassFile.Cond) (x y : Int32) : Bool := match c with
  | .eq => decide (x = y)
  | .ne => !decide (x = y)
  | .lt => decide (x < y)
  | .ge => decide (y ≤ x)
  | .gt => decide (y < x)
  | .le => decide (x ≤ y)
def jm_fnx (ok : Bool) (pc : Nat) (L : jm_L) (st : List Value) (h : jm_H) : Option jm_A := if ok = true then jm_nx pc L st h else none
def jm_ld (L : jm_L) (i : Nat) (ok : Value → Bool) (pc : Nat) (st : List Value) (h : jm_H) : Option jm_A := match jm_get L i with
  | some v => if ok v = true then jm_nx pc L (v :: st) h else none
  | none => none
def jm_isI (v : Value) : Bool := match v with | .int _ => true | _ => false
def jm_isJ (v : Value) : Bool := match v with | .long _ => true | _ => false
def jm_isF (v : Value) : Bool := match v with | .float _ => true | _ => false
def jm_isA (v : Value) : Bool := match v with | .ref _ => true | .null => true | _ => false
def jm_sto (L : jm_L) (i : Nat) (ok : Value → Bool) (pc : Nat) (st : List Value) (h : jm_H) : Option jm_A := match st with
  | v :: r => if ok v = true ∧ i < L.length then jm_nx pc (jm_st1 L i v) r h else none
  | [] => none
def jm_stoJ (L : jm_L) (i : Nat) (pc : Nat) (st : List Value) (h : jm_H) : Option jm_A := match st with
  | .long x :: r => if i + 1 < L.length then jm_nx pc (jm_st2 L i (.long x)) r h else none
  | _ => none
/-- the tables, as arguments: fields, puts, calls, classes, constants -/
abbrev jm_T : Type := (Nat → List (Nat × Nat)) × (Nat → Nat → Value → Bool) × (Nat → Option (Nat × Nat × List (Nat × Nat))) × (Nat → Option (Nat × Nat × (Nat → FieldType))) × (Nat → Option Nat) × (Nat → Option (Nat × Nat)) × (Nat → Option (Value ⊕ Nat)) × (Nat → Option Int64) × (Nat → Option Nat) × (Nat → List Nat) × (Nat → List (Nat × Bool)) × (Nat → Nat → Bool)
abbrev jm_Tf (T : jm_T) := T.1
abbrev jm_Tp (T : jm_T) := T.2.1
abbrev jm_Ti (T : jm_T) := T.2.2.1
abbrev jm_Tn (T : jm_T) := T.2.2.2.1
abbrev jm_Ta (T : jm_T) := T.2.2.2.2.1
abbrev jm_Tm (T : jm_T) := T.2.2.2.2.2.1
abbrev jm_Tc (T : jm_T) := T.2.2.2.2.2.2.1
abbrev jm_Tl (T : jm_T) := T.2.2.2.2.2.2.2.1
abbrev jm_Ts (T : jm_T) := T.2.2.2.2.2.2.2.2.1
abbrev jm_Tk (T : jm_T) := T.2.2.2.2.2.2.2.2.2.1
abbrev jm_To (T : jm_T) := T.2.2.2.2.2.2.2.2.2.2.1
abbrev jm_Tq (T : jm_T) := T.2.2.2.2.2.2.2.2.2.2.2
/-- array kinds by number: 0 int, 1 byte, 2 char, 3 boolean, 4 long; references from 5 on -/
def jm_at (t : ArrayType) : Option (Nat × FieldType) := match t with
  | .int => some (0, .int)
  | .byte => some (1, .byte)
  | .char => some (2, .char)
  | .boolean => some (3, .boolean)
  | .long => some (4, .long)
  | _ => none
def jm_nwa (h : jm_H) (ti : Nat) (x : Option vp_A) (n : Nat) : Option jm_H := match x with
  | some c => if n ≤ 65536 then some (jm_alloc h (.inr (ti, c)) n) else none
  | none => none
def jm_ldc (x : Option (Value ⊕ Nat)) (G : jm_G) : Option Value := match x with
  | some (.inl v) => some v
  | some (.inr q) => some (G.2 q)
  | none => none
def jm_push (x : Option Value) (pc : Nat) (L : jm_L) (st : List Value) (h : jm_H) : Option jm_A := match x with
  | some v => jm_nx pc L (v :: st) h
  | none => none
/-- one instruction -/
def jm_ex (T : jm_T) (G : jm_G) (fa : Nat) (pc len : Nat) (i : Instr) (L : jm_L) (st : List Value) (h : jm_H) : Option jm_A :=
  match i with
  | .nop => jm_nx (pc + len) L st h
  | .aconst_null => jm_nx (pc + len) L (.null :: st) h
  | .iconst n => jm_nx (pc + len) L (.int (Int32.ofInt n) :: st) h
  | .lconst n => jm_nx (pc + len) L (.long (Int64.ofNat (n : Nat)) :: st) h
  | .fconst n => if n = 0 then jm_nx (pc + len) L (.float FP.fconst0 :: st) h else none
  | .bipush n => jm_nx (pc + len) L (.int (Int8.ofInt n).toInt32 :: st) h
  | .sipush n => jm_nx (pc + len) L (.int (Int16.ofInt n).toInt32 :: st) h
  | .ldc x => jm_push (jm_ldc (jm_Tc T x) G) (pc + len) L st h
  | .ldc_w x => match jm_Tc T x with
    | some (.inl (.int z)) => jm_nx (pc + len) L (.int z :: st) h
    | some (.inr q) => if 256 ≤ x then jm_nx (pc + len) L (G.2 q :: st) h else none
    | _ => none
  | .ldc2_w x => jm_push ((jm_Tl T x).map .long) (pc + len) L st h
  | .iload i => jm_ld L i jm_isI (pc + len) st h
  | .iload_n i => jm_ld L i jm_isI (pc + len) st h
  | .lload i => jm_ld L i jm_isJ (pc + len) st h
  | .lload_n i => jm_ld L i jm_isJ (pc + len) st h
  | .fload i => jm_ld L i jm_isF (pc + len) st h
  | .fload_n i => jm_ld L i jm_isF (pc + len) st h
  | .aload i => jm_ld L i jm_isA (pc + len) st h
  | .aload_n i => jm_ld L i jm_isA (pc + len) st h
  | .istore i => jm_sto L i jm_isI (pc + len) st h
  | .istore_n i => jm_sto L i jm_isI (pc + len) st h
  | .fstore i => jm_sto L i jm_isF (pc + len) st h
  | .fstore_n i => jm_sto L i jm_isF (pc + len) st h
  | .astore i => jm_sto L i jm_isA (pc + len) st h
  | .astore_n i => jm_sto L i jm_isA (pc + len) st h
  | .lstore i => jm_stoJ L i (pc + len) st h
  | .lstore_n i => jm_stoJ L i (pc + len) st h
  | .iinc i n => match jm_get L i with
    | some (.int x) => jm_nx (pc + len) (jm_st1 L i (.int (x + Int32.ofInt n))) st h
    | _ => none
  | .pop => match st with
    | v :: r => jm_fnx (v.category == 1) (pc + len) L r h
    | _ => none
  | .dup => match st with
    | v :: r => jm_fnx (v.category == 1) (pc + len) L (v :: v :: r) h
    | _ => none
  | .dup_x1 => match st with
    | v :: u :: r => jm_fnx (v.category == 1 && u.category == 1) (pc + len) L (v :: u :: v :: r) h
    | _ => none
  | .dup_x2 => match st with
    | v :: u :: t :: r => jm_fnx (v.category == 1 && u.category == 1 && t.category == 1) (pc + len) L (v :: u :: t :: v :: r) h
    | _ => none
  | .dup2 => match st with
    | .long x :: r => jm_nx (pc + len) L (.long x :: .long x :: r) h
    | v :: u :: r => jm_fnx (v.category == 1 && u.category == 1) (pc + len) L (v :: u :: v :: u :: r) h
    | _ => none
  | .iadd => jm_int2 st (fun x y => x + y) (pc + len) L h
  | .isub => jm_int2 st (fun x y => x - y) (pc + len) L h
  | .imul => jm_int2 st (fun x y => x * y) (pc + len) L h
  | .iand => jm_int2 st (fun x y => x &&& y) (pc + len) L h
  | .ior => jm_int2 st (fun x y => x ||| y) (pc + len) L h
  | .ixor => jm_int2 st (fun x y => x ^^^ y) (pc + len) L h
  | .ishl => jm_int2 st (fun x y => x <<< (y &&& 31)) (pc + len) L h
  | .ishr => jm_int2 st (fun x y => x >>> (y &&& 31)) (pc + len) L h
  | .iushr => jm_int2 st (fun x y => (x.toUInt32 >>> (y.toUInt32 &&& Int32.toUInt32 31)).toInt32) (pc + len) L h
  | .idiv => match st with
    | .int y :: .int x :: r => if y = 0 then none else jm_nx (pc + len) L (.int (x / y) :: r) h
    | _ => none
  | .irem => match st with
    | .int y :: .int x :: r => if y = 0 then none else jm_nx (pc + len) L (.int (x - x / y * y) :: r) h
    | _ => none
  | .ineg => jm_int1 st (fun x => .int (-x)) (pc + len) L h
  | .i2l => jm_int1 st (fun x => .long x.toInt64) (pc + len) L h
  | .i2b => jm_int1 st (fun x => .int x.toInt8.toInt32) (pc + len) L h
  | .i2c => jm_int1 st (fun x => .int (x.toUInt32 % 65536).toInt32) (pc + len) L h
  | .i2f => jm_int1 st (fun x => .float (FP.i2f x)) (pc + len) L h
  | .l2i => match st with
    | .long x :: r => jm_nx (pc + len) L (.int x.toInt32 :: r) h
    | _ => none
  | .f2i => match st with
    | .float x :: r => jm_nx (pc + len) L (.int (FP.f2i x) :: r) h
    | _ => none
  | .fmul => match st with
    | .float y :: .float x :: r => if FP.fmul x y &&& 0x7fffffff ≤ 0x7f800000 then jm_nx (pc + len) L (.float (FP.fmul x y) :: r) h else none
    | _ => none
  | .fcmp op => match st with
    | .float y :: .float x :: r => jm_nx (pc + len) L (.int (Op.cmpValue (FP.fcmp x y) op) :: r) h
    | _ => none
  | .ladd => jm_lng2 st (fun x y => x + y) (pc + len) L h
  | .lsub => jm_lng2 st (fun x y => x - y) (pc + len) L h
  | .lmul => jm_lng2 st (fun x y => x * y) (pc + len) L h
  | .land => jm_lng2 st (fun x y => x &&& y) (pc + len) L h
  | .lor => jm_lng2 st (fun x y => x ||| y) (pc + len) L h
  | .lxor => jm_lng2 st (fun x y => x ^^^ y) (pc + len) L h
  | .ldiv => match st with
    | .long y :: .long x :: r => if y = 0 then none else jm_nx (pc + len) L (.long (x / y) :: r) h
    | _ => none
  | .lrem => match st with
    | .long y :: .long x :: r => if y = 0 then none else jm_nx (pc + len) L (.long (x - x / y * y) :: r) h
    | _ => none
  | .lshl => match st with
    | .int y :: .long x :: r => jm_nx (pc + len) L (.long (x <<< (y.toInt64 &&& 63)) :: r) h
    | _ => none
  | .lushr => match st with
    | .int y :: .long x :: r => jm_nx (pc + len) L (.long (x.toUInt64 >>> (y.toInt64.toUInt64 &&& Int64.toUInt64 63)).toInt64 :: r) h
    | _ => none
  | .lcmp => match st with
    | .long y :: .long x :: r => jm_nx (pc + len) L (.int (lg_cmp x y) :: r) h
    | _ => none
  | .goto off => jm_br pc off L st h
  | .ifCond c off => match st with
    | .int x :: r => jm_cbr (jm_cnd c x 0) pc (pc + len) off L r h
    | _ => none
  | .if_icmp c off => match st with
    | .int y :: .int x :: r => jm_cbr (jm_cnd c x y) pc (pc + len) off L r h
    | _ => none
  | .if_acmp .eq off => match st with
    | .ref y :: .ref x :: r => jm_cbr (decide (x = y)) pc (pc + len) off L r h
    | .null :: .ref _ :: r => jm_cbr false pc (pc + len) off L r h
    | .ref _ :: .null :: r => jm_cbr false pc (pc + len) off L r h
    | .null :: .null :: r => jm_cbr true pc (pc + len) off L r h
    | _ => none
  | .if_acmp .ne off => match st with
    | .ref y :: .ref x :: r => jm_cbr (!decide (x = y)) pc (pc + len) off L r h
    | .null :: .ref _ :: r => jm_cbr true pc (pc + len) off L r h
    | .ref _ :: .null :: r => jm_cbr true pc (pc + len) off L r h
    | .null :: .null :: r => jm_cbr false pc (pc + len) off L r h
    | _ => none
  | .ifnull off => match st with
    | .null :: r => jm_br pc off L r h
    | .ref _ :: r => jm_nx (pc + len) L r h
    | _ => none
  | .ifnonnull off => match st with
    | .null :: r => jm_nx (pc + len) L r h
    | .ref _ :: r => jm_br pc off L r h
    | _ => none
  | .tableswitch d lo hi offs => match st with
    | .int x :: r => if x.toInt < lo ∨ hi < x.toInt then jm_br pc d L r h else (match offs[(x.toInt - lo).toNat]? with
      | some off => jm_br pc off L r h
      | none => none)
    | _ => none
  | .lookupswitch d ps => match st with
    | .int x :: r => if (ps.toList.zip (ps.toList.drop 1)).all (fun (a, next) => a.1 < next.1) = true then jm_br pc (Op.lookupswitch.offset ps.toList d x.toInt) L r h else none
    | _ => none
  | .getfield x => match st with
    | .ref a :: r => jm_push (jm_gf G h a (jm_Tf T x)) (pc + len) L r h
    | _ => none
  | .putfield x => match st with
    | v :: .ref a :: r => match jm_pf h a (jm_Tf T x) v (jm_Tp T) with
      | some h' => jm_nx (pc + len) L r h'
      | none => none
    | _ => none
  | .getstatic x => match jm_Ts T x with
    | some q => jm_nx (pc + len) L (G.2 q :: st) h
    | none => none
  | .iaload => match st with
    | .int i :: .ref a :: r => jm_push ((jm_ai G h a [0] i).map .int) (pc + len) L r h
    | _ => none
  | .baload => match st with
    | .int i :: .ref a :: r => jm_push ((jm_ai G h a [1, 3] i).map .int) (pc + len) L r h
    | _ => none
  | .caload => match st with
    | .int i :: .ref a :: r => jm_push ((jm_ai G h a [2] i).map .int) (pc + len) L r h
    | _ => none
  | .laload => match st with
    | .int i :: .ref a :: r => jm_push ((jm_aj G h a [4] i).map .long) (pc + len) L r h
    | _ => none
  | .aaload => match st with
    | .int i :: .ref a :: r => jm_push (jm_aq G h a i) (pc + len) L r h
    | _ => none
  | .iastore => match st with
    | .int x :: .int i :: .ref a :: r => match jm_si h a [(0, .int)] i x with
      | some h' => jm_nx (pc + len) L r h'
      | none => none
    | _ => none
  | .bastore => match st with
    | .int x :: .int i :: .ref a :: r => match jm_si h a [(1, .byte), (3, .boolean)] i x with
      | some h' => jm_nx (pc + len) L r h'
      | none => none
    | _ => none
  | .castore => match st with
    | .int x :: .int i :: .ref a :: r => match jm_si h a [(2, .char)] i x with
      | some h' => jm_nx (pc + len) L r h'
      | none => none
    | _ => none
  | .lastore => match st with
    | .long x :: .int i :: .ref a :: r => match jm_sj h a [4] i x with
      | some h' => jm_nx (pc + len) L r h'
      | none => none
    | _ => none
  | .aastore => match st with
    | v :: .int i :: .ref a :: r => match jm_sq G h a (jm_Tq T) i v with
      | some h' => jm_nx (pc + len) L r h'
      | none => none
    | _ => none
  | .arraylength => match st with
    | .ref a :: r => jm_push ((jm_len G h a).map .int) (pc + len) L r h
    | _ => none
  | .new x => match jm_Tn T x with
    | some (ci, N, ty) => jm_nx (pc + len) L (.ref h.2.1 :: st) (jm_newc h ci N ty)
    | none => none
  | .newarray t => match st with
    | .int n :: r => if n < 0 then none else (match jm_at t with
      | some (ti, ty) => match jm_nwa h ti (jm_zero ty n.toInt.toNat) n.toInt.toNat with
        | some h' => jm_nx (pc + len) L (.ref h.2.1 :: r) h'
        | none => none
      | none => none)
    | _ => none
  | .anewarray x => match st with
    | .int n :: r => if n < 0 then none else (match jm_Ta T x with
      | some ti => match jm_nwa h ti (some (n.toInt.toNat, .inr (.inr (.inr (.inr (fun _ => none)))))) n.toInt.toNat with
        | some h' => jm_nx (pc + len) L (.ref h.2.1 :: r) h'
        | none => none
      | none => none)
    | _ => none
  | .multianewarray x d => match st with
    | .int k :: .int n :: r => if n < 0 ∨ k < 0 ∨ 65536 < n.toInt ∨ 65536 < k.toInt ∨ d ≠ 2 then none else (match jm_Tm T x with
      | some (to, ti) => jm_nx (pc + len) L (.ref h.2.1 :: r) (jm_multi h to ti n.toInt.toNat k.toInt.toNat)
      | none => none)
    | _ => none
  | .checkcast x => match st with
    | v :: r => jm_fnx (jm_cast G h v (jm_Tk T x)) (pc + len) L (v :: r) h
    | _ => none
  | .instanceof x => match st with
    | v :: r => jm_push ((jm_inst G h v (jm_To T x)).map .int) (pc + len) L r h
    | _ => none
  | .athrow => match st with
    | .ref a :: _ => match h.1 a with
      | some (.inl o) => if o.1 = fa then some (.inr (.inr (.inr (a, h)))) else none
      | _ => none
    | _ => none
  | .ireturn => match st with
    | [.int x] => some (.inr (.inr (.inl (some (.int x), h))))
    | _ => none
  | .lreturn => match st with
    | [.long x] => some (.inr (.inr (.inl (some (.long x), h))))
    | _ => none
  | .areturn => match st with
    | [v] => if jm_isA v = true then some (.inr (.inr (.inl (some v, h)))) else none
    | _ => none
  | .return_ => match st with
    | [] => some (.inr (.inr (.inl (none, h))))
    | _ => none
  | .invokestatic x => match jm_Ti T x with
    | some (k, n, tg) => jm_do [0, 4] (jm_Tq T) G k n tg (pc + len) L st h
    | none => none
  | .invokespecial x => match jm_Ti T x with
    | some (k, n, tg) => jm_do [1, 2] (jm_Tq T) G k n tg (pc + len) L st h
    | none => none
  | .invokevirtual x => match jm_Ti T x with
    | some (k, n, tg) => jm_do [3, 5] (jm_Tq T) G k n tg (pc + len) L st h
    | none => none
  | .invokeinterface x _ => match jm_Ti T x with
    | some (k, n, tg) => jm_do [6] (jm_Tq T) G k n tg (pc + len) L st h
    | none => none
  | _ => none
