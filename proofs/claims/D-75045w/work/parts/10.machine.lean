/-! THE PURE MACHINE: an evaluator of the bytecode over a world of typed cells, with the operands resolved beforehand; its soundness over the real machine is shown once (11). -/
/-- a cell: an object (its kind, its fields), or an array (its kind, its length, its contents); a kind from 1000 on is one that is never written -/
abbrev em_C := (Nat × List Value) ⊕ (Nat × Nat × (Nat → Value))
/-- a world: how many cells there are, how many slots are in use, what lies where -/
abbrev em_W := Nat × Nat × (Nat → Option em_C)
/-- an outcome: an answer, or a throwable of a kind at an address -/
abbrev em_O := Option Value ⊕ (Nat × Nat)
/-- what is given from outside: the addresses of the String constants, the values of the statics -/
abbrev em_G := (Nat → Nat) × (Nat → Value)
/-- an instruction, its length, what its operand stands for -/
abbrev em_I := Instr × Nat × List Nat
/-- what a step does to the world: cells made (with the slots they cost), or one cell changed -/
abbrev em_H := List (em_C × Nat) ⊕ (Nat × em_C)
/-- a step: an outcome; or on to a place; or a call (which, the instruction's length, the arguments, the rest of the stack) -/
abbrev em_A := em_O ⊕ ((Nat × List Value × List Value × em_H) ⊕ (Nat × Nat × List Value × List Value))
/-- a program: its instructions; a method's locals; what it answers with; its handlers by place and kind (none: not known; some none: none catches) -/
abbrev em_M := (Nat → Nat → Option em_I) × (Nat → Nat) × (Nat → Option FieldType) × (Nat → Nat → Nat → Option (Option Nat))
def em_new (w : em_W) (c : em_C) (n : Nat) : em_W := (w.1 + 1, w.2.1 + n, fun b => if b = w.1 then some c else w.2.2 b)
def em_set (w : em_W) (a : Nat) (c : em_C) : em_W := (w.1, w.2.1, fun b => if b = a then some c else w.2.2 b)
def em_app (w : em_W) : em_H → em_W
  | .inl l => l.foldl (fun w p => em_new w p.1 p.2) w
  | .inr p => em_set w p.1 p.2
/-- the kind of what lies at an address: an object's, or 100 and an array's -/
def em_kd (w : em_W) (a : Nat) : Option Nat := match w.2.2 a with
  | some (.inl o) => some (o.1 % 1000)
  | some (.inr r) => some (100 + r.1 % 1000)
  | none => none
def em_fl (w : em_W) (a : Nat) : Option (Nat × List Value) := match w.2.2 a with
  | some (.inl o) => some o
  | _ => none
def em_ar (w : em_W) (a : Nat) : Option (Nat × Nat × (Nat → Value)) := match w.2.2 a with
  | some (.inr r) => some r
  | _ => none
/-- values of a type: 0 int, 1 long, 2 reference; 3 boolean, 4 byte, 5 char -/
def em_ty : Nat → Value → Bool
  | 0, .int _ => true
  | 1, .long _ => true
  | 2, .ref _ => true
  | 2, .null => true
  | 3, .int v => v == 0 || v == 1
  | 4, .int v => decide (v.toInt8.toInt32 = v)
  | 5, .int v => decide ((v.toUInt32 % 65536).toInt32 = v)
  | _, _ => false
/-- the second half of a long's place in the locals -/
def em_sc : Value → Bool
  | .retAddr 1 => true
  | _ => false
abbrev em_u : Value := .retAddr 0
def em_nx (pc : Nat) (ls st : List Value) : Option em_A := some (.inr (.inl (pc, ls, st, .inl [])))
def em_jp (pc : Nat) (off : Int) (ls st : List Value) : Option em_A := if 0 ≤ (pc : Int) + off then em_nx ((pc : Int) + off).toNat ls st else none
def em_ld (t k pc n : Nat) (ls st : List Value) : Option em_A := match ls[k]? with
  | some v => if em_ty t v = true then em_nx (pc + n) ls (v :: st) else none
  | none => none
def em_fr (ls : List Value) (k : Nat) : Bool := match ls[k]? with
  | some v => !em_sc v
  | none => false
def em_sto (t k pc n : Nat) (ls : List Value) : List Value → Option em_A
  | v :: st => if (em_ty t v && em_fr ls k) = true then em_nx (pc + n) (ls.set k v) st else none
  | [] => none
def em_stl (k pc n : Nat) (ls : List Value) : List Value → Option em_A
  | v :: st => if (em_ty 1 v && em_fr ls k && decide (k + 1 < ls.length)) = true then em_nx (pc + n) ((ls.set k v).set (k + 1) (.retAddr 1)) st else none
  | [] => none
def em_inc (k pc n : Nat) (c : Int) (ls st : List Value) : Option em_A := match ls[k]? with
  | some (.int x) => em_nx (pc + n) (ls.set k (.int (x + Int32.ofInt c))) st
  | _ => none
def em_ii (f : Int32 → Int32 → Int32) (pc n : Nat) (ls : List Value) : List Value → Option em_A
  | .int y :: .int x :: st => em_nx (pc + n) ls (.int (f x y) :: st)
  | _ => none
def em_dv (f : Int32 → Int32 → Int32) (pc n : Nat) (ls : List Value) : List Value → Option em_A
  | .int y :: .int x :: st => if y = 0 then none else em_nx (pc + n) ls (.int (f x y) :: st)
  | _ => none
def em_ll (f : Int64 → Int64 → Int64) (pc n : Nat) (ls : List Value) : List Value → Option em_A
  | .long y :: .long x :: st => em_nx (pc + n) ls (.long (f x y) :: st)
  | _ => none
def em_dl (f : Int64 → Int64 → Int64) (pc n : Nat) (ls : List Value) : List Value → Option em_A
  | .long y :: .long x :: st => if y = 0 then none else em_nx (pc + n) ls (.long (f x y) :: st)
  | _ => none
def em_ls (f : Int64 → Int32 → Int64) (pc n : Nat) (ls : List Value) : List Value → Option em_A
  | .int y :: .long x :: st => em_nx (pc + n) ls (.long (f x y) :: st)
  | _ => none
def em_i1 (f : Int32 → Value) (pc n : Nat) (ls : List Value) : List Value → Option em_A
  | .int x :: st => em_nx (pc + n) ls (f x :: st)
  | _ => none
def em_l1 (f : Int64 → Value) (pc n : Nat) (ls : List Value) : List Value → Option em_A
  | .long x :: st => em_nx (pc + n) ls (f x :: st)
  | _ => none
def em_lc (pc n : Nat) (ls : List Value) : List Value → Option em_A
  | .long y :: .long x :: st => em_nx (pc + n) ls (.int (lg_cmp x y) :: st)
  | _ => none
def em_b2 (c : Int32 → Int32 → Bool) (off : Int) (pc n : Nat) (ls : List Value) : List Value → Option em_A
  | .int y :: .int x :: st => if 0 ≤ (pc : Int) + off then (if c x y = true then em_nx ((pc : Int) + off).toNat ls st else em_nx (pc + n) ls st) else none
  | _ => none
def em_b1 (c : Int32 → Bool) (off : Int) (pc n : Nat) (ls : List Value) : List Value → Option em_A
  | .int x :: st => if 0 ≤ (pc : Int) + off then (if c x = true then em_nx ((pc : Int) + off).toNat ls st else em_nx (pc + n) ls st) else none
  | _ => none
def em_rf : Value → Option (Option Nat)
  | .ref a => some (some a)
  | .null => some none
  | _ => none
def em_ba (eq : Bool) (off : Int) (pc n : Nat) (ls : List Value) : List Value → Option em_A
  | y :: x :: st => match em_rf x, em_rf y with
    | some a, some b => if 0 ≤ (pc : Int) + off then (if decide (a = b) = eq then em_nx ((pc : Int) + off).toNat ls st else em_nx (pc + n) ls st) else none
    | _, _ => none
  | _ => none
def em_bn (nul : Bool) (off : Int) (pc n : Nat) (ls : List Value) : List Value → Option em_A
  | .ref _ :: st => if nul = true then em_nx (pc + n) ls st else em_jp pc off ls st
  | .null :: st => if nul = true then em_jp pc off ls st else em_nx (pc + n) ls st
  | _ => none
def em_ts (dflt lo hi : Int) (offs : Array Int) (pc : Nat) (ls : List Value) : List Value → Option em_A
  | .int x :: st => if x.toInt < lo ∨ hi < x.toInt then em_jp pc dflt ls st else match offs[(x.toInt - lo).toNat]? with
    | some off => em_jp pc off ls st
    | none => none
  | _ => none
def em_lk (dflt : Int) (ps : Array (Int × Int)) (pc : Nat) (ls : List Value) : List Value → Option em_A
  | .int x :: st => if (ps.toList.zip (ps.toList.drop 1)).all (fun (a, next) => a.1 < next.1) = true then em_jp pc (Op.lookupswitch.offset ps.toList dflt x.toInt) ls st else none
  | _ => none
def em_gf (pc n : Nat) (ds : List Nat) (ls : List Value) (w : em_W) : List Value → Option em_A
  | .ref a :: st => match em_fl w a, ds with
    | some (k, fs), f :: ks => if ks.contains (k % 1000) = true then match fs[f]? with
      | some v => em_nx (pc + n) ls (v :: st)
      | none => none
      else none
    | _, _ => none
  | _ => none
def em_pf (pc n : Nat) (ds : List Nat) (ls : List Value) (w : em_W) : List Value → Option em_A
  | v :: .ref a :: st => match em_fl w a, ds with
    | some (k, fs), f :: t :: ks => if (decide (k < 1000) && ks.contains k && em_ty t v && decide (f < fs.length)) = true then some (.inr (.inl (pc + n, ls, st, .inr (a, .inl (k, fs.set f v))))) else none
    | _, _ => none
  | _ => none
def em_gs (g : em_G) (pc n : Nat) (ds ls st : List Value) (k : List Nat) : Option em_A := match k with
  | [i] => em_nx (pc + n) ls (g.2 i :: st)
  | _ => none
/-- a field's first value, by its type -/
def em_df : Nat → Value
  | 1 => .long 0
  | 2 => .null
  | _ => .int 0
/-- how much may lie on the stack under a call: eight words -/
def em_w8 (st : List Value) : Bool := decide ((st.map fun v => v.category).sum ≤ 8)
/-- new: its kind, its slots, its fields' types; or the whole making of a throwable without a text (9, its kind, its slots) -/
def em_nw (pc n : Nat) (ls st : List Value) (w : em_W) : List Nat → Option em_A
  | 0 :: k :: sl :: ts => some (.inr (.inl (pc + n, ls, .ref w.1 :: st, .inl [(.inl (k, ts.map em_df), sl)])))
  | 9 :: k :: sl :: _ => if em_w8 st = true then some (.inr (.inl (pc + 7, ls, .ref w.1 :: st, .inl [(.inl (k, []), sl)]))) else none
  | _ => none
def em_na (pc n : Nat) (ls : List Value) (w : em_W) : List Nat → List Value → Option em_A
  | [k, t], .int x :: st => if x < 0 ∨ 65536 < x.toNatClampNeg then none else some (.inr (.inl (pc + n, ls, .ref w.1 :: st, .inl [(.inr (k, x.toNatClampNeg, fun _ => em_df t), x.toNatClampNeg)])))
  | _, _ => none
def em_al (pc n : Nat) (ks : List Nat) (ls : List Value) (w : em_W) : List Value → Option em_A
  | .int i :: .ref a :: st => match em_ar w a with
    | some (k, len, f) => if ks.contains (k % 1000) = true then (if i < 0 ∨ len ≤ i.toNatClampNeg then none else em_nx (pc + n) ls (f i.toNatClampNeg :: st)) else none
    | none => none
  | _ => none
/-- what an array of a kind keeps of a value: 0 int, 1 byte, 2 boolean, 3 long -/
def em_nr : Nat → Value → Option Value
  | 0, .int x => some (.int x)
  | 1, .int x => some (.int x.toInt8.toInt32)
  | 2, .int x => some (.int (x &&& 1))
  | 3, .long x => some (.long x)
  | _, _ => none
def em_as (pc n : Nat) (ks : List Nat) (ls : List Value) (w : em_W) : List Value → Option em_A
  | v :: .int i :: .ref a :: st => match em_ar w a with
    | some (k, len, f) => if (decide (k < 1000) && ks.contains k) = true then (if i < 0 ∨ len ≤ i.toNatClampNeg then none else match em_nr k v with
      | some v' => some (.inr (.inl (pc + n, ls, st, .inr (a, .inr (k, len, updV f i.toNatClampNeg v')))))
      | none => none) else none
    | none => none
  | _ => none
/-- null, or a thing of a kind that the table tk lets into arrays of the kind k -/
def em_aok (w : em_W) (tk : List Nat) (k : Nat) : Value → Bool
  | .null => decide (4 ≤ k) && decide (k ≤ 6)
  | .ref q => (match em_kd w q with | some kq => tk.contains (1000 * k + kq) | none => false)
  | _ => false
/-- a reference into an array -/
def em_aa (pc n : Nat) (tk : List Nat) (ls : List Value) (w : em_W) : List Value → Option em_A
  | v :: .int i :: .ref a :: st => match em_ar w a with
    | some (k, len, f) => if (decide (k < 1000) && em_aok w tk k v) = true then (if i < 0 ∨ len ≤ i.toNatClampNeg then none else some (.inr (.inl (pc + n, ls, st, .inr (a, .inr (k, len, updV f i.toNatClampNeg v)))))) else none
    | none => none
  | _ => none
def em_ln (pc n : Nat) (ls : List Value) (w : em_W) : List Value → Option em_A
  | .ref a :: st => match em_ar w a with
    | some (k, len, _) => if k % 1000 < 9 then em_nx (pc + n) ls (.int (Int32.ofNat len) :: st) else none
    | none => none
  | _ => none
/-- checkcast: null, or one of the kinds -/
def em_cc (pc n : Nat) (ks : List Nat) (ls : List Value) (w : em_W) : List Value → Option em_A
  | .null :: st => em_nx (pc + n) ls (.null :: st)
  | .ref a :: st => match em_kd w a with
    | some k => if ks.contains k = true then em_nx (pc + n) ls (.ref a :: st) else none
    | none => none
  | _ => none
/-- instanceof: how many kinds are, the kinds that are, the kinds that aren't -/
def em_io (pc n : Nat) (ds : List Nat) (ls : List Value) (w : em_W) : List Value → Option em_A
  | .null :: st => em_nx (pc + n) ls (.int 0 :: st)
  | .ref a :: st => match em_kd w a, ds with
    | some k, j :: ks => if (ks.take j).contains k = true then em_nx (pc + n) ls (.int 1 :: st) else if (ks.drop j).contains k = true then em_nx (pc + n) ls (.int 0 :: st) else none
    | _, _ => none
  | _ => none
/-- arraycopy of one array into another (or itself); things are null, or let in by the table -/
def em_cp (pc n : Nat) (tk : List Nat) (ls : List Value) (w : em_W) : List Value → Option em_A
  | .int c :: .int dp :: .ref d :: .int sp :: .ref a :: st => match em_ar w a, em_ar w d with
    | some (k, la, f), some (k', ld, h) => if (decide (k' < 1000) && decide (k % 1000 = k')) = true then (if c < 0 ∨ sp < 0 ∨ dp < 0 ∨ la < sp.toNatClampNeg + c.toNatClampNeg ∨ ld < dp.toNatClampNeg + c.toNatClampNeg then none
      else if (decide (k' < 2) || (decide (k' = 4) && (List.range c.toNatClampNeg).all (fun i => em_aok w tk k' (f (sp.toNatClampNeg + i))))) = true then some (.inr (.inl (pc + n, ls, st, .inr (d, .inr (k', ld, va_cpy f h sp.toNatClampNeg dp.toNatClampNeg c.toNatClampNeg))))) else none) else none
    | _, _ => none
  | _ => none
/-- which method a receiver's kind takes: the list goes kind, method, kind, method -/
def em_sl (k : Nat) : List Nat → Option Nat
  | a :: b :: r => if a = k then some b else em_sl k r
  | _ => none
/-- a call: 0 a known method; 1 by the receiver's kind (from 10000 on: a lambda's body, what it captured goes first); 2 the native arraycopy; 3 Object's constructor; 4 a lambda's site; 5 a site of a lambda that captures nothing; 6 getClass -/
def em_iv (g : em_G) (d pc n : Nat) (ls st : List Value) (w : em_W) : List Nat → Option em_A
  | [0, c, m] => if (decide (c ≤ st.length) && em_w8 (st.drop c)) = true then some (.inr (.inr (m, n, (st.take c).reverse, st.drop c))) else none
  | 1 :: c :: r => match st[c - 1]? with
    | some (.ref a) => match em_kd w a with
      | some k => match em_sl k r with
        | some m => if (decide (1 ≤ c) && em_w8 (st.drop c)) = true then (if m < 10000 then some (.inr (.inr (m, n, (st.take c).reverse, st.drop c))) else match em_fl w a with
          | some (_, fs) => some (.inr (.inr (m - 10000, n, fs ++ (st.take (c - 1)).reverse, st.drop c)))
          | none => none) else none
        | none => none
      | none => none
    | _ => none
  | 2 :: ks => if em_w8 (st.drop 5) = true then em_cp pc n ks ls w st else none
  | [3] => match st with
    | .ref _ :: st' => if em_w8 st' = true then em_nx (pc + n) ls st' else none
    | _ => none
  | [5, i] => if 80 ≤ d then (if em_w8 st = true then em_nx (pc + n) ls (.ref (g.1 i) :: st) else none) else none
  | [6, i] => match st with
    | .ref a :: st' => if em_w8 st' = true then (if em_kd w a = some 104 then em_nx (pc + n) ls (.ref (g.1 i) :: st') else none) else none
    | _ => none
  | [4, k, c] => if 80 ≤ d then (if (decide (c ≤ st.length) && em_w8 st) = true then some (.inr (.inl (pc + n, ls, .ref w.1 :: st.drop c, .inl [(.inl (k, (st.take c).reverse), c)]))) else none) else none
  | _ => none
def em_ma (pc n : Nat) (ls : List Value) (w : em_W) : List Nat → List Value → Option em_A
  | [ko, ki], .int y :: .int x :: st => if x < 0 ∨ 64 < x.toNatClampNeg ∨ y < 0 ∨ 4096 < y.toNatClampNeg then none
      else some (.inr (.inl (pc + n, ls, .ref w.1 :: st, .inl ((.inr (ko, x.toNatClampNeg, fun i => .ref (w.1 + 1 + i)), x.toNatClampNeg) :: List.replicate x.toNatClampNeg (.inr (ki, y.toNatClampNeg, fun _ => .int 0), y.toNatClampNeg)))))
  | _, _ => none
def em_ic : ClassFile.Cond → Int32 → Int32 → Bool
  | .eq, x, y => decide (x = y)
  | .ne, x, y => decide (¬ x = y)
  | .lt, x, y => decide (x < y)
  | .ge, x, y => decide (y ≤ x)
  | .gt, x, y => decide (y < x)
  | .le, x, y => decide (x ≤ y)
def em_rt (rt : Option FieldType) : List Value → Option em_A
  | [.int x] => match rt with
    | some ty => if narrow ty (.int x) = .int x then some (.inl (.inl (some (.int x)))) else none
    | none => none
  | _ => none
def em_rfT : Option FieldType → Bool
  | some (.object _) => true
  | some (.array _) => true
  | _ => false
def em_ar1 (rt : Option FieldType) : List Value → Option em_A
  | [v] => if (em_ty 2 v && em_rfT rt) = true then some (.inl (.inl (some v))) else none
  | _ => none
def em_lr (rt : Option FieldType) : List Value → Option em_A
  | [.long x] => match rt with
    | some .long => some (.inl (.inl (some (.long x))))
    | _ => none
  | _ => none
def em_vr (rt : Option FieldType) : List Value → Option em_A
  | [] => match rt with
    | none => some (.inl (.inl none))
    | _ => none
  | _ => none
def em_at (w : em_W) : List Value → Option em_A
  | .ref q :: _ => match em_fl w q with
    | some (k, _) => if k < 100 then some (.inl (.inr (k, q))) else none
    | none => none
  | _ => none
/-- ldc: [0, n] the int n; [1, i] the i-th text; [2, n] the int below zero, -n -/
def em_lt (g : em_G) (pc n : Nat) (ls st : List Value) : List Nat → Option em_A
  | [0, x] => em_nx (pc + n) ls (.int (Int32.ofNat x) :: st)
  | [1, i] => em_nx (pc + n) ls (.ref (g.1 i) :: st)
  | _ => none
def em_l2 (pc n : Nat) (ls st : List Value) : List Nat → Option em_A
  | [x] => em_nx (pc + n) ls (.long (Int64.ofNat x) :: st)
  | [x, 1] => em_nx (pc + n) ls (.long (-(Int64.ofNat x)) :: st)
  | _ => none
def em_d1 (pc n : Nat) (ls : List Value) : List Value → Option em_A
  | v :: st => if v.category = 1 then em_nx (pc + n) ls (v :: v :: st) else none
  | _ => none
def em_po (pc n : Nat) (ls : List Value) : List Value → Option em_A
  | v :: st => if v.category = 1 then em_nx (pc + n) ls st else none
  | _ => none
def em_dx (pc n : Nat) (ls : List Value) : List Value → Option em_A
  | a :: b :: st => if a.category = 1 ∧ b.category = 1 then em_nx (pc + n) ls (a :: b :: a :: st) else none
  | _ => none
def em_d2 (pc n : Nat) (ls : List Value) : List Value → Option em_A
  | .int a :: b :: st => if b.category = 1 then em_nx (pc + n) ls (.int a :: b :: .int a :: b :: st) else none
  | .long a :: st => em_nx (pc + n) ls (.long a :: .long a :: st)
  | _ => none
/-- a step -/
def em_st (g : em_G) (d : Nat) (rt : Option FieldType) (pc n : Nat) (ds ls st : List Value) (w : em_W) (ks : List Nat) : Instr → Option em_A
  | .iload_n k => em_ld 0 k pc n ls st
  | .iload k => em_ld 0 k pc n ls st
  | .lload_n k => em_ld 1 k pc n ls st
  | .lload k => em_ld 1 k pc n ls st
  | .aload_n k => em_ld 2 k pc n ls st
  | .aload k => em_ld 2 k pc n ls st
  | .istore_n k => em_sto 0 k pc n ls st
  | .istore k => em_sto 0 k pc n ls st
  | .astore_n k => em_sto 2 k pc n ls st
  | .astore k => em_sto 2 k pc n ls st
  | .lstore_n k => em_stl k pc n ls st
  | .lstore k => em_stl k pc n ls st
  | .iinc k c => em_inc k pc n c ls st
  | .iconst c => em_nx (pc + n) ls (.int (Int32.ofInt c) :: st)
  | .bipush c => em_nx (pc + n) ls (.int (Int8.ofInt c).toInt32 :: st)
  | .sipush c => em_nx (pc + n) ls (.int (Int16.ofInt c).toInt32 :: st)
  | .lconst c => em_nx (pc + n) ls (.long (Int64.ofNat (c : Nat)) :: st)
  | .aconst_null => em_nx (pc + n) ls (.null :: st)
  | .ldc _ => em_lt g pc n ls st ks
  | .ldc_w _ => em_lt g pc n ls st ks
  | .ldc2_w _ => em_l2 pc n ls st ks
  | .iadd => em_ii (fun x y => x + y) pc n ls st
  | .isub => em_ii (fun x y => x - y) pc n ls st
  | .imul => em_ii (fun x y => x * y) pc n ls st
  | .iand => em_ii (fun x y => x &&& y) pc n ls st
  | .ior => em_ii (fun x y => x ||| y) pc n ls st
  | .ixor => em_ii (fun x y => x ^^^ y) pc n ls st
  | .ishl => em_ii (fun x y => x <<< (y &&& 31)) pc n ls st
  | .ishr => em_ii (fun x y => x >>> (y &&& 31)) pc n ls st
  | .iushr => em_ii (fun x y => (x.toUInt32 >>> (y.toUInt32 &&& Int32.toUInt32 31)).toInt32) pc n ls st
  | .idiv => em_dv (fun x y => x / y) pc n ls st
  | .irem => em_dv (fun x y => x - x / y * y) pc n ls st
  | .ineg => em_i1 (fun x => .int (-x)) pc n ls st
  | .i2l => em_i1 (fun x => .long x.toInt64) pc n ls st
  | .i2b => em_i1 (fun x => .int x.toInt8.toInt32) pc n ls st
  | .i2c => em_i1 (fun x => .int (x.toUInt32 % 65536).toInt32) pc n ls st
  | .l2i => em_l1 (fun x => .int x.toInt32) pc n ls st
  | .ladd => em_ll (fun x y => x + y) pc n ls st
  | .lsub => em_ll (fun x y => x - y) pc n ls st
  | .lmul => em_ll (fun x y => x * y) pc n ls st
  | .ldiv => em_dl (fun x y => x / y) pc n ls st
  | .lcmp => em_lc pc n ls st
  | .dup => em_d1 pc n ls st
  | .pop => em_po pc n ls st
  | .dup_x1 => em_dx pc n ls st
  | .dup2 => em_d2 pc n ls st
  | .if_icmp c off => em_b2 (em_ic c) off pc n ls st
  | .ifCond c off => em_b1 (fun x => em_ic c x 0) off pc n ls st
  | .if_acmp c off => em_ba (decide (c = .eq)) off pc n ls st
  | .ifnull off => em_bn true off pc n ls st
  | .ifnonnull off => em_bn false off pc n ls st
  | .goto off => em_jp pc off ls st
  | .tableswitch d lo hi offs => em_ts d lo hi offs pc ls st
  | .lookupswitch d ps => em_lk d ps pc ls st
  | .getfield _ => em_gf pc n ks ls w st
  | .putfield _ => em_pf pc n ks ls w st
  | .getstatic _ => em_gs g pc n ds ls st ks
  | .new _ => em_nw pc n ls st w ks
  | .newarray _ => em_na pc n ls w ks st
  | .anewarray _ => em_na pc n ls w ks st
  | .multianewarray _ _ => em_ma pc n ls w ks st
  | .iaload => em_al pc n [0, 8] ls w st
  | .laload => em_al pc n [3] ls w st
  | .baload => em_al pc n [1, 2] ls w st
  | .aaload => em_al pc n [4, 5, 6, 7] ls w st
  | .iastore => em_as pc n [0] ls w st
  | .lastore => em_as pc n [3] ls w st
  | .bastore => em_as pc n [1, 2] ls w st
  | .aastore => em_aa pc n ks ls w st
  | .arraylength => em_ln pc n ls w st
  | .checkcast _ => em_cc pc n ks ls w st
  | .instanceof _ => em_io pc n ks ls w st
  | .invokestatic _ => em_iv g d pc n ls st w ks
  | .invokespecial _ => em_iv g d pc n ls st w ks
  | .invokevirtual _ => em_iv g d pc n ls st w ks
  | .invokeinterface _ _ => em_iv g d pc n ls st w ks
  | .invokedynamic _ => em_iv g d pc n ls st w ks
  | .athrow => em_at w st
  | .ireturn => em_rt rt st
  | .areturn => em_ar1 rt st
  | .lreturn => em_lr rt st
  | .return_ => em_vr rt st
  | _ => none
def em_act (P : em_M) (g : em_G) (d m pc : Nat) (ls st : List Value) (w : em_W) : Option em_A := match P.1 m pc with
  | some i => em_st g d (P.2.2.1 m) pc i.2.1 [] ls st w i.2.2 i.1
  | none => none
def em_loc : List Value → List Value
  | [] => []
  | v :: r => if v.category = 2 then v :: .retAddr 1 :: em_loc r else v :: em_loc r
def em_ent (P : em_M) (m : Nat) (as : List Value) : List Value := em_loc as ++ List.replicate (P.2.1 m - (em_loc as).length) em_u
def em_isU : Value → Bool
  | .retAddr _ => true
  | _ => false
/-- the arguments fit the locals -/
def em_gd (P : em_M) (m : Nat) (as : List Value) : Bool := as.all (fun v => !em_isU v) && decide ((em_loc as).length ≤ P.2.1 m)
abbrev em_R := Nat → Nat → Nat → List Value → List Value → em_W → Option (em_O × em_W)
def em_thr (P : em_M) (rec : em_R) (d m pc : Nat) (ls : List Value) (w : em_W) (k q : Nat) : Option (em_O × em_W) := match P.2.2.2 m pc k with
  | none => none
  | some none => some (.inr (k, q), w)
  | some (some h) => rec d m h ls [.ref q] w
def em_drv (P : em_M) (rec : em_R) (d m pc : Nat) (ls : List Value) (w : em_W) : Option em_A → Option (em_O × em_W)
  | none => none
  | some (.inl (.inl v)) => some (.inl v, w)
  | some (.inl (.inr q)) => em_thr P rec d m pc ls w q.1 q.2
  | some (.inr (.inl x)) => rec d m x.1 x.2.1 x.2.2.1 (em_app w x.2.2.2)
  | some (.inr (.inr x)) => match d with
    | 0 => none
    | d' + 1 => if em_gd P x.1 x.2.2.1 = true then (match rec d' x.1 0 (em_ent P x.1 x.2.2.1) [] w with
      | none => none
      | some (.inl v, w') => rec (d' + 1) m (pc + x.2.1) ls (v.toList ++ x.2.2.2) w'
      | some (.inr q, w') => em_thr P rec (d' + 1) m pc ls w' q.1 q.2) else none
def em_run (P : em_M) (g : em_G) : Nat → em_R
  | 0 => fun _ _ _ _ _ _ => none
  | f + 1 => fun d m pc ls st w => em_drv P (em_run P g f) d m pc ls w (em_act P g d m pc ls st w)
/-- more fuel, the same end -/
def em_le (a b : em_R) : Prop := ∀ d m pc ls st w r, a d m pc ls st w = some r → b d m pc ls st w = some r
theorem em_thr_le {P : em_M} {a b : em_R} (h : em_le a b) {d m pc : Nat} {ls : List Value} {w : em_W} {k q : Nat} {r : em_O × em_W} (e : em_thr P a d m pc ls w k q = some r) : em_thr P b d m pc ls w k q = some r := by
  unfold em_thr at e ⊢
  split at e
  · exact e
  · exact e
  · exact h _ _ _ _ _ _ _ e
theorem em_drv_le {P : em_M} {a b : em_R} (h : em_le a b) {d m pc : Nat} {ls : List Value} {w : em_W} (x : Option em_A) {r : em_O × em_W} (e : em_drv P a d m pc ls w x = some r) : em_drv P b d m pc ls w x = some r := by
  match x, d, e with
  | none, _, e => exact e
  | some (.inl (.inl v)), _, e => exact e
  | some (.inl (.inr q)), _, e => exact em_thr_le h e
  | some (.inr (.inl x)), _, e => exact h _ _ _ _ _ _ _ e
  | some (.inr (.inr x)), 0, e => exact e
  | some (.inr (.inr x)), d' + 1, e =>
    simp only [em_drv] at e ⊢
    split at e
    case isFalse => cases e
    rename_i hg
    rw [if_pos hg]
    cases h1 : a d' x.1 0 (em_ent P x.1 x.2.2.1) [] w with
    | none => rw [h1] at e; cases e
    | some p =>
      rw [h1] at e
      rw [h _ _ _ _ _ _ _ h1]
      obtain ⟨o, w'⟩ := p
      cases o with
      | inl v => exact h _ _ _ _ _ _ _ e
      | inr q => exact em_thr_le h e
theorem em_run_succ {P : em_M} {g : em_G} : ∀ f, em_le (em_run P g f) (em_run P g (f + 1))
  | 0 => fun _ _ _ _ _ _ _ e => by cases e
  | f + 1 => fun _ _ _ _ _ _ _ e => em_drv_le (em_run_succ f) _ e
theorem em_run_le {P : em_M} {g : em_G} {f f' : Nat} (h : f ≤ f') : em_le (em_run P g f) (em_run P g f') := by
  induction h with
  | refl => exact fun _ _ _ _ _ _ _ e => e
  | step _ ih => exact fun _ _ _ _ _ _ _ e => em_run_succ _ _ _ _ _ _ _ _ (ih _ _ _ _ _ _ _ e)
theorem em_lim {α : Type} (F : Nat → Option α) (hm : ∀ f f' r, f ≤ f' → F f = some r → F f' = some r) : ∃ o : Option α, ∀ r, o = some r ↔ ∃ f, F f = some r := by
  by_cases h : ∃ f r, F f = some r
  · obtain ⟨f, r, e⟩ := h
    refine ⟨some r, fun r' => ⟨fun e2 => ⟨f, e.trans e2⟩, fun ⟨f', e'⟩ => ?_⟩⟩
    rcases Nat.le_total f f' with q | q
    · exact (hm f f' r q e).symm.trans e'
    · exact e.symm.trans (hm f' f r' q e')
  · exact ⟨none, fun r => ⟨fun e => (by cases e), fun ⟨f, e⟩ => absurd ⟨f, r, e⟩ h⟩⟩
/-- the evaluator without fuel -/
noncomputable def em_X (P : em_M) (g : em_G) : em_R := fun d m pc ls st w => Classical.choose (em_lim (fun f => em_run P g f d m pc ls st w) (fun _ _ _ h e => em_run_le h _ _ _ _ _ _ _ e))
theorem em_X_iff {P : em_M} {g : em_G} {d m pc : Nat} {ls st : List Value} {w : em_W} {r : em_O × em_W} : em_X P g d m pc ls st w = some r ↔ ∃ f, em_run P g f d m pc ls st w = some r :=
  Classical.choose_spec (em_lim (fun f => em_run P g f d m pc ls st w) (fun _ _ _ h e => em_run_le h _ _ _ _ _ _ _ e)) r
theorem em_run_X {P : em_M} {g : em_G} (f : Nat) : em_le (em_run P g f) (em_X P g) := fun _ _ _ _ _ _ _ e => em_X_iff.mpr ⟨f, e⟩
theorem em_thr_ct {P : em_M} {g : em_G} {d m pc : Nat} {ls : List Value} {w : em_W} {k q : Nat} {r : em_O × em_W} (e : em_thr P (em_X P g) d m pc ls w k q = some r) : ∃ f, em_thr P (em_run P g f) d m pc ls w k q = some r := by
  unfold em_thr at e ⊢
  split at e
  · cases e
  · exact ⟨0, e⟩
  · exact em_X_iff.mp e
theorem em_drv_ct {P : em_M} {g : em_G} {d m pc : Nat} {ls : List Value} {w : em_W} (x : Option em_A) {r : em_O × em_W} (e : em_drv P (em_X P g) d m pc ls w x = some r) : ∃ f, em_drv P (em_run P g f) d m pc ls w x = some r := by
  match x, d, e with
  | none, _, e => exact ⟨0, e⟩
  | some (.inl (.inl v)), _, e => exact ⟨0, e⟩
  | some (.inl (.inr q)), _, e => exact em_thr_ct e
  | some (.inr (.inl x)), _, e => exact em_X_iff.mp e
  | some (.inr (.inr x)), 0, e => exact ⟨0, e⟩
  | some (.inr (.inr x)), d' + 1, e =>
    simp only [em_drv] at e ⊢
    split at e
    case isFalse => cases e
    rename_i hg
    simp only [if_pos hg]
    cases h1 : em_X P g d' x.1 0 (em_ent P x.1 x.2.2.1) [] w with
    | none => rw [h1] at e; cases e
    | some p =>
      rw [h1] at e
      obtain ⟨f1, h1⟩ := em_X_iff.mp h1
      obtain ⟨o, w'⟩ := p
      cases o with
      | inl v =>
        obtain ⟨f2, h2⟩ := em_X_iff.mp e
        refine ⟨f1 + f2, ?_⟩
        rw [em_run_le (Nat.le_add_right f1 f2) _ _ _ _ _ _ _ h1]
        exact em_run_le (Nat.le_add_left f2 f1) _ _ _ _ _ _ _ h2
      | inr q =>
        obtain ⟨f2, h2⟩ := em_thr_ct e
        refine ⟨f1 + f2, ?_⟩
        rw [em_run_le (Nat.le_add_right f1 f2) _ _ _ _ _ _ _ h1]
        exact em_thr_le (em_run_le (Nat.le_add_left f2 f1)) h2
theorem em_X_eq (P : em_M) (g : em_G) (d m pc : Nat) (ls st : List Value) (w : em_W) : em_X P g d m pc ls st w = em_drv P (em_X P g) d m pc ls w (em_act P g d m pc ls st w) := by
  apply Option.ext
  intro r
  constructor
  · intro e
    obtain ⟨f, e⟩ := em_X_iff.mp e
    cases f with
    | zero => cases e
    | succ f => exact em_drv_le (em_run_X f) _ e
  · intro e
    obtain ⟨f, e⟩ := em_drv_ct _ e
    exact em_X_iff.mpr ⟨f + 1, e⟩
/-- a whole call -/
noncomputable def em_V (P : em_M) (g : em_G) (d m : Nat) (as : List Value) (w : em_W) : Option (em_O × em_W) := em_X P g d m 0 (em_ent P m as) [] w
/-- what follows a call -/
noncomputable def em_k (P : em_M) (g : em_G) (d m pc n : Nat) (ls st : List Value) : Option (em_O × em_W) → Option (em_O × em_W)
  | none => none
  | some (.inl v, w) => em_X P g d m (pc + n) ls (v.toList ++ st) w
  | some (.inr q, w) => em_thr P (em_X P g) d m pc ls w q.1 q.2
theorem em_k_v {P : em_M} {g : em_G} {d m pc n : Nat} {ls st : List Value} {w : em_W} {v : Value} : em_k P g d m pc n ls st (some (.inl (some v), w)) = em_X P g d m (pc + n) ls (v :: st) w := rfl
theorem em_k_n {P : em_M} {g : em_G} {d m pc n : Nat} {ls st : List Value} {w : em_W} : em_k P g d m pc n ls st (some (.inl none, w)) = em_X P g d m (pc + n) ls st w := rfl
theorem em_k_x {P : em_M} {g : em_G} {d m pc n : Nat} {ls st : List Value} {w : em_W} {q : Nat × Nat} : em_k P g d m pc n ls st (some (.inr q, w)) = em_thr P (em_X P g) d m pc ls w q.1 q.2 := rfl
section EMX
variable {P : em_M} {g : em_G} {d m pc n : Nat} {ls st : List Value} {w : em_W} {i : Instr} {ks : List Nat}
theorem em_go (h : P.1 m pc = some (i, n, ks)) : em_X P g d m pc ls st w = em_drv P (em_X P g) d m pc ls w (em_st g d (P.2.2.1 m) pc n [] ls st w ks i) := by
  rw [em_X_eq, em_act, h]
/-- a plain step -/
theorem em_go1 (h : P.1 m pc = some (i, n, ks)) {pc' : Nat} {ls' st' : List Value} (e : em_st g d (P.2.2.1 m) pc n [] ls st w ks i = em_nx pc' ls' st') : em_X P g d m pc ls st w = em_X P g d m pc' ls' st' w := by
  rw [em_go h, e]
  rfl
/-- a load: what lies in the local -/
noncomputable def em_L (P : em_M) (g : em_G) (d m pc : Nat) (ls st : List Value) (w : em_W) (t : Nat) : Option Value → Option (em_O × em_W)
  | some v => if em_ty t v = true then em_X P g d m pc ls (v :: st) w else none
  | none => none
theorem em_L_i {x : Int32} : em_L P g d m pc ls st w 0 (some (.int x)) = em_X P g d m pc ls (.int x :: st) w := rfl
theorem em_L_l {x : Int64} : em_L P g d m pc ls st w 1 (some (.long x)) = em_X P g d m pc ls (.long x :: st) w := rfl
theorem em_L_r {a : Nat} : em_L P g d m pc ls st w 2 (some (.ref a)) = em_X P g d m pc ls (.ref a :: st) w := rfl
theorem em_L_n : em_L P g d m pc ls st w 2 (some .null) = em_X P g d m pc ls (.null :: st) w := rfl
theorem em_L_v {t : Nat} {v : Value} (h : em_ty t v = true) : em_L P g d m pc ls st w t (some v) = em_X P g d m pc ls (v :: st) w := by rw [em_L, if_pos h]
theorem em_go_ld {t k : Nat} (h : P.1 m pc = some (i, n, ks)) (e : em_st g d (P.2.2.1 m) pc n [] ls st w ks i = em_ld t k pc n ls st) : em_X P g d m pc ls st w = em_L P g d m (pc + n) ls st w t (ls[k]?) := by
  rw [em_go h, e, em_ld]
  cases ls[k]? with
  | none => rfl
  | some v =>
    simp only [em_L]
    split
    · rfl
    · rfl
theorem em_go_st {t k : Nat} {v : Value} (h : P.1 m pc = some (i, n, ks)) (e : em_st g d (P.2.2.1 m) pc n [] ls (v :: st) w ks i = em_sto t k pc n ls (v :: st)) : em_X P g d m pc ls (v :: st) w = if (em_ty t v && em_fr ls k) = true then em_X P g d m (pc + n) (ls.set k v) st w else none := by
  rw [em_go h, e, em_sto]
  split <;> rfl
theorem em_go_stl {k : Nat} {v : Value} (h : P.1 m pc = some (i, n, ks)) (e : em_st g d (P.2.2.1 m) pc n [] ls (v :: st) w ks i = em_stl k pc n ls (v :: st)) : em_X P g d m pc ls (v :: st) w = if (em_ty 1 v && em_fr ls k && decide (k + 1 < ls.length)) = true then em_X P g d m (pc + n) ((ls.set k v).set (k + 1) (.retAddr 1)) st w else none := by
  rw [em_go h, e, em_stl]
  split <;> rfl
noncomputable def em_N (P : em_M) (g : em_G) (d m pc k : Nat) (c : Int32) (ls st : List Value) (w : em_W) : Option Value → Option (em_O × em_W)
  | some (.int x) => em_X P g d m pc (ls.set k (.int (x + c))) st w
  | _ => none
theorem em_N_i {k : Nat} {c x : Int32} : em_N P g d m pc k c ls st w (some (.int x)) = em_X P g d m pc (ls.set k (.int (x + c))) st w := rfl
theorem em_go_inc {k : Nat} {c : Int} {c' : Int32} (hc : Int32.ofInt c = c') (h : P.1 m pc = some (i, n, ks)) (e : em_st g d (P.2.2.1 m) pc n [] ls st w ks i = em_inc k pc n c ls st) : em_X P g d m pc ls st w = em_N P g d m (pc + n) k c' ls st w (ls[k]?) := by
  subst hc
  rw [em_go h, e, em_inc]
  cases ls[k]? with
  | none => rfl
  | some v => cases v <;> rfl
theorem em_go_b2 {c : Int32 → Int32 → Bool} {x y : Int32} {off : Int} {tg : Nat} {p : Prop} [Decidable p] (hp : c x y = decide p) (ht : (pc : Int) + off = (tg : Int)) (h : P.1 m pc = some (i, n, ks)) (e : em_st g d (P.2.2.1 m) pc n [] ls (.int y :: .int x :: st) w ks i = em_b2 c off pc n ls (.int y :: .int x :: st)) :
    em_X P g d m pc ls (.int y :: .int x :: st) w = if p then em_X P g d m tg ls st w else em_X P g d m (pc + n) ls st w := by
  rw [em_go h, e, em_b2, hp, if_pos (by omega), ht]
  by_cases q : p
  · rw [if_pos q, if_pos (by simpa using q)]
    rfl
  · rw [if_neg q, if_neg (by simpa using q)]
    rfl
theorem em_go_b1 {c : Int32 → Bool} {x : Int32} {off : Int} {tg : Nat} {p : Prop} [Decidable p] (hp : c x = decide p) (ht : (pc : Int) + off = (tg : Int)) (h : P.1 m pc = some (i, n, ks)) (e : em_st g d (P.2.2.1 m) pc n [] ls (.int x :: st) w ks i = em_b1 c off pc n ls (.int x :: st)) :
    em_X P g d m pc ls (.int x :: st) w = if p then em_X P g d m tg ls st w else em_X P g d m (pc + n) ls st w := by
  rw [em_go h, e, em_b1, hp, if_pos (by omega), ht]
  by_cases q : p
  · rw [if_pos q, if_pos (by simpa using q)]
    rfl
  · rw [if_neg q, if_neg (by simpa using q)]
    rfl
theorem em_go_jp {off : Int} {tg : Nat} (ht : (pc : Int) + off = (tg : Int)) (h : P.1 m pc = some (i, n, ks)) (e : em_st g d (P.2.2.1 m) pc n [] ls st w ks i = em_jp pc off ls st) : em_X P g d m pc ls st w = em_X P g d m tg ls st w := by
  rw [em_go h, e, em_jp, if_pos (by omega), ht]
  rfl
end EMX
