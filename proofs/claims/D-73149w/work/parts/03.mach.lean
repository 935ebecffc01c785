/-! PART 01: a small machine with a flat memory, run by a plain function; what it computes is shown of the real machine in a later part -/
set_option maxRecDepth 100000
/-- base, next, slots made; statics; kind and size; ints, longs, references by object and place -/
abbrev Mem : Type := (Nat × Nat × Nat) × (Nat → Value) × (Nat → Nat × Nat) × (Nat → Nat → Int32) × (Nat → Nat → Int64) × (Nat → Nat → Option Nat)
def mB (m : Mem) : Nat := m.1.1
def mN (m : Mem) : Nat := m.1.2.1
def mS (m : Mem) : Nat := m.1.2.2
def mT (m : Mem) : Nat → Value := m.2.1
def mK (m : Mem) : Nat → Nat × Nat := m.2.2.1
def mI (m : Mem) : Nat → Nat → Int32 := m.2.2.2.1
def mL (m : Mem) : Nat → Nat → Int64 := m.2.2.2.2.1
def mP (m : Mem) : Nat → Nat → Option Nat := m.2.2.2.2.2
def wI (m : Mem) (a : Nat) (f : Nat → Int32) : Mem := (m.1, m.2.1, m.2.2.1, (fun b => if b = a then f else mI m b), m.2.2.2.2.1, m.2.2.2.2.2)
def wL (m : Mem) (a : Nat) (f : Nat → Int64) : Mem := (m.1, m.2.1, m.2.2.1, m.2.2.2.1, (fun b => if b = a then f else mL m b), m.2.2.2.2.2)
def wP (m : Mem) (a : Nat) (f : Nat → Option Nat) : Mem := (m.1, m.2.1, m.2.2.1, m.2.2.2.1, m.2.2.2.2.1, (fun b => if b = a then f else mP m b))
/-- a new cell of a kind and a size, all zero -/
def mNew (m : Mem) (κ n : Nat) : Mem := ((mB m, mN m + 1, mS m + n), m.2.1, (fun b => if b = mN m then (κ, n) else mK m b), (fun b => if b = mN m then (fun _ => 0) else mI m b), (fun b => if b = mN m then (fun _ => 0) else mL m b), (fun b => if b = mN m then (fun _ => none) else mP m b))
def up {α : Type} (f : Nat → α) (k : Nat) (v : α) : Nat → α := fun j => if j = k then v else f j
theorem up_s {α : Type} {f : Nat → α} {k : Nat} {v : α} : up f k v k = v := if_pos rfl
theorem up_n {α : Type} {f : Nat → α} {k j : Nat} {v : α} (h : j ≠ k) : up f k v j = f j := if_neg h
theorem mB_wI {m : Mem} {a : Nat} {f : Nat → Int32} : mB (wI m a f) = mB m := rfl
theorem mN_wI {m : Mem} {a : Nat} {f : Nat → Int32} : mN (wI m a f) = mN m := rfl
theorem mS_wI {m : Mem} {a : Nat} {f : Nat → Int32} : mS (wI m a f) = mS m := rfl
theorem mT_wI {m : Mem} {a : Nat} {f : Nat → Int32} : mT (wI m a f) = mT m := rfl
theorem mK_wI {m : Mem} {a : Nat} {f : Nat → Int32} : mK (wI m a f) = mK m := rfl
theorem mL_wI {m : Mem} {a : Nat} {f : Nat → Int32} : mL (wI m a f) = mL m := rfl
theorem mP_wI {m : Mem} {a : Nat} {f : Nat → Int32} : mP (wI m a f) = mP m := rfl
theorem mI_wI {m : Mem} {a b : Nat} {f : Nat → Int32} : mI (wI m a f) b = if b = a then f else mI m b := rfl
theorem mI_wIs {m : Mem} {a : Nat} {f : Nat → Int32} : mI (wI m a f) a = f := if_pos rfl
theorem mB_wL {m : Mem} {a : Nat} {f : Nat → Int64} : mB (wL m a f) = mB m := rfl
theorem mN_wL {m : Mem} {a : Nat} {f : Nat → Int64} : mN (wL m a f) = mN m := rfl
theorem mS_wL {m : Mem} {a : Nat} {f : Nat → Int64} : mS (wL m a f) = mS m := rfl
theorem mT_wL {m : Mem} {a : Nat} {f : Nat → Int64} : mT (wL m a f) = mT m := rfl
theorem mK_wL {m : Mem} {a : Nat} {f : Nat → Int64} : mK (wL m a f) = mK m := rfl
theorem mI_wL {m : Mem} {a : Nat} {f : Nat → Int64} : mI (wL m a f) = mI m := rfl
theorem mP_wL {m : Mem} {a : Nat} {f : Nat → Int64} : mP (wL m a f) = mP m := rfl
theorem mL_wL {m : Mem} {a b : Nat} {f : Nat → Int64} : mL (wL m a f) b = if b = a then f else mL m b := rfl
theorem mL_wLs {m : Mem} {a : Nat} {f : Nat → Int64} : mL (wL m a f) a = f := if_pos rfl
theorem mB_wP {m : Mem} {a : Nat} {f : Nat → Option Nat} : mB (wP m a f) = mB m := rfl
theorem mN_wP {m : Mem} {a : Nat} {f : Nat → Option Nat} : mN (wP m a f) = mN m := rfl
theorem mS_wP {m : Mem} {a : Nat} {f : Nat → Option Nat} : mS (wP m a f) = mS m := rfl
theorem mT_wP {m : Mem} {a : Nat} {f : Nat → Option Nat} : mT (wP m a f) = mT m := rfl
theorem mK_wP {m : Mem} {a : Nat} {f : Nat → Option Nat} : mK (wP m a f) = mK m := rfl
theorem mI_wP {m : Mem} {a : Nat} {f : Nat → Option Nat} : mI (wP m a f) = mI m := rfl
theorem mL_wP {m : Mem} {a : Nat} {f : Nat → Option Nat} : mL (wP m a f) = mL m := rfl
theorem mP_wP {m : Mem} {a b : Nat} {f : Nat → Option Nat} : mP (wP m a f) b = if b = a then f else mP m b := rfl
theorem mP_wPs {m : Mem} {a : Nat} {f : Nat → Option Nat} : mP (wP m a f) a = f := if_pos rfl
theorem mB_new {m : Mem} {κ n : Nat} : mB (mNew m κ n) = mB m := rfl
theorem mN_new {m : Mem} {κ n : Nat} : mN (mNew m κ n) = mN m + 1 := rfl
theorem mS_new {m : Mem} {κ n : Nat} : mS (mNew m κ n) = mS m + n := rfl
theorem mT_new {m : Mem} {κ n : Nat} : mT (mNew m κ n) = mT m := rfl
theorem mK_new {m : Mem} {κ n b : Nat} : mK (mNew m κ n) b = if b = mN m then (κ, n) else mK m b := rfl
theorem mI_new {m : Mem} {κ n b : Nat} : mI (mNew m κ n) b = if b = mN m then (fun _ => 0) else mI m b := rfl
theorem mL_new {m : Mem} {κ n b : Nat} : mL (mNew m κ n) b = if b = mN m then (fun _ => 0) else mL m b := rfl
theorem mP_new {m : Mem} {κ n b : Nat} : mP (mNew m κ n) b = if b = mN m then (fun _ => none) else mP m b := rfl
theorem wI_wI {m : Mem} {a : Nat} {f g : Nat → Int32} : wI (wI m a f) a g = wI m a g := by
  have h : (fun b => if b = a then g else mI (wI m a f) b) = fun b => if b = a then g else mI m b := by
    funext b
    by_cases h : b = a
    · rw [if_pos h, if_pos h]
    · rw [if_neg h, if_neg h, mI_wI, if_neg h]
  show (m.1, m.2.1, m.2.2.1, (fun b => if b = a then g else mI (wI m a f) b), m.2.2.2.2.1, m.2.2.2.2.2) = _
  rw [h]
  rfl
theorem wL_wL {m : Mem} {a : Nat} {f g : Nat → Int64} : wL (wL m a f) a g = wL m a g := by
  have h : (fun b => if b = a then g else mL (wL m a f) b) = fun b => if b = a then g else mL m b := by
    funext b
    by_cases h : b = a
    · rw [if_pos h, if_pos h]
    · rw [if_neg h, if_neg h, mL_wL, if_neg h]
  show (m.1, m.2.1, m.2.2.1, m.2.2.2.1, (fun b => if b = a then g else mL (wL m a f) b), m.2.2.2.2.2) = _
  rw [h]
  rfl
theorem wP_wP {m : Mem} {a : Nat} {f g : Nat → Option Nat} : wP (wP m a f) a g = wP m a g := by
  have h : (fun b => if b = a then g else mP (wP m a f) b) = fun b => if b = a then g else mP m b := by
    funext b
    by_cases h : b = a
    · rw [if_pos h, if_pos h]
    · rw [if_neg h, if_neg h, mP_wP, if_neg h]
  show (m.1, m.2.1, m.2.2.1, m.2.2.2.1, m.2.2.2.2.1, (fun b => if b = a then g else mP (wP m a f) b)) = _
  rw [h]
  rfl
theorem wI_self {m : Mem} {a : Nat} : wI m a (mI m a) = m := by
  have h : (fun b => if b = a then mI m a else mI m b) = mI m := by
    funext b
    by_cases h : b = a
    · rw [if_pos h, h]
    · rw [if_neg h]
  show (m.1, m.2.1, m.2.2.1, (fun b => if b = a then mI m a else mI m b), m.2.2.2.2.1, m.2.2.2.2.2) = m
  rw [h]
  rfl
theorem wI_comm {m : Mem} {a b : Nat} {f g : Nat → Int32} (h : a ≠ b) : wI (wI m a f) b g = wI (wI m b g) a f := by
  have e : (fun c => if c = b then g else mI (wI m a f) c) = fun c => if c = a then f else mI (wI m b g) c := by
    funext c
    by_cases h1 : c = b
    · subst h1
      rw [if_pos rfl, if_neg (Ne.symm h), mI_wIs]
    · rw [if_neg h1, mI_wI, mI_wI, if_neg h1]
  show (m.1, m.2.1, m.2.2.1, (fun c => if c = b then g else mI (wI m a f) c), m.2.2.2.2.1, m.2.2.2.2.2) = _
  rw [e]
  rfl
/-! locals -/
def isL : Value → Bool
  | .long _ => true
  | .double _ => true
  | _ => false
abbrev unset : Value := .retAddr 0
def stl1 : List Value → Nat → Value → List Value
  | [], _, _ => []
  | _ :: t, 0, v => v :: t
  | w :: t, i + 1, v => (bif isL w && i == 0 then unset else w) :: stl1 t i v
def clr1 : List Value → List Value
  | [] => []
  | _ :: t => unset :: t
def stl2 : List Value → Nat → Value → List Value
  | [], _, _ => []
  | _ :: t, 0, v => v :: clr1 t
  | w :: t, i + 1, v => (bif isL w && i == 0 then unset else w) :: stl2 t i v
def slA : List Value → List Value
  | [] => []
  | v :: vs => bif isL v then v :: unset :: slA vs else v :: slA vs
/-- the locals with which a method begins -/
def ent (n : Nat) (as : List Value) : List Value := slA as ++ List.replicate (n - (slA as).length) unset
def popA : Nat → List Value → List Value → Option (List Value × List Value)
  | 0, acc, st => some (acc, st)
  | n + 1, acc, v :: st => popA n (v :: acc) st
  | _ + 1, _, [] => none
/-! one step that goes on in the same method: pc, locals, stack, memory -/
abbrev Nx : Type := Nat × List Value × List Value × Mem
def oN (pc : Nat) (ls st : List Value) (m : Mem) : Option Nx := some (pc, ls, st, m)
def gt0 (pc : Nat) (off : Int) (k : Nat → Option Nx) : Option Nx := if 0 ≤ (pc : Int) + off then k ((pc : Int) + off).toNat else none
/-! what a place of the locals or the stack must be -/
def lI (v : Option Value) (k : Int32 → Option Nx) : Option Nx := match v with
  | some (.int x) => k x
  | _ => none
def lL (v : Option Value) (k : Int64 → Option Nx) : Option Nx := match v with
  | some (.long x) => k x
  | _ => none
def lR (v : Option Value) (k : Option Nat → Option Nx) : Option Nx := match v with
  | some (.ref x) => k (some x)
  | some .null => k none
  | _ => none
def pI (st : List Value) (k : Int32 → List Value → Option Nx) : Option Nx := match st with
  | .int x :: r => k x r
  | _ => none
def pL (st : List Value) (k : Int64 → List Value → Option Nx) : Option Nx := match st with
  | .long x :: r => k x r
  | _ => none
def pR (st : List Value) (k : Option Nat → List Value → Option Nx) : Option Nx := match st with
  | .ref x :: r => k (some x) r
  | .null :: r => k none r
  | _ => none
def pA (st : List Value) (k : Nat → List Value → Option Nx) : Option Nx := match st with
  | .ref x :: r => k x r
  | _ => none
def p1 (st : List Value) (k : Value → List Value → Option Nx) : Option Nx := match st with
  | v :: r => bif isL v then none else k v r
  | _ => none
def p2 (st : List Value) (k : Value → List Value → Option Nx) : Option Nx := match st with
  | v :: r => bif isL v then k v r else none
  | _ => none
/-- constants, locals, stack -/
def gA (i : Instr) (pc : Nat) (ls st : List Value) (m : Mem) : Option Nx := match i with
  | .iconst n => oN (pc + 1) ls (.int (Int32.ofInt n) :: st) m
  | .bipush n => oN (pc + 2) ls (.int (Int8.ofInt n).toInt32 :: st) m
  | .sipush n => oN (pc + 3) ls (.int (Int16.ofInt n).toInt32 :: st) m
  | .lconst n => oN (pc + 1) ls (.long (Int64.ofNat (n : Nat)) :: st) m
  | .aconst_null => oN (pc + 1) ls (.null :: st) m
  | .iload_n k => lI ls[(k : Nat)]? fun x => oN (pc + 1) ls (.int x :: st) m
  | .iload k => lI ls[k]? fun x => oN (pc + 2) ls (.int x :: st) m
  | .lload_n k => lL ls[(k : Nat)]? fun x => oN (pc + 1) ls (.long x :: st) m
  | .lload k => lL ls[k]? fun x => oN (pc + 2) ls (.long x :: st) m
  | .aload_n k => lR ls[(k : Nat)]? fun x => oN (pc + 1) ls (va_rf x :: st) m
  | .aload k => lR ls[k]? fun x => oN (pc + 2) ls (va_rf x :: st) m
  | _ => none
/-- stores, stack words -/
def gB (i : Instr) (pc : Nat) (ls st : List Value) (m : Mem) : Option Nx := match i with
  | .istore_n k => pI st fun x r => if (k : Nat) < ls.length then oN (pc + 1) (stl1 ls k (.int x)) r m else none
  | .istore k => pI st fun x r => if k < ls.length then oN (pc + 2) (stl1 ls k (.int x)) r m else none
  | .lstore_n k => pL st fun x r => if (k : Nat) + 1 < ls.length then oN (pc + 1) (stl2 ls k (.long x)) r m else none
  | .lstore k => pL st fun x r => if k + 1 < ls.length then oN (pc + 2) (stl2 ls k (.long x)) r m else none
  | .astore_n k => pR st fun x r => if (k : Nat) < ls.length then oN (pc + 1) (stl1 ls k (va_rf x)) r m else none
  | .astore k => pR st fun x r => if k < ls.length then oN (pc + 2) (stl1 ls k (va_rf x)) r m else none
  | .iinc k n => lI ls[k]? fun x => oN (pc + 3) (stl1 ls k (.int (x + Int32.ofInt n))) st m
  | .dup => p1 st fun v r => oN (pc + 1) ls (v :: v :: r) m
  | .pop => p1 st fun _ r => oN (pc + 1) ls r m
  | .dup_x1 => p1 st fun v r => p1 r fun w r => oN (pc + 1) ls (v :: w :: v :: r) m
  | .dup2 => match st with
    | v :: w :: r => bif isL v then oN (pc + 1) ls (v :: v :: w :: r) m else bif isL w then none else oN (pc + 1) ls (v :: w :: v :: w :: r) m
    | [v] => bif isL v then oN (pc + 1) ls [v, v] m else none
    | _ => none
  | _ => none
/-- ints -/
def gC (i : Instr) (pc : Nat) (ls st : List Value) (m : Mem) : Option Nx := match i with
  | .iadd => pI st fun y r => pI r fun x r => oN (pc + 1) ls (.int (x + y) :: r) m
  | .isub => pI st fun y r => pI r fun x r => oN (pc + 1) ls (.int (x - y) :: r) m
  | .imul => pI st fun y r => pI r fun x r => oN (pc + 1) ls (.int (x * y) :: r) m
  | .iand => pI st fun y r => pI r fun x r => oN (pc + 1) ls (.int (x &&& y) :: r) m
  | .ior => pI st fun y r => pI r fun x r => oN (pc + 1) ls (.int (x ||| y) :: r) m
  | .ixor => pI st fun y r => pI r fun x r => oN (pc + 1) ls (.int (x ^^^ y) :: r) m
  | .idiv => pI st fun y r => pI r fun x r => if y = 0 then none else oN (pc + 1) ls (.int (x / y) :: r) m
  | .irem => pI st fun y r => pI r fun x r => if y = 0 then none else oN (pc + 1) ls (.int (x - x / y * y) :: r) m
  | .ishl => pI st fun y r => pI r fun x r => oN (pc + 1) ls (.int (x <<< (y &&& 31)) :: r) m
  | .ishr => pI st fun y r => pI r fun x r => oN (pc + 1) ls (.int (x >>> (y &&& 31)) :: r) m
  | .iushr => pI st fun y r => pI r fun x r => oN (pc + 1) ls (.int (x.toUInt32 >>> (y.toUInt32 &&& Int32.toUInt32 31)).toInt32 :: r) m
  | .ineg => pI st fun x r => oN (pc + 1) ls (.int (-x) :: r) m
  | .i2l => pI st fun x r => oN (pc + 1) ls (.long x.toInt64 :: r) m
  | .i2b => pI st fun x r => oN (pc + 1) ls (.int x.toInt8.toInt32 :: r) m
  | .i2c => pI st fun x r => oN (pc + 1) ls (.int (x.toUInt32 % 65536).toInt32 :: r) m
  | _ => none
/-- longs -/
def gD (i : Instr) (pc : Nat) (ls st : List Value) (m : Mem) : Option Nx := match i with
  | .ladd => pL st fun y r => pL r fun x r => oN (pc + 1) ls (.long (x + y) :: r) m
  | .lsub => pL st fun y r => pL r fun x r => oN (pc + 1) ls (.long (x - y) :: r) m
  | .lmul => pL st fun y r => pL r fun x r => oN (pc + 1) ls (.long (x * y) :: r) m
  | .lor => pL st fun y r => pL r fun x r => oN (pc + 1) ls (.long (x ||| y) :: r) m
  | .ldiv => pL st fun y r => pL r fun x r => if y = 0 then none else oN (pc + 1) ls (.long (x / y) :: r) m
  | .lrem => pL st fun y r => pL r fun x r => if y = 0 then none else oN (pc + 1) ls (.long (x - x / y * y) :: r) m
  | .lneg => pL st fun x r => oN (pc + 1) ls (.long (-x) :: r) m
  | .lshl => pI st fun y r => pL r fun x r => oN (pc + 1) ls (.long (x <<< (y.toInt64 &&& 63)) :: r) m
  | .lshr => pI st fun y r => pL r fun x r => oN (pc + 1) ls (.long (x >>> (y.toInt64 &&& 63)) :: r) m
  | .l2i => pL st fun x r => oN (pc + 1) ls (.int x.toInt32 :: r) m
  | .lcmp => pL st fun y r => pL r fun x r => oN (pc + 1) ls (.int (lg_cmp x y) :: r) m
  | _ => none
/-- branches: of two ways one, by a proposition that can be decided -/
def br (c : Prop) [Decidable c] (pc : Nat) (off : Int) (ls st : List Value) (m : Mem) : Option Nx := gt0 pc off fun t => if c then oN t ls st m else oN (pc + 3) ls st m
def gE (i : Instr) (pc : Nat) (ls st : List Value) (m : Mem) : Option Nx := match i with
  | .ifCond .eq off => pI st fun x r => br (x = 0) pc off ls r m
  | .ifCond .ne off => pI st fun x r => br (¬ x = 0) pc off ls r m
  | .ifCond .lt off => pI st fun x r => br (x < 0) pc off ls r m
  | .ifCond .ge off => pI st fun x r => br (0 ≤ x) pc off ls r m
  | .ifCond .gt off => pI st fun x r => br (0 < x) pc off ls r m
  | .ifCond .le off => pI st fun x r => br (x ≤ 0) pc off ls r m
  | .if_icmp .eq off => pI st fun y r => pI r fun x r => br (x = y) pc off ls r m
  | .if_icmp .ne off => pI st fun y r => pI r fun x r => br (¬ x = y) pc off ls r m
  | .if_icmp .lt off => pI st fun y r => pI r fun x r => br (x < y) pc off ls r m
  | .if_icmp .ge off => pI st fun y r => pI r fun x r => br (y ≤ x) pc off ls r m
  | .if_icmp .gt off => pI st fun y r => pI r fun x r => br (y < x) pc off ls r m
  | .if_icmp .le off => pI st fun y r => pI r fun x r => br (x ≤ y) pc off ls r m
  | .if_acmp .eq off => pR st fun y r => pR r fun x r => br (x = y) pc off ls r m
  | .if_acmp .ne off => pR st fun y r => pR r fun x r => br (¬ x = y) pc off ls r m
  | .ifnull off => pR st fun x r => br (x = none) pc off ls r m
  | .ifnonnull off => pR st fun x r => br (¬ x = none) pc off ls r m
  | .goto off => gt0 pc off fun t => oN t ls st m
  | _ => none
