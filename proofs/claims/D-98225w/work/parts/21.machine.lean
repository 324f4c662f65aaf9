/-! THE ABSTRACT MACHINE. Values: ints, longs, references (none: null; inl: a cell made in this run, by its number from the run's start; inr: an old object by its number in the tables).
A state: ints, longs, references by cell and slot; kinds of the cells beyond the fixed ones; how many cells and slots have been made. -/
abbrev AR : Type := Option (Nat ⊕ Nat)
abbrev AV : Type := Int32 ⊕ Int64 ⊕ AR
abbrev AS : Type := (Nat → Nat → Int32) × (Nat → Nat → Int64) × (Nat → Nat → AR) × (Nat → Nat × Nat) × Nat × Nat
abbrev LSt : Type := List (Option AV)
abbrev Ent : Type := Instr × Nat × Nat × List Nat × List (Nat × Nat) × Option Nat
abbrev GM : Type := Bool × Nat × (Nat → Int32) × (Nat → AR)
def CMAX : Nat := 775372
def SMAX : Nat := 6769988
def gI (s : AS) (a k : Nat) : Int32 := s.1 a k
def gL (s : AS) (a k : Nat) : Int64 := s.2.1 a k
def rfx (a k : Nat) : AR → AR := fun r => match fixR a k with
  | some q => q
  | none => r
def gR (ph : Bool) (s : AS) (a k : Nat) : AR := match ph with
  | true => rfx a k (s.2.2.1 a k)
  | false => s.2.2.1 a k
def zn (s : AS) : Nat := s.2.2.2.2.1
def zu (s : AS) : Nat := s.2.2.2.2.2
def sI (s : AS) (a k : Nat) (v : Int32) : AS := (fun b j => if b = a ∧ j = k then v else s.1 b j, s.2)
def sL (s : AS) (a k : Nat) (v : Int64) : AS := (s.1, fun b j => if b = a ∧ j = k then v else s.2.1 b j, s.2.2)
def sR (s : AS) (a k : Nat) (v : AR) : AS := (s.1, s.2.1, fun b j => if b = a ∧ j = k then v else s.2.2.1 b j, s.2.2.2)
def kd (ph : Bool) (s : AS) (a : Nat) : Nat × Nat := match Nat.ble NF a with
  | true => s.2.2.2.1 a
  | false => (match ph with
    | true => fixK a
    | false => (match Nat.ble (zn s) a with
      | true => (99, 0)
      | false => fixK a))
/-- a new cell of kind q with n slots -/
def nw (s : AS) (q : Nat × Nat) (n : Nat) : AS := (fun b j => if b = zn s then 0 else s.1 b j, fun b j => if b = zn s then 0 else s.2.1 b j, fun b j => if b = zn s then none else s.2.2.1 b j, fun b => if b = zn s then q else s.2.2.2.1 b, zn s + 1, zu s + n)
/-- n of b's elements from sp on, copied to a from dp on -/
def cpI (s : AS) (b a sp dp n : Nat) : AS := (fun c j => if c = a then (if dp ≤ j ∧ j < dp + n then s.1 b (sp + (j - dp)) else s.1 a j) else s.1 c j, s.2)
def cpR (s : AS) (b a sp dp n : Nat) : AS := (s.1, s.2.1, fun c j => if c = a then (if dp ≤ j ∧ j < dp + n then s.2.2.1 b (sp + (j - dp)) else s.2.2.1 a j) else s.2.2.1 c j, s.2.2.2)
/-- n new arrays of m ints behind a new array of them -/
def nw2 (s : AS) (n m : Nat) : AS := (fun b j => if zn s ≤ b ∧ b ≤ zn s + n then 0 else s.1 b j, fun b j => if zn s ≤ b ∧ b ≤ zn s + n then 0 else s.2.1 b j, fun b j => if b = zn s then some (.inl (zn s + 1 + j)) else if zn s ≤ b ∧ b ≤ zn s + n then none else s.2.2.1 b j, s.2.2.2.1, zn s + 1 + n, zu s + n + n * m)
def Grd (b : Bool) (P : Prop) : Prop := match b with
  | true => P
  | false => False
def kcode0 (n : Nat) : Nat := match Nat.blt n 1000 with
  | true => n
  | false => 9999
def kcode (q : Nat × Nat) : Nat := match q.1 with
  | 0 => kcode0 q.2
  | t+1 => 1001 + t
def kcodeO (q : Nat × Nat) : Nat := match q.1 with
  | 0 => kcode0 q.2
  | _+1 => 9999
def setO : LSt → Nat → Option AV → LSt
  | [], _, _ => []
  | _ :: t, 0, v => v :: t
  | x :: t, n+1, v => x :: setO t n v
def getL : LSt → Nat → Option AV
  | [], _ => none
  | x :: _, 0 => x
  | _ :: t, n+1 => getL t n
def isJ : Option AV → Bool
  | some (.inr (.inl _)) => true
  | _ => false
/-- a long that ends at i is gone -/
def cutL (l : LSt) (i : Nat) : LSt := match i with
  | 0 => l
  | i+1 => (match isJ (getL l i) with
    | true => setO l i none
    | false => l)
def setA1 (l : LSt) (i : Nat) (v : AV) : LSt := setO (cutL l i) i (some v)
def setA2 (l : LSt) (i : Nat) (v : AV) : LSt := setO (setO (cutL l i) i (some v)) (i+1) none
def getE : List Ent → Nat → Option Ent
  | [], _ => none
  | x :: _, 0 => some x
  | _ :: t, n+1 => getE t n
def acat : AV → Nat
  | .inr (.inl _) => 2
  | _ => 1
def scat : List AV → Nat
  | [] => 0
  | v :: t => acat v + scat t
def popN : Nat → List AV → List AV → Option (List AV × List AV)
  | 0, acc, st => some (acc, st)
  | n+1, acc, v :: st => popN n (v :: acc) st
  | _+1, _, [] => none
def lkp : List (Nat × Nat) → Nat → Option Nat
  | [], _ => none
  | x :: t, c => match Nat.beq x.1 c with
    | true => some x.2
    | false => lkp t c
def tyOf : Nat → FieldType
  | 1 => .boolean
  | 2 => .byte
  | 3 => .char
  | 4 => .short
  | 5 => .int
  | 6 => .long
  | 7 => .object "java/lang/Object"
  | 8 => .object "BreathTown$State"
  | 9 => .array .int
  | _ => .object "java/lang/String"
def NarOK (t : Nat) (v : Int32) : Prop := narrow (tyOf t) (.int v) = .int v ∧ fits (tyOf t) (.int v) = true
abbrev KN : Type := Nat → LSt → List AV → AS → Prop
def kdA (g : GM) (s : AS) : Nat ⊕ Nat → Nat × Nat
  | .inl a => kd g.1 s a
  | .inr j => oK g.2.1 j
def kcA (g : GM) (s : AS) : Nat ⊕ Nat → Nat
  | .inl a => kcode (kd g.1 s a)
  | .inr j => kcodeO (oK g.2.1 j)
def isOb (q : Nat × Nat) (cs : List Nat) : Bool := match q.1 with
  | 0 => cs.contains q.2
  | _+1 => false
def ifB (c : ClassFile.Cond) (x y : Int32) (A B : Prop) : Prop := match c with
  | .eq => (x = y → A) ∧ (¬ x = y → B)
  | .ne => (¬ x = y → A) ∧ (x = y → B)
  | .lt => (x < y → A) ∧ (¬ x < y → B)
  | .ge => (y ≤ x → A) ∧ (¬ y ≤ x → B)
  | .gt => (y < x → A) ∧ (¬ y < x → B)
  | .le => (x ≤ y → A) ∧ (¬ x ≤ y → B)
def swT (x : Int32) (K : Nat → Prop) : List (Int × Nat) → Nat → Prop
  | [], d => K d
  | q :: t, d => (match q.1 with
    | .ofNat n => (x = nI n → K q.2) ∧ (¬ x = nI n → swT x K t d)
    | .negSucc n => (x = - nI (n+1) → K q.2) ∧ (¬ x = - nI (n+1) → swT x K t d))
def zipT (lo : Int) : List Nat → List (Int × Nat)
  | [] => []
  | t :: r => (lo, t) :: zipT (lo + 1) r
def zipL : List (Int × Int) → List Nat → List (Int × Nat)
  | p :: r, t :: u => (p.1, t) :: zipL r u
  | _, _ => []
def kInt (sg mag : Nat) : Int := match sg with
  | 0 => (mag : Int)
  | _+1 => - (mag : Int)
def ldf (g : GM) (s : AS) (t f : Nat) (a : Nat ⊕ Nat) : AV := match t with
  | 6 => (match a with | .inl a => .inr (.inl (gL s a f)) | .inr _ => .inr (.inl 0))
  | 7 => (match a with | .inl a => .inr (.inr (gR g.1 s a f)) | .inr j => .inr (.inr (oR j f)))
  | _ => (match a with | .inl a => .inl (gI s a f) | .inr j => .inl (oI g.2.2.1 j f))
/-- room for one cell of n slots, and its place among the fixed ones -/
def roomy (g : GM) (s : AS) (q : Nat × Nat) (n : Nat) (P : Prop) : Prop := match g.1 with
  | true => (zn s + 1 ≤ CMAX ∧ zu s + n ≤ SMAX) ∧ P
  | false => Grd (Nat.blt (zn s) NF && (Nat.beq (fixK (zn s)).1 q.1 && Nat.beq (fixK (zn s)).2 q.2)) ((zn s + 1 ≤ CMAX ∧ zu s + n ≤ SMAX) ∧ P)
/-- the fixed cells from a on for n: all arrays of m ints -/
def fixRun : Nat → Nat → Nat → Bool
  | 0, _, _ => true
  | n+1, a, m => Nat.blt a NF && (Nat.beq (fixK a).1 5 && Nat.beq (fixK a).2 m) && fixRun n (a+1) m
def ref (r : AR) : AV := .inr (.inr r)
def oldOK (j : Nat) : Bool := Nat.blt 0 j && Nat.blt j 95
/-- an element of an array of objects: none, or an object of ours -/
def elOK (g : GM) (s : AS) (r : AR) : Prop := match r with
  | none => True
  | some (.inl a) => isOb (kd g.1 s a) [0,1,2,3,4,5,6,7,8,9,10,11,12,13,14,15,16,17,18,19,20,21,22] = true
  | some (.inr _) => False
def supOK (q : Nat × Nat) : List (Nat × Nat) → Bool
  | [] => true
  | x :: _ => isOb q [x.1]
abbrev CTy : Type := Nat → List AV → AS → (Option AV → AS → Prop) → (AS → Prop) → Prop
def stp (g : GM) (ct : CTy) (i : Nat) (e : Ent) (ls : LSt) (st : List AV) (s : AS) (k : KN) (N : Option AV → AS → Prop) (X : AS → Prop) : Prop :=
  match e.1 with
  | .aload_n n => (match getL ls n with
    | some (.inr (.inr r)) => k (i+1) ls (.inr (.inr r) :: st) s
    | _ => False)
  | .aload n => (match getL ls n with
    | some (.inr (.inr r)) => k (i+1) ls (.inr (.inr r) :: st) s
    | _ => False)
  | .iload_n n => (match getL ls n with
    | some (.inl x) => k (i+1) ls (.inl x :: st) s
    | _ => False)
  | .iload n => (match getL ls n with
    | some (.inl x) => k (i+1) ls (.inl x :: st) s
    | _ => False)
  | .lload_n n => (match getL ls n with
    | some (.inr (.inl x)) => k (i+1) ls (.inr (.inl x) :: st) s
    | _ => False)
  | .lload n => (match getL ls n with
    | some (.inr (.inl x)) => k (i+1) ls (.inr (.inl x) :: st) s
    | _ => False)
  | .istore_n n => (match st with
    | .inl x :: st => k (i+1) (setA1 ls n (.inl x)) st s
    | _ => False)
  | .istore n => (match st with
    | .inl x :: st => k (i+1) (setA1 ls n (.inl x)) st s
    | _ => False)
  | .astore_n n => (match st with
    | .inr (.inr r) :: st => k (i+1) (setA1 ls n (.inr (.inr r))) st s
    | _ => False)
  | .astore n => (match st with
    | .inr (.inr r) :: st => k (i+1) (setA1 ls n (.inr (.inr r))) st s
    | _ => False)
  | .lstore_n n => (match st with
    | .inr (.inl x) :: st => k (i+1) (setA2 ls n (.inr (.inl x))) st s
    | _ => False)
  | .lstore n => (match st with
    | .inr (.inl x) :: st => k (i+1) (setA2 ls n (.inr (.inl x))) st s
    | _ => False)
  | .iinc n _ => (match getL ls n, e.2.2.2.1 with
    | some (.inl x), [0, m] => k (i+1) (setA1 ls n (.inl (x + nI m))) st s
    | some (.inl x), [1, m] => k (i+1) (setA1 ls n (.inl (x - nI m))) st s
    | _, _ => False)
  | .iconst _ => (match e.2.2.2.1 with
    | [0, m] => k (i+1) ls (.inl (nI m) :: st) s
    | [1, m] => k (i+1) ls (.inl (- nI m) :: st) s
    | _ => False)
  | .bipush _ => (match e.2.2.2.1 with
    | [0, m] => k (i+1) ls (.inl (nI m) :: st) s
    | [1, m] => k (i+1) ls (.inl (- nI m) :: st) s
    | _ => False)
  | .sipush _ => (match e.2.2.2.1 with
    | [0, m] => k (i+1) ls (.inl (nI m) :: st) s
    | [1, m] => k (i+1) ls (.inl (- nI m) :: st) s
    | _ => False)
  | .lconst _ => (match e.2.2.2.1 with
    | [m] => k (i+1) ls (.inr (.inl (lN m)) :: st) s
    | _ => False)
  | .aconst_null => k (i+1) ls (.inr (.inr none) :: st) s
  | .ldc _ => (match e.2.2.2.1 with
    | [0, 0, m] => k (i+1) ls (.inl (nI m) :: st) s
    | [0, 1, m] => k (i+1) ls (.inl (- nI m) :: st) s
    | [1, j] => k (i+1) ls (.inr (.inr (some (.inr j))) :: st) s
    | [2] => k (i+1) ls (.inr (.inr (some (.inr 95))) :: st) s
    | _ => False)
  | .ldc_w _ => (match e.2.2.2.1 with
    | [0, 0, m] => k (i+1) ls (.inl (nI m) :: st) s
    | [0, 1, m] => k (i+1) ls (.inl (- nI m) :: st) s
    | [1, j] => k (i+1) ls (.inr (.inr (some (.inr j))) :: st) s
    | _ => False)
  | .ldc2_w _ => (match e.2.2.2.1 with
    | [0, m] => k (i+1) ls (.inr (.inl (lN m)) :: st) s
    | [1, m] => k (i+1) ls (.inr (.inl (- lN m)) :: st) s
    | _ => False)
  | .dup => (match st with
    | .inl x :: st => k (i+1) ls (.inl x :: .inl x :: st) s
    | .inr (.inr r) :: st => k (i+1) ls (.inr (.inr r) :: .inr (.inr r) :: st) s
    | _ => False)
  | .pop => (match st with
    | .inl _ :: st => k (i+1) ls st s
    | .inr (.inr _) :: st => k (i+1) ls st s
    | _ => False)
  | .dup_x1 => (match st with
    | .inl x :: .inr (.inr r) :: st => k (i+1) ls (.inl x :: .inr (.inr r) :: .inl x :: st) s
    | .inl x :: .inl y :: st => k (i+1) ls (.inl x :: .inl y :: .inl x :: st) s
    | .inr (.inr x) :: .inr (.inr r) :: st => k (i+1) ls (.inr (.inr x) :: .inr (.inr r) :: .inr (.inr x) :: st) s
    | _ => False)
  | .dup2 => (match st with
    | .inl x :: .inr (.inr r) :: st => k (i+1) ls (.inl x :: .inr (.inr r) :: .inl x :: .inr (.inr r) :: st) s
    | .inl x :: .inl y :: st => k (i+1) ls (.inl x :: .inl y :: .inl x :: .inl y :: st) s
    | .inr (.inl x) :: st => k (i+1) ls (.inr (.inl x) :: .inr (.inl x) :: st) s
    | _ => False)
  | .iadd => (match st with
    | .inl y :: .inl x :: st => k (i+1) ls (.inl (x + y) :: st) s
    | _ => False)
  | .isub => (match st with
    | .inl y :: .inl x :: st => k (i+1) ls (.inl (x - y) :: st) s
    | _ => False)
  | .imul => (match st with
    | .inl y :: .inl x :: st => k (i+1) ls (.inl (x * y) :: st) s
    | _ => False)
  | .idiv => (match st with
    | .inl y :: .inl x :: st => ¬ y = 0 ∧ k (i+1) ls (.inl (x / y) :: st) s
    | _ => False)
  | .irem => (match st with
    | .inl y :: .inl x :: st => ¬ y = 0 ∧ k (i+1) ls (.inl (x - x / y * y) :: st) s
    | _ => False)
  | .ineg => (match st with
    | .inl x :: st => k (i+1) ls (.inl (-x) :: st) s
    | _ => False)
  | .iand => (match st with
    | .inl y :: .inl x :: st => k (i+1) ls (.inl (x &&& y) :: st) s
    | _ => False)
  | .ior => (match st with
    | .inl y :: .inl x :: st => k (i+1) ls (.inl (x ||| y) :: st) s
    | _ => False)
  | .ixor => (match st with
    | .inl y :: .inl x :: st => k (i+1) ls (.inl (x ^^^ y) :: st) s
    | _ => False)
  | .ishl => (match st with
    | .inl y :: .inl x :: st => k (i+1) ls (.inl (x <<< (y &&& 31)) :: st) s
    | _ => False)
  | .ishr => (match st with
    | .inl y :: .inl x :: st => k (i+1) ls (.inl (x >>> (y &&& 31)) :: st) s
    | _ => False)
  | .iushr => (match st with
    | .inl y :: .inl x :: st => k (i+1) ls (.inl ((x.toUInt32 >>> (y.toUInt32 &&& Int32.toUInt32 31)).toInt32) :: st) s
    | _ => False)
  | .ladd => (match st with
    | .inr (.inl y) :: .inr (.inl x) :: st => k (i+1) ls (.inr (.inl (x + y)) :: st) s
    | _ => False)
  | .lsub => (match st with
    | .inr (.inl y) :: .inr (.inl x) :: st => k (i+1) ls (.inr (.inl (x - y)) :: st) s
    | _ => False)
  | .lmul => (match st with
    | .inr (.inl y) :: .inr (.inl x) :: st => k (i+1) ls (.inr (.inl (x * y)) :: st) s
    | _ => False)
  | .ldiv => (match st with
    | .inr (.inl y) :: .inr (.inl x) :: st => ¬ y = 0 ∧ k (i+1) ls (.inr (.inl (x / y)) :: st) s
    | _ => False)
  | .lrem => (match st with
    | .inr (.inl y) :: .inr (.inl x) :: st => ¬ y = 0 ∧ k (i+1) ls (.inr (.inl (x - x / y * y)) :: st) s
    | _ => False)
  | .lxor => (match st with
    | .inr (.inl y) :: .inr (.inl x) :: st => k (i+1) ls (.inr (.inl (x ^^^ y)) :: st) s
    | _ => False)
  | .lcmp => (match st with
    | .inr (.inl y) :: .inr (.inl x) :: st => k (i+1) ls (.inl (lg_cmp x y) :: st) s
    | _ => False)
  | .i2l => (match st with
    | .inl x :: st => k (i+1) ls (.inr (.inl x.toInt64) :: st) s
    | _ => False)
  | .l2i => (match st with
    | .inr (.inl x) :: st => k (i+1) ls (.inl x.toInt32 :: st) s
    | _ => False)
  | .i2b => (match st with
    | .inl x :: st => k (i+1) ls (.inl x.toInt8.toInt32 :: st) s
    | _ => False)
  | .i2c => (match st with
    | .inl x :: st => k (i+1) ls (.inl (x.toUInt32 % 65536).toInt32 :: st) s
    | _ => False)
  | .ifCond c _ => (match st, e.2.2.2.1 with
    | .inl x :: st, [t] => ifB c x (nI 0) (k t ls st s) (k (i+1) ls st s)
    | _, _ => False)
  | .if_icmp c _ => (match st, e.2.2.2.1 with
    | .inl y :: .inl x :: st, [t] => ifB c x y (k t ls st s) (k (i+1) ls st s)
    | _, _ => False)
  | .ifnull _ => (match st, e.2.2.2.1 with
    | .inr (.inr none) :: st, [t] => k t ls st s
    | .inr (.inr (some _)) :: st, [_] => k (i+1) ls st s
    | _, _ => False)
  | .ifnonnull _ => (match st, e.2.2.2.1 with
    | .inr (.inr none) :: st, [_] => k (i+1) ls st s
    | .inr (.inr (some _)) :: st, [t] => k t ls st s
    | _, _ => False)
  | .if_acmp c _ => (match st, e.2.2.2.1 with
    | .inr (.inr (some (.inl b))) :: .inr (.inr (some (.inl a))) :: st, [t] => (match c with
      | .eq => (a = b → k t ls st s) ∧ (¬ a = b → k (i+1) ls st s)
      | .ne => (¬ a = b → k t ls st s) ∧ (a = b → k (i+1) ls st s))
    | .inr (.inr (some (.inl _))) :: .inr (.inr (some (.inr j))) :: st, [t] => Grd (oldOK j) (match c with
      | .eq => k (i+1) ls st s
      | .ne => k t ls st s)
    | .inr (.inr (some (.inr j))) :: .inr (.inr (some (.inl _))) :: st, [t] => Grd (oldOK j) (match c with
      | .eq => k (i+1) ls st s
      | .ne => k t ls st s)
    | .inr (.inr (some (.inr j))) :: .inr (.inr (some (.inr q))) :: st, [t] => Grd (Nat.beq j q) (match c with
      | .eq => k t ls st s
      | .ne => k (i+1) ls st s)
    | _, _ => False)
  | .goto _ => (match e.2.2.2.1 with
    | [t] => k t ls st s
    | _ => False)
  | .tableswitch _ lo _ _ => (match st, e.2.2.2.1 with
    | .inl x :: st, d :: ts => swT x (fun t => k t ls st s) (zipT lo ts) d
    | _, _ => False)
  | .lookupswitch _ ps => (match st, e.2.2.2.1 with
    | .inl x :: st, d :: ts => swT x (fun t => k t ls st s) (zipL ps.toList ts) d
    | _, _ => False)
  | .getfield _ => (match st, e.2.2.2.1 with
    | .inr (.inr (some a)) :: st, t :: f :: cs => Grd (isOb (kdA g s a) cs) (k (i+1) ls (ldf g s t f a :: st) s)
    | _, _ => False)
  | .putfield _ => (match st, e.2.2.2.1 with
    | .inl v :: .inr (.inr (some (.inl a))) :: st, 5 :: _ :: f :: cs => Grd (isOb (kd g.1 s a) cs) (k (i+1) ls st (sI s a f v))
    | .inl v :: .inr (.inr (some (.inl a))) :: st, t :: _ :: f :: cs => Grd (isOb (kd g.1 s a) cs && Nat.blt t 5) (NarOK t v ∧ k (i+1) ls st (sI s a f v))
    | .inr (.inl v) :: .inr (.inr (some (.inl a))) :: st, 6 :: _ :: f :: cs => Grd (isOb (kd g.1 s a) cs) (k (i+1) ls st (sL s a f v))
    | .inr (.inr v) :: .inr (.inr (some (.inl a))) :: st, 7 :: _ :: f :: cs => Grd (isOb (kd g.1 s a) cs && (!g.1 || (fixR a f).isNone)) (k (i+1) ls st (sR s a f v))
    | _, _ => False)
  | .getstatic _ => (match e.2.2.2.1 with
    | [0, v] => k (i+1) ls (.inl (nI v) :: st) s
    | [1, j] => k (i+1) ls (.inr (.inr (some (.inr j))) :: st) s
    | [2, j] => k (i+1) ls (.inr (.inr (g.2.2.2 j)) :: st) s
    | _ => False)
  | .arraylength => (match st with
    | .inr (.inr (some a)) :: st => Grd (Nat.ble 1 (kdA g s a).1 && Nat.ble (kdA g s a).1 10) (k (i+1) ls (.inl (nI (kdA g s a).2) :: st) s)
    | _ => False)
  | .iaload => (match st with
    | .inl j :: .inr (.inr (some a)) :: st => Grd (Nat.beq (kdA g s a).1 5) (vp_in j (kdA g s a).2 ∧ k (i+1) ls (ldf g s 5 j.toNatClampNeg a :: st) s)
    | _ => False)
  | .baload => (match st with
    | .inl j :: .inr (.inr (some a)) :: st => Grd (Nat.beq (kdA g s a).1 1 || Nat.beq (kdA g s a).1 2) (vp_in j (kdA g s a).2 ∧ k (i+1) ls (ldf g s 5 j.toNatClampNeg a :: st) s)
    | _ => False)
  | .caload => (match st with
    | .inl j :: .inr (.inr (some (.inl a))) :: st => Grd (Nat.beq (kd g.1 s a).1 3) (vp_in j (kd g.1 s a).2 ∧ k (i+1) ls (.inl (gI s a j.toNatClampNeg) :: st) s)
    | _ => False)
  | .laload => (match st with
    | .inl j :: .inr (.inr (some (.inl a))) :: st => Grd (Nat.beq (kd g.1 s a).1 6) (vp_in j (kd g.1 s a).2 ∧ k (i+1) ls (.inr (.inl (gL s a j.toNatClampNeg)) :: st) s)
    | _ => False)
  | .aaload => (match st with
    | .inl j :: .inr (.inr (some a)) :: st => Grd (Nat.ble 7 (kdA g s a).1 && Nat.ble (kdA g s a).1 10) (vp_in j (kdA g s a).2 ∧ k (i+1) ls (ldf g s 7 j.toNatClampNeg a :: st) s)
    | _ => False)
  | .iastore => (match st with
    | .inl v :: .inl j :: .inr (.inr (some (.inl a))) :: st => Grd (Nat.beq (kd g.1 s a).1 5) (vp_in j (kd g.1 s a).2 ∧ k (i+1) ls st (sI s a j.toNatClampNeg v))
    | _ => False)
  | .bastore => (match st with
    | .inl v :: .inl j :: .inr (.inr (some (.inl a))) :: st => Grd (Nat.beq (kd g.1 s a).1 1 || Nat.beq (kd g.1 s a).1 2) (vp_in j (kd g.1 s a).2 ∧ k (i+1) ls st (sI s a j.toNatClampNeg (vp_nar (tyOf (kd g.1 s a).1) v)))
    | _ => False)
  | .castore => (match st with
    | .inl v :: .inl j :: .inr (.inr (some (.inl a))) :: st => Grd (Nat.beq (kd g.1 s a).1 3) (vp_in j (kd g.1 s a).2 ∧ k (i+1) ls st (sI s a j.toNatClampNeg (vp_nar .char v)))
    | _ => False)
  | .lastore => (match st with
    | .inr (.inl v) :: .inl j :: .inr (.inr (some (.inl a))) :: st => Grd (Nat.beq (kd g.1 s a).1 6) (vp_in j (kd g.1 s a).2 ∧ k (i+1) ls st (sL s a j.toNatClampNeg v))
    | _ => False)
  | .aastore => (match st with
    | .inr (.inr (some (.inl v))) :: .inl j :: .inr (.inr (some (.inl a))) :: st => Grd ((Nat.beq (kd g.1 s a).1 7 && isOb (kd g.1 s v) [0,1,2,3,4,5,6,7,8,9,10,11,12,13,14,15,16,17,18,19] || Nat.beq (kd g.1 s a).1 8 && isOb (kd g.1 s v) [5]) && (!g.1 || (fixR a j.toNatClampNeg).isNone)) (vp_in j (kd g.1 s a).2 ∧ k (i+1) ls st (sR s a j.toNatClampNeg (some (.inl v))))
    | _ => False)
  | .new _ => (match e.2.2.2.1 with
    | [c, n] => roomy g s (0, c) n (k (i+1) ls (.inr (.inr (some (.inl (zn s)))) :: st) (nw s (0, c) n))
    | _ => False)
  | .newarray _ => (match st, e.2.2.2.1 with
    | .inl n :: st, [t] => Grd (Nat.ble 1 t && Nat.ble t 6) ((¬ n < 0 ∧ n.toNatClampNeg ≤ 100000) ∧ roomy g s (t, n.toNatClampNeg) n.toNatClampNeg (k (i+1) ls (.inr (.inr (some (.inl (zn s)))) :: st) (nw s (t, n.toNatClampNeg) n.toNatClampNeg)))
    | _, _ => False)
  | .anewarray _ => (match st, e.2.2.2.1 with
    | .inl n :: st, [t] => Grd (Nat.ble 7 t && Nat.ble t 8) ((¬ n < 0 ∧ n.toNatClampNeg ≤ 100000) ∧ roomy g s (t, n.toNatClampNeg) n.toNatClampNeg (k (i+1) ls (.inr (.inr (some (.inl (zn s)))) :: st) (nw s (t, n.toNatClampNeg) n.toNatClampNeg)))
    | _, _ => False)
  | .multianewarray _ _ => (match st, e.2.2.2.1 with
    | .inl y :: .inl x :: st, [n, m] => (match g.1 with
      | true => False
      | false => Grd (Nat.blt (zn s) NF && (Nat.beq (fixK (zn s)).1 9 && Nat.beq (fixK (zn s)).2 n) && fixRun n (zn s + 1) m && (Nat.ble n 100 && Nat.ble m 100)) ((x = nI n ∧ y = nI m) ∧ (zn s + 1 + n ≤ CMAX ∧ zu s + n + n * m ≤ SMAX) ∧ k (i+1) ls (.inr (.inr (some (.inl (zn s)))) :: st) (nw2 s n m)))
    | _, _ => False)
  | .checkcast _ => (match st, e.2.2.2.1 with
    | .inr (.inr (some a)) :: st, cs => Grd (cs.contains (kcA g s a)) (k (i+1) ls (.inr (.inr (some a)) :: st) s)
    | _, _ => False)
  | .instanceof _ => (match st, e.2.2.2.1 with
    | .inr (.inr (some a)) :: st, cs => Grd (cs.contains (kcA g s a)) (k (i+1) ls (.inl (nI 1) :: st) s)
    | _, _ => False)
  | .invokestatic _ => (match e.2.2.2.1 with
    | [97] => (match st with
      | .inl n :: .inl dp :: .inr (.inr (some (.inl a))) :: .inl sp :: .inr (.inr (some (.inl b))) :: st => Grd (Nat.ble (scat st) 8) (((¬ sp < 0 ∧ ¬ dp < 0 ∧ ¬ n < 0) ∧ sp.toNatClampNeg + n.toNatClampNeg ≤ (kd g.1 s b).2 ∧ dp.toNatClampNeg + n.toNatClampNeg ≤ (kd g.1 s a).2) ∧
          (((kd g.1 s a).1 = 2 ∧ (kd g.1 s b).1 = 2 ∧ (∀ j, NarOK 2 (gI s b j)) ∧ k (i+1) ls st (cpI s b a sp.toNatClampNeg dp.toNatClampNeg n.toNatClampNeg)) ∨
           ((kd g.1 s a).1 = 7 ∧ (kd g.1 s b).1 = 7 ∧ (NF ≤ a ∧ NF ≤ b) ∧ (∀ j, elOK g s (gR g.1 s b j)) ∧ k (i+1) ls st (cpR s b a sp.toNatClampNeg dp.toNatClampNeg n.toNatClampNeg))))
      | _ => False)
    | [n, mi] => (match popN n [] st with
      | some (as, st) => Grd (Nat.ble (scat st) 8) (ct mi as s (fun r s => k (i+1) ls (r.toList ++ st) s) (match e.2.2.2.2.2 with
        | none => X
        | some h => fun s => k h ls [.inr (.inr (some (.inl 10)))] s))
      | none => False)
    | _ => False)
  | .invokespecial _ => (match e.2.2.2.1 with
    | [99] => (match st with
      | .inr (.inr (some (.inl _))) :: st => Grd (Nat.ble (scat st) 8) (k (i+1) ls st s)
      | _ => False)
    | [n, mi] => (match popN n [] st with
      | some (as, .inr (.inr (some (.inl a))) :: st) => Grd (supOK (kd g.1 s a) e.2.2.2.2.1 && Nat.ble (scat st) 8) (ct mi (.inr (.inr (some (.inl a))) :: as) s (fun r s => k (i+1) ls (r.toList ++ st) s) (match e.2.2.2.2.2 with
        | none => X
        | some h => fun s => k h ls [.inr (.inr (some (.inl 10)))] s))
      | _ => False)
    | _ => False)
  | .invokevirtual _ => (match e.2.2.2.1 with
    | [96, _] => (match st with
      | .inr (.inr (some (.inl a))) :: st => Grd (Nat.beq (kd g.1 s a).1 7 && Nat.ble (scat st) 8) (k (i+1) ls (.inr (.inr (some (.inr 95))) :: st) s)
      | _ => False)
    | [n] => (match popN n [] st with
      | some (as, .inr (.inr (some a)) :: st) => Grd (Nat.beq (kdA g s a).1 0) (match lkp e.2.2.2.2.1 (kdA g s a).2 with
        | some mi => Grd (Nat.ble (scat st) 8) (ct mi (.inr (.inr (some a)) :: as) s (fun r s => k (i+1) ls (r.toList ++ st) s) (match e.2.2.2.2.2 with
          | none => X
          | some h => fun s => k h ls [.inr (.inr (some (.inl 10)))] s))
        | none => False)
      | _ => False)
    | _ => False)
  | .invokeinterface _ _ => (match e.2.2.2.1 with
    | [n] => (match popN n [] st with
      | some (as, .inr (.inr (some (.inl a))) :: st) => Grd (Nat.beq (kd g.1 s a).1 0) (match lkp e.2.2.2.2.1 (kd g.1 s a).2 with
        | some mi => Grd (Nat.ble (scat st) 8) (ct mi (.inr (.inr (some (.inl a))) :: as) s (fun r s => k (i+1) ls (r.toList ++ st) s) (match e.2.2.2.2.2 with
          | none => X
          | some h => fun s => k h ls [.inr (.inr (some (.inl 10)))] s))
        | none => False)
      | _ => False)
    | _ => False)
  | .ireturn => (match st, e.2.2.2.1 with
    | [.inl v], [5] => N (some (.inl v)) s
    | [.inl v], [t] => NarOK t v ∧ N (some (.inl v)) s
    | _, _ => False)
  | .lreturn => (match st with
    | [.inr (.inl v)] => N (some (.inr (.inl v))) s
    | _ => False)
  | .areturn => (match st with
    | [.inr (.inr r)] => N (some (.inr (.inr r))) s
    | _ => False)
  | .return_ => (match st with
    | [] => N none s
    | _ => False)
  | .athrow => (match st, e.2.2.2.2.2 with
    | .inr (.inr (some (.inl 10))) :: _, none => X s
    | _, _ => False)
  | _ => False
def run (g : GM) (ct : CTy) (tab : List Ent) (labs : List Nat) (P : KN) (N : Option AV → AS → Prop) (X : AS → Prop) : Nat → KN
  | 0, _, _, _, _ => False
  | n+1, i, ls, st, s => (match getE tab i with
    | some e => stp g ct i e ls st s (fun i ls st s => match labs.contains i with
      | true => P i ls st s
      | false => run g ct tab labs P N X n i ls st s) N X
    | none => False)
