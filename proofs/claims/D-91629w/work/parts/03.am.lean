/-! THE ABSTRACT MACHINE: values, heap, one instruction, a block, the run as a limit -/
abbrev AV : Type := Int32 ⊕ (Int64 ⊕ Option Nat)
abbrev vI (x : Int32) : AV := Sum.inl x
abbrev vL (x : Int64) : AV := Sum.inr (Sum.inl x)
abbrev vR (x : Option Nat) : AV := Sum.inr (Sum.inr x)
/-- kinds, lengths, ints, longs, references; the next address; slots used -/
def AH : Type := (Nat → Nat) × (Nat → Nat) × (Nat → Nat → Int32) × (Nat → Nat → Int64) × (Nat → Nat → Option Nat) × Nat × Nat
def AH.kd (h : AH) : Nat → Nat := h.1
def AH.ln (h : AH) : Nat → Nat := h.2.1
def AH.I (h : AH) : Nat → Nat → Int32 := h.2.2.1
def AH.L (h : AH) : Nat → Nat → Int64 := h.2.2.2.1
def AH.R (h : AH) : Nat → Nat → Option Nat := h.2.2.2.2.1
def AH.nx (h : AH) : Nat := h.2.2.2.2.2.1
def AH.us (h : AH) : Nat := h.2.2.2.2.2.2
def up2 {α : Type} (f : Nat → Nat → α) (a j : Nat) (v : α) : Nat → Nat → α := fun x y => if x = a ∧ y = j then v else f x y
def up1 {α : Type} (f : Nat → α) (a : Nat) (v : α) : Nat → α := fun x => if x = a then v else f x
def AH.setI (h : AH) (a j : Nat) (v : Int32) : AH := (h.1, h.2.1, up2 h.2.2.1 a j v, h.2.2.2)
def AH.setL (h : AH) (a j : Nat) (v : Int64) : AH := (h.1, h.2.1, h.2.2.1, up2 h.2.2.2.1 a j v, h.2.2.2.2)
def AH.setR (h : AH) (a j : Nat) (v : Option Nat) : AH := (h.1, h.2.1, h.2.2.1, h.2.2.2.1, up2 h.2.2.2.2.1 a j v, h.2.2.2.2.2)
/-- a new cell of kind k, length n, s slots -/
def AH.mk (h : AH) (k n s : Nat) : AH := (up1 h.1 h.nx k, up1 h.2.1 h.nx n, up1 h.2.2.1 h.nx (fun _ => 0), up1 h.2.2.2.1 h.nx (fun _ => 0), up1 h.2.2.2.2.1 h.nx (fun _ => none), h.nx + 1, h.us + s)
/-- rows of ints copied, as arraycopy does it -/
def AH.rowI (h : AH) (a : Nat) (f : Nat → Int32) : AH := (h.1, h.2.1, up1 h.2.2.1 a f, h.2.2.2)
def AH.rowR (h : AH) (a : Nat) (f : Nat → Option Nat) : AH := (h.1, h.2.1, h.2.2.1, h.2.2.2.1, up1 h.2.2.2.2.1 a f, h.2.2.2.2.2)
/-- the surroundings of a run: first new address, room for cells, room for slots, texts, int statics, reference statics -/
abbrev EV : Type := Nat × Nat × Nat × (Nat → Nat) × (Nat → Int32) × (Nat → Option Nat)
def EV.bs (E : EV) : Nat := E.1
def EV.lc (E : EV) : Nat := E.2.1
def EV.lu (E : EV) : Nat := E.2.2.1
def EV.sa (E : EV) : Nat → Nat := E.2.2.2.1
def EV.si (E : EV) : Nat → Int32 := E.2.2.2.2.1
def EV.sr (E : EV) : Nat → Option Nat := E.2.2.2.2.2
abbrev Out : Type := (Option AV ⊕ Nat) × AH
abbrev Ls : Type := List (Option AV)
abbrev St : Type := List AV
def gd {α : Type} (b : Bool) (x : Option α) : Option α := match b with
  | true => x
  | false => none
def nn {α : Type} (o : Option Nat) (k : Nat → Option α) : Option α := match o with
  | some a => k a
  | none => none
def inb (i : Int32) (n : Nat) : Bool := decide (0 ≤ i) && decide (i.toNatClampNeg < n)
def lget : Ls → Nat → Option AV
  | [], _ => none
  | x :: _, 0 => x
  | _ :: l, n + 1 => lget l n
def lset : Ls → Nat → Option AV → Ls
  | [], _, _ => []
  | _ :: l, 0, v => v :: l
  | x :: l, n + 1, v => x :: lset l n v
/-- what comes back from a call -/
def cV (r : Option Out) (t : Nat → AH → Option Out) (k : AH → Option Out) : Option Out := match r with
  | some (Sum.inl none, h) => k h
  | some (Sum.inr a, h) => t a h
  | _ => none
def cI (r : Option Out) (t : Nat → AH → Option Out) (k : Int32 → AH → Option Out) : Option Out := match r with
  | some (Sum.inl (some (Sum.inl x)), h) => k x h
  | some (Sum.inr a, h) => t a h
  | _ => none
def cL (r : Option Out) (t : Nat → AH → Option Out) (k : Int64 → AH → Option Out) : Option Out := match r with
  | some (Sum.inl (some (Sum.inr (Sum.inl x))), h) => k x h
  | some (Sum.inr a, h) => t a h
  | _ => none
def cR (r : Option Out) (t : Nat → AH → Option Out) (k : Option Nat → AH → Option Out) : Option Out := match r with
  | some (Sum.inl (some (Sum.inr (Sum.inr x))), h) => k x h
  | some (Sum.inr a, h) => t a h
  | _ => none
/-- thrown out of the method -/
def th (a : Nat) (h : AH) : Option Out := some (Sum.inr a, h)
def swk {α : Type} (x : Int32) (d : α) : List (Int × α) → α
  | [] => d
  | (v, t) :: l => if x = Int32.ofInt v then t else swk x d l
def swt {α : Type} (x : Int32) (d : α) : Int → List α → α
  | _, [] => d
  | v, t :: l => if x = Int32.ofInt v then t else swt x d (v + 1) l
def anyK : List Nat → Nat → Bool
  | [], _ => false
  | [x], k => k == x
  | x :: y :: l, k => k == x || anyK (y :: l) k
/-- may a field of narrow type hold x -/
def narO (t : Nat) (x : Int32) : Bool := match t with
  | 0 => true
  | 1 => decide (x = 0) || decide (x = 1)
  | _ => decide (x.toInt8.toInt32 = x)
def cmpC (c : ClassFile.Cond) (x y : Int32) : Prop := match c with
  | .eq => x = y
  | .ne => ¬ x = y
  | .lt => x < y
  | .ge => y ≤ x
  | .gt => y < x
  | .le => x ≤ y
def ifC {α : Type} (c : ClassFile.Cond) (x y : Int32) (a b : α) : α := match c with
  | .eq => if x = y then a else b
  | .ne => if x = y then b else a
  | .lt => if x < y then a else b
  | .ge => if y ≤ x then a else b
  | .gt => if y < x then a else b
  | .le => if x ≤ y then a else b
def lcm (x y : Int64) : Int32 := if x < y then -1 else if x = y then 0 else 1
def cmpK (k : Nat) : Nat := match k with
  | 108 => 101
  | 109 => 103
  | 110 => 109
  | _ => 110
def mna : Nat → List Nat → AH → AH
  | _, [], h => h
  | k, n :: rest, h => match rest with
    | [] => h.mk k n n
    | _ :: _ => (List.range n).foldl (fun g i => (mna (cmpK k) rest g).setR h.nx i (some g.nx)) (h.mk k n n)
def retv (t : Nat) (r : Option Out) (hp : Nat → AH → Option Out) (k : St → AH → Option Out) (st : St) : Option Out := match t with
  | 0 => cV r hp (fun h => k st h)
  | 1 => cI r hp (fun x h => k (vI x :: st) h)
  | 2 => cL r hp (fun x h => k (vL x :: st) h)
  | _ => cR r hp (fun x h => k (vR x :: st) h)
/-- a value of one word -/
def cat1 (v : AV) : Bool := match v with
  | Sum.inr (Sum.inl _) => false
  | _ => true
/-- the receiver of a call: 0 static, 1 any object, 2 an object of certain kinds -/
def rcO (m : Nat) (args : List AV) (h : AH) : Bool := match rct m with
  | 0 => true
  | 1 => (match args with
    | Sum.inr (Sum.inr (some _)) :: _ => true
    | _ => false)
  | _ => (match args with
    | Sum.inr (Sum.inr (some a)) :: _ => anyK (rck m) (h.kd a)
    | _ => false)
/-- ONE INSTRUCTION: C calls a method, J goes to a label, hp: where a throw goes, k: what follows -/
def stp (E : EV) (C : Nat → List AV → AH → Option Out) (J : Nat → Ls → St → AH → Option Out) (hp : Option Nat) (op : Instr) (ls : Ls) (st : St) (h : AH) (k : Ls → St → AH → Option Out) : Option Out := match op with
  | .iconst n => k ls (vI (Int32.ofInt n) :: st) h
  | .ldc2_w n => k ls (vL (Int64.ofNat n) :: st) h
  | .aconst_null => k ls (vR none :: st) h
  | .ldc s => k ls (vR (some (E.sa s)) :: st) h
  | .getstatic s => k ls (vR (E.sr s) :: st) h
  | .ret s => k ls (vI (E.si s) :: st) h
  | .iload n => (match lget ls n with
    | some (Sum.inl x) => k ls (vI x :: st) h
    | _ => none)
  | .lload n => (match lget ls n with
    | some (Sum.inr (Sum.inl x)) => k ls (vL x :: st) h
    | _ => none)
  | .aload n => (match lget ls n with
    | some (Sum.inr (Sum.inr x)) => k ls (vR x :: st) h
    | _ => none)
  | .istore n => (match st with
    | Sum.inl x :: st => k (lset ls n (some (vI x))) st h
    | _ => none)
  | .lstore n => (match st with
    | Sum.inr (Sum.inl x) :: st => k (lset (lset ls n (some (vL x))) (n + 1) none) st h
    | _ => none)
  | .astore n => (match st with
    | Sum.inr (Sum.inr x) :: st => k (lset ls n (some (vR x))) st h
    | _ => none)
  | .iinc n c => (match lget ls n with
    | some (Sum.inl x) => k (lset ls n (some (vI (x + Int32.ofInt c)))) st h
    | _ => none)
  | .iadd => (match st with
    | Sum.inl y :: Sum.inl x :: st => k ls (vI (x + y) :: st) h
    | _ => none)
  | .isub => (match st with
    | Sum.inl y :: Sum.inl x :: st => k ls (vI (x - y) :: st) h
    | _ => none)
  | .imul => (match st with
    | Sum.inl y :: Sum.inl x :: st => k ls (vI (x * y) :: st) h
    | _ => none)
  | .iand => (match st with
    | Sum.inl y :: Sum.inl x :: st => k ls (vI (x &&& y) :: st) h
    | _ => none)
  | .ior => (match st with
    | Sum.inl y :: Sum.inl x :: st => k ls (vI (x ||| y) :: st) h
    | _ => none)
  | .ixor => (match st with
    | Sum.inl y :: Sum.inl x :: st => k ls (vI (x ^^^ y) :: st) h
    | _ => none)
  | .ishl => (match st with
    | Sum.inl y :: Sum.inl x :: st => k ls (vI (x <<< (y &&& 31)) :: st) h
    | _ => none)
  | .ishr => (match st with
    | Sum.inl y :: Sum.inl x :: st => k ls (vI (x >>> (y &&& 31)) :: st) h
    | _ => none)
  | .iushr => (match st with
    | Sum.inl y :: Sum.inl x :: st => k ls (vI (x.toUInt32 >>> (y.toUInt32 &&& Int32.toUInt32 31)).toInt32 :: st) h
    | _ => none)
  | .idiv => (match st with
    | Sum.inl y :: Sum.inl x :: st => gd (!decide (y = 0)) (k ls (vI (x / y) :: st) h)
    | _ => none)
  | .irem => (match st with
    | Sum.inl y :: Sum.inl x :: st => gd (!decide (y = 0)) (k ls (vI (x - x / y * y) :: st) h)
    | _ => none)
  | .ineg => (match st with
    | Sum.inl x :: st => k ls (vI (-x) :: st) h
    | _ => none)
  | .ladd => (match st with
    | Sum.inr (Sum.inl y) :: Sum.inr (Sum.inl x) :: st => k ls (vL (x + y) :: st) h
    | _ => none)
  | .lmul => (match st with
    | Sum.inr (Sum.inl y) :: Sum.inr (Sum.inl x) :: st => k ls (vL (x * y) :: st) h
    | _ => none)
  | .lor => (match st with
    | Sum.inr (Sum.inl y) :: Sum.inr (Sum.inl x) :: st => k ls (vL (x ||| y) :: st) h
    | _ => none)
  | .ldiv => (match st with
    | Sum.inr (Sum.inl y) :: Sum.inr (Sum.inl x) :: st => gd (!decide (y = 0)) (k ls (vL (x / y) :: st) h)
    | _ => none)
  | .lshl => (match st with
    | Sum.inl y :: Sum.inr (Sum.inl x) :: st => k ls (vL (x <<< (y.toInt64 &&& 63)) :: st) h
    | _ => none)
  | .lcmp => (match st with
    | Sum.inr (Sum.inl y) :: Sum.inr (Sum.inl x) :: st => k ls (vI (lg_cmp x y) :: st) h
    | _ => none)
  | .i2l => (match st with
    | Sum.inl x :: st => k ls (vL x.toInt64 :: st) h
    | _ => none)
  | .l2i => (match st with
    | Sum.inr (Sum.inl x) :: st => k ls (vI x.toInt32 :: st) h
    | _ => none)
  | .i2b => (match st with
    | Sum.inl x :: st => k ls (vI x.toInt8.toInt32 :: st) h
    | _ => none)
  | .i2c => (match st with
    | Sum.inl x :: st => k ls (vI (x.toUInt32 % 65536).toInt32 :: st) h
    | _ => none)
  | .dup => (match st with
    | v :: st => gd (cat1 v) (k ls (v :: v :: st) h)
    | _ => none)
  | .pop => (match st with
    | v :: st => gd (cat1 v) (k ls st h)
    | _ => none)
  | .pop2 => (match st with
    | Sum.inr (Sum.inr (some _)) :: st => gd (decide (st.length ≤ 8)) (k ls st h)
    | _ => none)
  | .dup_x1 => (match st with
    | v :: w :: st => gd (cat1 v && cat1 w) (k ls (v :: w :: v :: st) h)
    | _ => none)
  | .dup2 => (match st with
    | v :: w :: st => gd (cat1 v && cat1 w) (k ls (v :: w :: v :: w :: st) h)
    | _ => none)
  | .fload f => (match st with
    | Sum.inr (Sum.inr o) :: st => nn o (fun a => gd (anyK (fk f) (h.kd a)) (k ls (vI (h.I a f) :: st) h))
    | _ => none)
  | .dload f => (match st with
    | Sum.inr (Sum.inr o) :: st => nn o (fun a => gd (anyK (fk f) (h.kd a)) (k ls (vL (h.L a f) :: st) h))
    | _ => none)
  | .getfield f => (match st with
    | Sum.inr (Sum.inr o) :: st => nn o (fun a => gd (anyK (fk f) (h.kd a)) (k ls (vR (h.R a f) :: st) h))
    | _ => none)
  | .fstore f => (match st with
    | Sum.inl x :: Sum.inr (Sum.inr o) :: st => nn o (fun a => gd (anyK (fk f) (h.kd a) && decide (E.bs ≤ a) && narO (fnr f) x) (k ls st (h.setI a f x)))
    | _ => none)
  | .dstore f => (match st with
    | Sum.inr (Sum.inl x) :: Sum.inr (Sum.inr o) :: st => nn o (fun a => gd (anyK (fk f) (h.kd a) && decide (E.bs ≤ a)) (k ls st (h.setL a f x)))
    | _ => none)
  | .putfield f => (match st with
    | Sum.inr (Sum.inr x) :: Sum.inr (Sum.inr o) :: st => nn o (fun a => gd (anyK (fk f) (h.kd a) && decide (E.bs ≤ a)) (k ls st (h.setR a f x)))
    | _ => none)
  | .new c => gd (decide (h.nx + 1 ≤ E.lc) && decide (h.us + nsl c ≤ E.lu)) (k ls (vR (some h.nx) :: st) (h.mk c 0 (nsl c)))
  | .anewarray c => (match st with
    | Sum.inl n :: st => gd (decide (0 ≤ n) && decide (n.toNatClampNeg ≤ 1048576) && decide (h.nx + 1 ≤ E.lc) && decide (h.us + n.toNatClampNeg ≤ E.lu)) (k ls (vR (some h.nx) :: st) (h.mk c n.toNatClampNeg n.toNatClampNeg))
    | _ => none)
  | .multianewarray c d => (match d, st with
    | 2, Sum.inl b :: Sum.inl a :: st => gd (decide (0 ≤ a) && decide (0 ≤ b) && decide (a.toNatClampNeg ≤ 1048576) && decide (b.toNatClampNeg ≤ 1048576) && decide ((mna c [a.toNatClampNeg, b.toNatClampNeg] h).nx ≤ E.lc) && decide ((mna c [a.toNatClampNeg, b.toNatClampNeg] h).us ≤ E.lu)) (k ls (vR (some h.nx) :: st) (mna c [a.toNatClampNeg, b.toNatClampNeg] h))
    | 4, Sum.inl d :: Sum.inl c' :: Sum.inl b :: Sum.inl a :: st => gd (decide (0 ≤ a) && decide (0 ≤ b) && decide (0 ≤ c') && decide (0 ≤ d) && decide (a.toNatClampNeg ≤ 1048576) && decide (b.toNatClampNeg ≤ 1048576) && decide (c'.toNatClampNeg ≤ 1048576) && decide (d.toNatClampNeg ≤ 1048576) && decide ((mna c [a.toNatClampNeg, b.toNatClampNeg, c'.toNatClampNeg, d.toNatClampNeg] h).nx ≤ E.lc) && decide ((mna c [a.toNatClampNeg, b.toNatClampNeg, c'.toNatClampNeg, d.toNatClampNeg] h).us ≤ E.lu)) (k ls (vR (some h.nx) :: st) (mna c [a.toNatClampNeg, b.toNatClampNeg, c'.toNatClampNeg, d.toNatClampNeg] h))
    | _, _ => none)
  | .arraylength => (match st with
    | Sum.inr (Sum.inr o) :: st => nn o (fun a => gd (decide (101 ≤ h.kd a)) (k ls (vI (Int32.ofNat (h.ln a)) :: st) h))
    | _ => none)
  | .iaload => (match st with
    | Sum.inl i :: Sum.inr (Sum.inr o) :: st => nn o (fun a => gd (h.kd a == 101 && inb i (h.ln a)) (k ls (vI (h.I a i.toNatClampNeg) :: st) h))
    | _ => none)
  | .baload => (match st with
    | Sum.inl i :: Sum.inr (Sum.inr o) :: st => nn o (fun a => gd ((h.kd a == 102 || h.kd a == 103) && inb i (h.ln a)) (k ls (vI (h.I a i.toNatClampNeg) :: st) h))
    | _ => none)
  | .laload => (match st with
    | Sum.inl i :: Sum.inr (Sum.inr o) :: st => nn o (fun a => gd (h.kd a == 104 && inb i (h.ln a)) (k ls (vL (h.L a i.toNatClampNeg) :: st) h))
    | _ => none)
  | .aaload => (match st with
    | Sum.inl i :: Sum.inr (Sum.inr o) :: st => nn o (fun a => gd (decide (105 ≤ h.kd a) && inb i (h.ln a)) (k ls (vR (h.R a i.toNatClampNeg) :: st) h))
    | _ => none)
  | .iastore => (match st with
    | Sum.inl x :: Sum.inl i :: Sum.inr (Sum.inr o) :: st => nn o (fun a => gd (h.kd a == 101 && inb i (h.ln a) && decide (E.bs ≤ a)) (k ls st (h.setI a i.toNatClampNeg x)))
    | _ => none)
  | .bastore => (match st with
    | Sum.inl x :: Sum.inl i :: Sum.inr (Sum.inr o) :: st => nn o (fun a => gd ((h.kd a == 102 || h.kd a == 103) && inb i (h.ln a) && decide (E.bs ≤ a)) (k ls st (h.setI a i.toNatClampNeg (if h.kd a = 102 then x.toInt8.toInt32 else x &&& 1))))
    | _ => none)
  | .lastore => (match st with
    | Sum.inr (Sum.inl x) :: Sum.inl i :: Sum.inr (Sum.inr o) :: st => nn o (fun a => gd (h.kd a == 104 && inb i (h.ln a) && decide (E.bs ≤ a)) (k ls st (h.setL a i.toNatClampNeg x)))
    | _ => none)
  | .aastore => (match st with
    | Sum.inr (Sum.inr x) :: Sum.inl i :: Sum.inr (Sum.inr o) :: st => nn o (fun a => gd (decide (105 ≤ h.kd a) && decide (h.kd a < 108) && inb i (h.ln a) && decide (E.bs ≤ a) && (match x with
      | none => true
      | some b => anyK (asg (h.kd a)) (h.kd b))) (k ls st (h.setR a i.toNatClampNeg x)))
    | _ => none)
  | .checkcast c => (match st with
    | Sum.inr (Sum.inr x) :: st => gd (match x with
      | none => true
      | some a => anyK (sbk c) (h.kd a)) (k ls (vR x :: st) h)
    | _ => none)
  | .instanceof c => (match st with
    | Sum.inr (Sum.inr x) :: st => (match x with
      | none => k ls (vI 0 :: st) h
      | some a => gd (anyK (insk c) (h.kd a)) (k ls (vI (if anyK (sbk c) (h.kd a) then 1 else 0) :: st) h))
    | _ => none)
  | .goto t => J t.toNat ls st h
  | .ifCond c t => (match st with
    | Sum.inl x :: st => ifC c x 0 (J t.toNat ls st h) (k ls st h)
    | _ => none)
  | .if_icmp c t => (match st with
    | Sum.inl y :: Sum.inl x :: st => ifC c x y (J t.toNat ls st h) (k ls st h)
    | _ => none)
  | .if_acmp c t => (match st with
    | Sum.inr (Sum.inr y) :: Sum.inr (Sum.inr x) :: st => (match c with
      | .eq => if x = y then J t.toNat ls st h else k ls st h
      | .ne => if x = y then k ls st h else J t.toNat ls st h)
    | _ => none)
  | .ifnull t => (match st with
    | Sum.inr (Sum.inr x) :: st => if x = none then J t.toNat ls st h else k ls st h
    | _ => none)
  | .ifnonnull t => (match st with
    | Sum.inr (Sum.inr x) :: st => if x = none then k ls st h else J t.toNat ls st h
    | _ => none)
  | .tableswitch d lo _ offs => (match st with
    | Sum.inl x :: st => swt x (J d.toNat ls st h) lo (offs.toList.map (fun t => J t.toNat ls st h))
    | _ => none)
  | .lookupswitch d ps => (match st with
    | Sum.inl x :: st => swk x (J d.toNat ls st h) (ps.toList.map (fun q => (q.1, J q.2.toNat ls st h)))
    | _ => none)
  | .ireturn => (match st with
    | Sum.inl x :: _ => some (Sum.inl (some (vI x)), h)
    | _ => none)
  | .freturn => (match st with
    | Sum.inl x :: _ => gd (decide (x = 0) || decide (x = 1)) (some (Sum.inl (some (vI x)), h))
    | _ => none)
  | .dreturn => (match st with
    | Sum.inl x :: _ => gd (decide ((x.toUInt32 % 65536).toInt32 = x)) (some (Sum.inl (some (vI x)), h))
    | _ => none)
  | .swap => (match st with
    | Sum.inl x :: _ => gd (decide (x.toInt8.toInt32 = x)) (some (Sum.inl (some (vI x)), h))
    | _ => none)
  | .lreturn => (match st with
    | Sum.inr (Sum.inl x) :: _ => some (Sum.inl (some (vL x)), h)
    | _ => none)
  | .areturn => (match st with
    | Sum.inr (Sum.inr x) :: _ => some (Sum.inl (some (vR x)), h)
    | _ => none)
  | .return_ => some (Sum.inl none, h)
  | .athrow => (match hp, st with
    | none, Sum.inr (Sum.inr o) :: _ => nn o (fun a => th a h)
    | _, _ => none)
  | .invokeinterface m c => gd (decide (c / 4 ≤ st.length) && decide ((st.drop (c / 4)).length ≤ 8) && rcO m (st.take (c / 4)).reverse h) (retv (c % 4) (C (rm_ m) (st.take (c / 4)).reverse h) (match hp with
      | none => th
      | some t => fun a g => gd (g.kd a == 8) (J t ls [vR (some a)] g)) (fun st g => k ls st g) (st.drop (c / 4)))
  | .invokevirtual v => (match v, st with
    | 0, Sum.inr (Sum.inr o) :: st => nn o (fun a => gd (decide (st.length ≤ 8) && (h.kd a == 9 || h.kd a == 10)) (cI (C (if h.kd a = 9 then vt0_9 else vt0_10) [vR (some a)] h) th (fun x g => k ls (vI x :: st) g)))
    | 1, w :: Sum.inr (Sum.inr o) :: st => nn o (fun a => gd (decide (st.length ≤ 8) && anyK exk (h.kd a)) (cI (C (vt1 (h.kd a)) [vR (some a), w] h) th (fun x g => k ls (vI x :: st) g)))
    | _, _ => none)
  | _ => none
/-- A BLOCK -/
def blk (E : EV) (C : Nat → List AV → AH → Option Out) (J : Nat → Ls → St → AH → Option Out) (hp : Option Nat) : List (Nat × Instr) → Nat → Ls → St → AH → Option Out
  | [], nx, ls, st, h => J nx ls st h
  | q :: l, nx, ls, st, h => stp E C J hp q.2 ls st h (fun ls st h => blk E C J hp l nx ls st h)
def laya : List AV → Ls
  | [] => []
  | Sum.inl x :: l => some (vI x) :: laya l
  | Sum.inr (Sum.inl x) :: l => some (vL x) :: none :: laya l
  | Sum.inr (Sum.inr x) :: l => some (vR x) :: laya l
/-- longs lie only where longs may lie -/
def lok (L : List Nat) : Nat → Ls → Bool
  | _, [] => true
  | i, some (Sum.inr (Sum.inl _)) :: l => L.contains i && lok L (i + 1) l
  | i, _ :: l => lok L (i + 1) l
def padl : Nat → Ls → Ls
  | 0, l => l
  | n + 1, [] => none :: padl n []
  | n + 1, x :: l => x :: padl n l
/-- null or of one of these kinds -/
def okR (l : List Nat) (h : AH) (x : Option Nat) : Bool := match x with
  | none => true
  | some a => anyK l (h.kd a)
/-- the natives: System.arraycopy, clone of a byte array, getClass of an Object array -/
def natS (E : EV) (m : Nat) (args : List AV) (h : AH) : Option Out := match m - nat0, args with
  | 0, [Sum.inr (Sum.inr (some a)), Sum.inl i, Sum.inr (Sum.inr (some b)), Sum.inl j, Sum.inl n] =>
    gd ((h.kd a == 101 || h.kd a == 102 || h.kd a == 105) && (h.kd b == h.kd a) && decide (E.bs ≤ b) && decide (0 ≤ i) && decide (0 ≤ j) && decide (0 ≤ n) && decide (i.toNatClampNeg + n.toNatClampNeg ≤ h.ln a) && decide (j.toNatClampNeg + n.toNatClampNeg ≤ h.ln b) && (if h.kd a = 102 then (List.range n.toNatClampNeg).all (fun q => decide ((h.I a (i.toNatClampNeg + q)).toInt8.toInt32 = h.I a (i.toNatClampNeg + q))) else if h.kd a = 105 then (List.range n.toNatClampNeg).all (fun q => okR (asg 105) h (h.R a (i.toNatClampNeg + q))) else true))
      (some (Sum.inl none, if h.kd a = 105 then h.rowR b (va_cpy (h.R a) (h.R b) i.toNatClampNeg j.toNatClampNeg n.toNatClampNeg) else h.rowI b (va_cpy (h.I a) (h.I b) i.toNatClampNeg j.toNatClampNeg n.toNatClampNeg)))
  | 1, [Sum.inr (Sum.inr (some a))] => gd (h.kd a == 102 && decide (h.nx + 1 ≤ E.lc) && decide (h.us + h.ln a ≤ E.lu) && (List.range (h.ln a)).all (fun q => decide ((h.I a q).toInt8.toInt32 = h.I a q))) (some (Sum.inl (some (vR (some h.nx))), (h.mk 102 (h.ln a) (h.ln a)).rowI h.nx (h.I a)))
  | 2, [Sum.inr (Sum.inr (some a))] => gd (h.kd a == 105) (some (Sum.inl (some (vR (E.sr mirr))), h))
  | _, _ => none
def calF (E : EV) (F : Nat → Nat → Nat → Ls → St → AH → Option Out) (d m : Nat) (args : List AV) (h : AH) : Option Out := match d with
  | 0 => none
  | d + 1 => match Nat.blt m nat0 with
    | true => gd (decide ((laya args).length ≤ nloc m) && lok (lsl m) 0 (laya args)) (F d m 0 (padl (nloc m) (laya args)) [] h)
    | false => natS E m args h
def rnN (E : EV) : Nat → Nat → Nat → Nat → Ls → St → AH → Option Out
  | 0, _, _, _, _, _, _ => none
  | n + 1, d, m, pc, ls, st, h => match blockAt m pc with
    | some b => blk E (calF E (rnN E n) d) (rnN E n d m) b.2.2 b.1 b.2.1 ls st h
    | none => none
noncomputable def lim {α : Type} (f : Nat → Option α) : Option α := @dite _ (∃ n, f n ≠ none) (Classical.propDecidable _) (fun h => f (Classical.choose h)) (fun _ => none)
/-- THE RUN from a label, at depth budget d -/
noncomputable def rn (E : EV) (d m pc : Nat) (ls : Ls) (st : St) (h : AH) : Option Out := lim (fun n => rnN E n d m pc ls st h)
/-- THE CALL of a method -/
noncomputable def cal (E : EV) (d m : Nat) (args : List AV) (h : AH) : Option Out := calF E (rn E) d m args h
/-- a name for a value -/
def hs {α β : Type} (x : α) (k : α → β) : β := k x
def okC (c : Nat) (h : AH) (x : Option Nat) : Bool := match x with
  | none => true
  | some a => anyK (sbk c) (h.kd a)
def okA (h : AH) (a : Nat) (x : Option Nat) : Bool := match x with
  | none => true
  | some b => anyK (asg (h.kd a)) (h.kd b)
def iof (c : Nat) (h : AH) (x : Option Nat) (k : Int32 → Option Out) : Option Out := match x with
  | none => k 0
  | some a => gd (anyK (insk c) (h.kd a)) (k (if anyK (sbk c) (h.kd a) then 1 else 0))
