/-! the core of the VC generator: values, locals, one instruction that touches no heap -/
abbrev inR (z : Int) : Prop := -2147483648 ≤ z ∧ z ≤ 2147483647
abbrev xV (ρ : Type) : Type := Int ⊕ ρ ⊕ Int64
abbrev xL (ρ : Type) : Type := List (Nat × xV ρ)
def xget {ρ : Type} (L : xL ρ) (k : Nat) : Option (xV ρ) := match L with
  | [] => none
  | q :: r => bif Nat.beq q.1 k then some q.2 else xget r k
def xlong {ρ : Type} (v : xV ρ) : Bool := match v with
  | .inr (.inr _) => true
  | _ => false
def xdel {ρ : Type} (L : xL ρ) (k : Nat) : xL ρ := match L with
  | [] => []
  | q :: r => bif (Nat.beq q.1 k || (Nat.beq (q.1 + 1) k && xlong q.2)) then xdel r k else q :: xdel r k
def xins {ρ : Type} (L : xL ρ) (k : Nat) (v : xV ρ) : xL ρ := match L with
  | [] => [(k, v)]
  | q :: r => bif Nat.ble q.1 k then q :: xins r k v else (k, v) :: q :: r
/-- by rising places -/
def xset {ρ : Type} (L : xL ρ) (k : Nat) (v : xV ρ) : xL ρ := xins (xdel L k) k v
/-- the length of an instruction's code -/
def xlen (i : Instr) : Nat := match i with
  | .bipush _ | .iload _ | .aload _ | .istore _ | .astore _ | .newarray _ | .ldc _ => 2
  | .sipush _ | .iinc _ _ | .goto _ | .ifCond _ _ | .if_icmp _ _ | .ifnull _ | .ifnonnull _ | .if_acmp _ _ => 3
  | .getfield _ | .putfield _ | .getstatic _ | .putstatic _ | .invokevirtual _ | .invokespecial _ | .invokestatic _ | .new _ | .anewarray _ | .checkcast _ | .instanceof _ => 3
  | .invokeinterface _ _ => 5
  | _ => 1
/-- what a row of a code table is checked for, beside its decoding -/
def ximm (pc nx tg : Nat) (i : Instr) : Bool := match i with
  | .bipush n => decide ((Int8.ofInt n).toInt32 = Int32.ofInt n) && nx == pc + 2
  | .sipush n => decide ((Int16.ofInt n).toInt32 = Int32.ofInt n) && nx == pc + 3
  | .goto off | .ifCond _ off | .if_icmp _ off | .ifnull off | .ifnonnull off | .if_acmp _ off => decide ((pc : Int) + off = (tg : Int)) && nx == pc + 3
  | .tableswitch d _ _ offs => decide (0 ≤ (pc : Int) + d) && offs.toList.all (fun o => decide (0 ≤ (pc : Int) + o))
  | i => nx == pc + xlen i
abbrev xTb : Type := Nat → Option (Instr × Nat × Nat)
def xTbOK (cc : ByteArray) (tb : xTb) : Prop := ∀ (pc : Nat) (i : Instr) (nx tg : Nat), tb pc = some (i, nx, tg) → (∃ len, decode cc pc = .ok (i, len) ∧ ((∀ d lo hi os, i ≠ .tableswitch d lo hi os) → len = xlen i)) ∧ ximm pc nx tg i = true
/-- a switch: the targets by their numbers, from lo on -/
def xsw (pc : Nat) (z lo : Int) (offs : List Int) (dflt : Int) (K : Nat → Prop) : Prop := match offs with
  | [] => K ((pc : Int) + dflt).toNat
  | o :: r => (z = lo → K ((pc : Int) + o).toNat) ∧ (¬ z = lo → xsw pc z (lo + 1) r dflt K)
/-- one instruction that touches no heap; the others: hop -/
def xcore {ρ : Type} (nul : ρ) (pc : Nat) (i : Instr) (nx tg : Nat) (L : xL ρ) (st : List (xV ρ)) (nL : Nat) (K : Nat → xL ρ → List (xV ρ) → Prop) (hop : Prop) : Prop := match i with
  | .iconst n => K nx L (.inl n :: st)
  | .bipush n => K nx L (.inl n :: st)
  | .sipush n => K nx L (.inl n :: st)
  | .aconst_null => K nx L (.inr (.inl nul) :: st)
  | .iload k => match xget L k with
    | some (.inl z) => K nx L (.inl z :: st)
    | _ => False
  | .iload_n k => match xget L k.val with
    | some (.inl z) => K nx L (.inl z :: st)
    | _ => False
  | .aload k => match xget L k with
    | some (.inr (.inl r)) => K nx L (.inr (.inl r) :: st)
    | _ => False
  | .aload_n k => match xget L k.val with
    | some (.inr (.inl r)) => K nx L (.inr (.inl r) :: st)
    | _ => False
  | .istore k => match st with
    | .inl z :: st => k < nL ∧ K nx (xset L k (.inl z)) st
    | _ => False
  | .istore_n k => match st with
    | .inl z :: st => k.val < nL ∧ K nx (xset L k.val (.inl z)) st
    | _ => False
  | .astore k => match st with
    | .inr (.inl r) :: st => k < nL ∧ K nx (xset L k (.inr (.inl r))) st
    | _ => False
  | .astore_n k => match st with
    | .inr (.inl r) :: st => k.val < nL ∧ K nx (xset L k.val (.inr (.inl r))) st
    | _ => False
  | .iinc k n => match xget L k with
    | some (.inl z) => k < nL ∧ K nx (xset L k (.inl (z + n))) st
    | _ => False
  | .iadd => match st with
    | .inl b :: .inl a :: st => K nx L (.inl (a + b) :: st)
    | _ => False
  | .isub => match st with
    | .inl b :: .inl a :: st => K nx L (.inl (a - b) :: st)
    | _ => False
  | .imul => match st with
    | .inl b :: .inl a :: st => K nx L (.inl (a * b) :: st)
    | _ => False
  | .idiv => match st with
    | .inl b :: .inl a :: st => (0 ≤ a ∧ a ≤ 2147483647 ∧ 0 < b ∧ b ≤ 2147483647) ∧ K nx L (.inl (a / b) :: st)
    | _ => False
  | .irem => match st with
    | .inl b :: .inl a :: st => (0 ≤ a ∧ a ≤ 2147483647 ∧ 0 < b ∧ b ≤ 2147483647) ∧ K nx L (.inl (a % b) :: st)
    | _ => False
  | .iand => match st with
    | .inl b :: .inl a :: st => K nx L (.inl (Int32.ofInt a &&& Int32.ofInt b).toInt :: st)
    | _ => False
  | .ior => match st with
    | .inl b :: .inl a :: st => K nx L (.inl (Int32.ofInt a ||| Int32.ofInt b).toInt :: st)
    | _ => False
  | .ishl => match st with
    | .inl b :: .inl a :: st => K nx L (.inl (Int32.ofInt a <<< (Int32.ofInt b &&& 31)).toInt :: st)
    | _ => False
  | .ishr => match st with
    | .inl b :: .inl a :: st => K nx L (.inl (Int32.ofInt a >>> (Int32.ofInt b &&& 31)).toInt :: st)
    | _ => False
  | .iushr => match st with
    | .inl b :: .inl a :: st => K nx L (.inl ((Int32.ofInt a).toUInt32 >>> ((Int32.ofInt b).toUInt32 &&& Int32.toUInt32 31)).toInt32.toInt :: st)
    | _ => False
  | .i2l => match st with
    | .inl a :: st => K nx L (.inr (.inr (Int32.ofInt a).toInt64) :: st)
    | _ => False
  | .lcmp => match st with
    | .inr (.inr y) :: .inr (.inr x) :: st => K nx L (.inl (lg_cmp x y).toInt :: st)
    | _ => False
  | .dup => match st with
    | .inl a :: st => K nx L (.inl a :: .inl a :: st)
    | .inr (.inl a) :: st => K nx L (.inr (.inl a) :: .inr (.inl a) :: st)
    | _ => False
  | .pop => match st with
    | .inl _ :: st => K nx L st
    | .inr (.inl _) :: st => K nx L st
    | _ => False
  | .dup_x1 => match st with
    | a :: b :: st => (xlong a = false ∧ xlong b = false) ∧ K nx L (a :: b :: a :: st)
    | _ => False
  | .dup_x2 => match st with
    | a :: b :: d :: st => (xlong a = false ∧ xlong b = false ∧ xlong d = false) ∧ K nx L (a :: b :: d :: a :: st)
    | _ => False
  | .dup2 => match st with
    | a :: b :: st => (xlong a = false ∧ xlong b = false) ∧ K nx L (a :: b :: a :: b :: st)
    | _ => False
  | .goto _ => K tg L st
  | .ifCond c _ => match st with
    | .inl a :: st => inR a ∧ (match c with
      | .eq => (a = 0 → K tg L st) ∧ (¬ a = 0 → K nx L st)
      | .ne => (¬ a = 0 → K tg L st) ∧ (a = 0 → K nx L st)
      | .lt => (a < 0 → K tg L st) ∧ (¬ a < 0 → K nx L st)
      | .ge => (0 ≤ a → K tg L st) ∧ (¬ 0 ≤ a → K nx L st)
      | .gt => (0 < a → K tg L st) ∧ (¬ 0 < a → K nx L st)
      | .le => (a ≤ 0 → K tg L st) ∧ (¬ a ≤ 0 → K nx L st))
    | _ => False
  | .if_icmp c _ => match st with
    | .inl b :: .inl a :: st => (inR a ∧ inR b) ∧ (match c with
      | .eq => (a = b → K tg L st) ∧ (¬ a = b → K nx L st)
      | .ne => (¬ a = b → K tg L st) ∧ (a = b → K nx L st)
      | .lt => (a < b → K tg L st) ∧ (¬ a < b → K nx L st)
      | .ge => (b ≤ a → K tg L st) ∧ (¬ b ≤ a → K nx L st)
      | .gt => (b < a → K tg L st) ∧ (¬ b < a → K nx L st)
      | .le => (a ≤ b → K tg L st) ∧ (¬ a ≤ b → K nx L st))
    | _ => False
  | .tableswitch d lo hi offs => match st with
    | .inl a :: st => (inR a ∧ hi = lo + (offs.size : Int) - 1) ∧ xsw pc a lo offs.toList d (fun t => K t L st)
    | _ => False
  | _ => hop
