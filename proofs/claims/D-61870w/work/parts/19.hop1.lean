/-! L1: the VC of an instruction that touches the heap, calls or returns -/
def xpop {α : Type} (n : Nat) (st acc : List α) : Option (List α × List α) := match n with
  | 0 => some (acc, st)
  | n + 1 => match st with
    | [] => none
    | v :: r => xpop n r (v :: acc)
theorem xpop_ok {α : Type} : ∀ {n : Nat} {st acc as rest : List α}, xpop n st acc = some (as, rest) → ∃ pre, as = pre ++ acc ∧ st = pre.reverse ++ rest ∧ pre.length = n := by
  intro n
  induction n with
  | zero => intro st acc as rest h; cases h; exact ⟨[], rfl, rfl, rfl⟩
  | succ n ih =>
    intro st acc as rest h
    cases st with
    | nil => cases h
    | cons v r =>
      obtain ⟨pre, h1, h2, h3⟩ := ih (show xpop n r (v :: acc) = some (as, rest) from h)
      exact ⟨pre ++ [v], by simp [h1], by simp [h2], by simp [h3]⟩
/-- clauses that cover pc: linked, and their class known to be ci or not to take ci -/
def ghc (o pc ci : Nat) (hh : List (Nat × Nat × Nat × Nat)) : Bool := hh.all fun q => !(Nat.ble q.1 pc && Nat.blt pc q.2.1) || (!(Nat.beq q.2.2.2 0) && (match glk (gKl o) q.2.2.2 with
  | some c => Nat.beq c ci || gnc ci c
  | none => false))
def ghp (o pc ci : Nat) (hh : List (Nat × Nat × Nat × Nat)) : Option Nat := match hh with
  | [] => none
  | q :: r => bif (Nat.ble q.1 pc && Nat.blt pc q.2.1) then (match glk (gKl o) q.2.2.2 with
    | some c => bif Nat.beq c ci then some q.2.2.1 else ghp o pc ci r
    | none => ghp o pc ci r) else ghp o pc ci r
def gxv (M : gM) (o : Nat) (Q : gO → gS → Prop) (pc : Nat) (L : gL) (K : Nat → gL → List gV → gS → Prop) (x : Nat) (σ : gS) : Prop := match M.2.2.2.2.1 with
  | none => Q (.inr x) σ
  | some hh => ∃ ci vs, σ.1 x = some (.inl (ci, vs)) ∧ ci < 18 ∧ ghc o pc ci hh = true ∧ (match ghp o pc ci hh with
    | some hpc => K hpc L [.inr (.inl (some x))] σ
    | none => False)
/-- a box: the elaborator doesn't look into it -/
def bx (n : Nat) (P : Prop) : Prop := if n = 0 then P else bx (n - 1) P
termination_by n
decreasing_by omega
theorem bx_eq (P : Prop) : bx 0 P = P := by rw [bx]; exact if_pos rfl
theorem bx_in {P : Prop} (h : P) : bx 0 P := by rw [bx_eq]; exact h
theorem bx_out {P : Prop} (h : bx 0 P) : P := by rw [bx_eq] at h; exact h
def gcl (G : gG) (M M' : gM) (o fr : Nat) (Q : gO → gS → Prop) (pc nx : Nat) (L : gL) (as rest : List gV) (σ : gS) (K : Nat → gL → List gV → gS → Prop) : Prop :=
  bif (Nat.ble (gcat rest + (M'.2.2.1 + 11)) 100 && Nat.ble (gargw as) M'.2.2.1) then (match fr with
    | 0 => False
    | fr' + 1 => bx 0 (gOKb G M' fr' as σ (fun out σ' => match out with
      | .inl v => K nx L (v.toList ++ rest) σ'
      | .inr x => gxv M o Q pc L K x σ'))) else False
/-- an exception's <init> in XactKernel's pool -/
def gIc (ci : Nat) : Nat := bif Nat.beq ci 13 then 41 else bif Nat.beq ci 14 then 65 else bif Nat.beq ci 15 then 44 else bif Nat.beq ci 16 then 47 else 50
/-- Object.<init> in a class's pool -/
def gOi (o idx : Nat) : Bool := match o with
  | 1 | 4 | 6 | 9 | 10 | 11 | 15 | 17 => Nat.beq idx 1
  | 3 | 5 => Nat.beq idx 3
  | 13 => Nat.beq idx 7
  | _ => false
/-- a box: made or cached -/
def gBx (G : gG) (σ : gS) (a : Nat) (z : Int) : Prop := σ.1 a = some (.inl (12, [.inl z])) ∨ gInt G a z
/-- an array's length, the empty one's too -/
def gAl (G : gG) (σ : gS) (r : Option Nat) (n : Nat) : Prop := (∃ a t f, r = some a ∧ σ.1 a = some (.inr (t, n, f)) ∧ t < 7) ∨ (r = some (gDE G) ∧ n = 0)
def gN (ci : Nat) : Nat := (g_cl.getD ci ("", TX1, 0)).2.2
def gBase (G : gG) : Nat := G.2.1.heap.size
def hop1 (G : gG) (M : gM) (o fr : Nat) (Q : gO → gS → Prop) : xHop (Option Nat) gS := fun pc i nx tg L st σ K => match i with
  | .getfield idx => match glk (gFl o) idx with
    | some (ci, k, _) => (match st with
      | .inr (.inl r) :: st => bif Nat.beq ci 12 then (∃ a z, r = some a ∧ gBx G σ a z ∧ (inR z → K nx L (.inl z :: st) σ)) else ∃ a vs v, r = some a ∧ σ.1 a = some (.inl (ci, vs)) ∧ vs[k]? = some v ∧ ((∀ z, v = .inl z → okI (gbool ci k) z) → K nx L (v :: st) σ)
      | _ => False)
    | none => False
  | .putfield idx => match glk (gFl o) idx with
    | some (ci, k, q) => (match st with
      | v :: .inr (.inl r) :: st => ∃ a vs, r = some a ∧ σ.1 a = some (.inl (ci, vs)) ∧ gBase G ≤ a ∧ k < vs.length ∧ gtake (g_ty ci k) v ∧ q < 2 ∧ (((g_cl.getD ci ("", TX1, 0)).2.1 k).2.2.2 = false ∨ (((g_cl.getD ci ("", TX1, 0)).2.1 k).2.2.2 = true ∧ M.1.name = "<init>" ∧ ((g_cl.getD ci ("", TX1, 0)).2.1 k).1 = M.1.cls)) ∧ K nx L st (gset σ.1 a (.inl (ci, vs.set k v)), σ.2)
      | _ => False)
    | none => False
  | .iaload => match st with
    | .inl z :: .inr (.inl r) :: st => ∃ a n f, r = some a ∧ σ.1 a = some (.inr (0, n, .inl f)) ∧ n ≤ 2147483647 ∧ (0 ≤ z ∧ z < (n : Int)) ∧ (inR (f z.toNat) → K nx L (.inl (f z.toNat) :: st) σ)
    | _ => False
  | .baload => match st with
    | .inl z :: .inr (.inl r) :: st => ∃ a n f, r = some a ∧ σ.1 a = some (.inr (1, n, .inl f)) ∧ n ≤ 2147483647 ∧ (0 ≤ z ∧ z < (n : Int)) ∧ ((f z.toNat = 0 ∨ f z.toNat = 1) → K nx L (.inl (f z.toNat) :: st) σ)
    | _ => False
  | .laload => match st with
    | .inl z :: .inr (.inl r) :: st => ∃ a n f, r = some a ∧ σ.1 a = some (.inr (2, n, .inr (.inr f))) ∧ n ≤ 2147483647 ∧ (0 ≤ z ∧ z < (n : Int)) ∧ K nx L (.inr (.inr (f z.toNat)) :: st) σ
    | _ => False
  | .aaload => match st with
    | .inl z :: .inr (.inl r) :: st => bif Nat.beq o 14 then (r = some (gCa G) ∧ (0 ≤ z ∧ z < 256) ∧ ∀ a, gInt G a (z - 128) → K nx L (.inr (.inl (some a)) :: st) σ) else ∃ a t n f, r = some a ∧ σ.1 a = some (.inr (t, n, .inr (.inl f))) ∧ (3 ≤ t ∧ t < 7) ∧ n ≤ 2147483647 ∧ (0 ≤ z ∧ z < (n : Int)) ∧ K nx L (.inr (.inl (f z.toNat)) :: st) σ
    | _ => False
  | .arraylength => match st with
    | .inr (.inl r) :: st => bif Nat.beq o 12 then (∃ n : Nat, gAl G σ r n ∧ n ≤ 2147483647 ∧ K nx L (.inl (n : Int) :: st) σ) else ∃ a t n f, r = some a ∧ σ.1 a = some (.inr (t, n, f)) ∧ t < 7 ∧ n ≤ 2147483647 ∧ K nx L (.inl (n : Int) :: st) σ
    | _ => False
  | .iastore => match st with
    | .inl x :: .inl z :: .inr (.inl r) :: st => ∃ a n f, r = some a ∧ σ.1 a = some (.inr (0, n, .inl f)) ∧ gBase G ≤ a ∧ n ≤ 2147483647 ∧ (0 ≤ z ∧ z < (n : Int)) ∧ inR x ∧ K nx L st (gset σ.1 a (.inr (0, n, .inl (va_up f z.toNat x))), σ.2)
    | _ => False
  | .bastore => match st with
    | .inl x :: .inl z :: .inr (.inl r) :: st => ∃ a n f, r = some a ∧ σ.1 a = some (.inr (1, n, .inl f)) ∧ gBase G ≤ a ∧ n ≤ 2147483647 ∧ (0 ≤ z ∧ z < (n : Int)) ∧ (x = 0 ∨ x = 1) ∧ K nx L st (gset σ.1 a (.inr (1, n, .inl (va_up f z.toNat x))), σ.2)
    | _ => False
  | .lastore => match st with
    | .inr (.inr x) :: .inl z :: .inr (.inl r) :: st => ∃ a n f, r = some a ∧ σ.1 a = some (.inr (2, n, .inr (.inr f))) ∧ gBase G ≤ a ∧ n ≤ 2147483647 ∧ (0 ≤ z ∧ z < (n : Int)) ∧ K nx L st (gset σ.1 a (.inr (2, n, .inr (.inr (va_up f z.toNat x)))), σ.2)
    | _ => False
  | .aastore => match st with
    | .inr (.inl v) :: .inl z :: .inr (.inl r) :: st => ∃ a t n f, r = some a ∧ σ.1 a = some (.inr (t, n, .inr (.inl f))) ∧ (3 ≤ t ∧ t < 7) ∧ gBase G ≤ a ∧ n ≤ 2147483647 ∧ (0 ≤ z ∧ z < (n : Int)) ∧ (∀ b, v = some b → ∃ ci, gObj G σ b ci ∧ ci < 18 ∧ gcst t ci = true) ∧ K nx L st (gset σ.1 a (.inr (t, n, .inr (.inl (va_up f z.toNat v)))), σ.2)
    | _ => False
  | .new idx => match glk (gKl o) idx with
    | some ci => bif Nat.ble 13 ci then
        (Nat.beq o 1 = true ∧ ci < 18 ∧ M.2.2.2.2.2 (pc + 3) = some (.dup, pc + 4, 0) ∧ M.2.2.2.2.2 (pc + 4) = some (.invokespecial (gIc ci), pc + 7, 0) ∧ 1 ≤ σ.2.2.1 ∧ 6 ≤ σ.2.2.2 ∧ 6 ≤ fr ∧ gcat st ≤ 20 ∧ K (pc + 7) L (.inr (.inl (some σ.2.1)) :: st) (gset σ.1 σ.2.1 (.inl (ci, [])), σ.2.1 + 1, σ.2.2.1 - 1, σ.2.2.2 - 6))
      else (1 ≤ σ.2.2.1 ∧ gN ci ≤ σ.2.2.2 ∧ K nx L (.inr (.inl (some σ.2.1)) :: st) (gset σ.1 σ.2.1 (.inl (ci, gdef ci (gN ci))), σ.2.1 + 1, σ.2.2.1 - 1, σ.2.2.2 - gN ci))
    | none => False
  | .newarray ty => match st with
    | .inl z :: st => ∃ t, t < 3 ∧ ty = gaty t ∧ (0 ≤ z ∧ z ≤ 10000) ∧ 1 ≤ σ.2.2.1 ∧ z.toNat ≤ σ.2.2.2 ∧ K nx L (.inr (.inl (some σ.2.1)) :: st) (gset σ.1 σ.2.1 (.inr (t, z.toNat, gzero t)), σ.2.1 + 1, σ.2.2.1 - 1, σ.2.2.2 - z.toNat)
    | _ => False
  | .anewarray idx => match glk (gKl o) idx with
    | some c => (match st with
      | .inl z :: st => ∃ t, (3 ≤ t ∧ t < 7) ∧ gcn c = gel t ∧ (0 ≤ z ∧ z ≤ 10000) ∧ 1 ≤ σ.2.2.1 ∧ z.toNat ≤ σ.2.2.2 ∧ K nx L (.inr (.inl (some σ.2.1)) :: st) (gset σ.1 σ.2.1 (.inr (t, z.toNat, .inr (.inl (fun _ => none)))), σ.2.1 + 1, σ.2.2.1 - 1, σ.2.2.2 - z.toNat)
      | _ => False)
    | none => False
  | .checkcast idx => match glk (gKl o) idx with
    | some c => (match st with
      | .inr (.inl r) :: st => c < 18 ∧ (∀ a, r = some a → gObj G σ a c) ∧ K nx L (.inr (.inl r) :: st) σ
      | _ => False)
    | none => False
  | .instanceof idx => match glk (gKl o) idx with
    | some c => (match st with
      | .inr (.inl r) :: st => c < 18 ∧ (r = none → K nx L (.inl 0 :: st) σ) ∧ (∀ a, r = some a → ∃ ci vs, σ.1 a = some (.inl (ci, vs)) ∧ ci < 18 ∧ (ci = c → K nx L (.inl 1 :: st) σ) ∧ (ci ≠ c → gnc ci c = true ∧ K nx L (.inl 0 :: st) σ))
      | _ => False)
    | none => False
  | .ifnull _ => match st with
    | .inr (.inl r) :: st => (r = none → K tg L st σ) ∧ (∀ a, r = some a → K nx L st σ)
    | _ => False
  | .ifnonnull _ => match st with
    | .inr (.inl r) :: st => (∀ a, r = some a → K tg L st σ) ∧ (r = none → K nx L st σ)
    | _ => False
  | .if_acmp c _ => match st with
    | .inr (.inl y) :: .inr (.inl x) :: st => (match c with
      | .eq => (x = y → K tg L st σ) ∧ (¬ x = y → K nx L st σ)
      | .ne => (¬ x = y → K tg L st σ) ∧ (x = y → K nx L st σ))
    | _ => False
  | .ireturn => match st with
    | [.inl z] => (match M.2.2.2.1 with
      | some .int => Q (.inl (some (.inl z))) σ
      | some .boolean => (z = 0 ∨ z = 1) ∧ Q (.inl (some (.inl z))) σ
      | _ => False)
    | _ => False
  | .return_ => match st with
    | [] => (match M.2.2.2.1 with
      | none => Q (.inl none) σ
      | _ => False)
    | _ => False
  | .areturn => match st with
    | [.inr (.inl r)] => (match M.2.2.2.1 with
      | some (.object _) => Q (.inl (some (.inr (.inl r)))) σ
      | some (.array _) => Q (.inl (some (.inr (.inl r)))) σ
      | _ => False)
    | _ => False
  | .athrow => match st with
    | .inr (.inl r) :: _ => ∃ a, r = some a ∧ gxv M o Q pc L K a σ
    | _ => False
  | .getstatic idx => bif (Nat.beq o 12 && Nat.beq idx 39) then K nx L (.inr (.inl (some (gDE G))) :: st) σ
      else bif (Nat.beq o 14 && Nat.beq idx 191) then K nx L (.inl 127 :: st) σ
      else bif (Nat.beq o 14 && Nat.beq idx 195) then K nx L (.inr (.inl (some (gCa G))) :: st) σ else False
  | .invokestatic idx => bif (Nat.beq o 12 && Nat.beq idx 112) then (match st with
      | .inl n :: .inl dp :: .inr (.inl r2) :: .inl sp :: .inr (.inl r1) :: st => ∃ a t len f, r1 = some a ∧ r2 = some a ∧ σ.1 a = some (.inr (t, len, .inr (.inl f))) ∧ (3 ≤ t ∧ t < 7) ∧ gBase G ≤ a ∧ len ≤ 2147483647 ∧ 0 ≤ sp ∧ 0 ≤ dp ∧ 0 ≤ n ∧ sp + n ≤ (len : Int) ∧ dp + n ≤ (len : Int) ∧ (∀ j : Nat, j < n.toNat → ∀ y : Nat, f (sp.toNat + j) = some y → ∃ ci, gObj G σ y ci ∧ ci < 18 ∧ gcst t ci = true) ∧ 1 ≤ fr ∧ gcat st ≤ 40 ∧ K nx L st (gset σ.1 a (.inr (t, len, .inr (.inl (va_cpy f f sp.toNat dp.toNat n.toNat)))), σ.2)
      | _ => False) else (match glk (gMl o) idx with
    | some (kd, na, _, (_, M') :: _) => Nat.beq kd 0 = true ∧ (match xpop na st [] with
      | some (as, rest) => gcl G M M' o fr Q pc nx L as rest σ K
      | none => False)
    | _ => False)
  | .invokespecial idx => bif gOi o idx then (match st with
      | .inr (.inl r) :: st => ∃ a, r = some a ∧ 1 ≤ fr ∧ gcat st ≤ 80 ∧ K nx L st σ
      | _ => False) else (match glk (gMl o) idx with
    | some (kd, na, _, (_, M') :: _) => (Nat.beq kd 1 || Nat.beq kd 2) = true ∧ (match xpop na st [] with
      | some (.inr (.inl r) :: as, rest) => (∃ a, r = some a) ∧ gcl G M M' o fr Q pc nx L (.inr (.inl r) :: as) rest σ K
      | _ => False)
    | _ => False)
  | .invokevirtual idx => match glk (gMl o) idx with
    | some (kd, na, _, ts) => (Nat.beq kd 3 || Nat.beq kd 4) = true ∧ (match xpop na st [] with
      | some (.inr (.inl r) :: as, rest) => ∃ a ci, r = some a ∧ gObj G σ a ci ∧ ci < 18 ∧ (match glk ts ci with
        | some M' => gcl G M M' o fr Q pc nx L (.inr (.inl r) :: as) rest σ K
        | none => False)
      | _ => False)
    | _ => False
  | .invokeinterface idx _ => match glk (gMl o) idx with
    | some (kd, na, _, ts) => Nat.beq kd 5 = true ∧ (match xpop na st [] with
      | some (.inr (.inl r) :: as, rest) => ∃ a ci vs, r = some a ∧ σ.1 a = some (.inl (ci, vs)) ∧ ci < 18 ∧ (match glk ts ci with
        | some M' => gcl G M M' o fr Q pc nx L (.inr (.inl r) :: as) rest σ K
        | none => False)
      | _ => False)
    | _ => False
  | _ => False
