/-! L1: the machine's heap by an abstract heap; a body's judgement gW; soundness of xcore -/
abbrev gV : Type := xV (Option Nat)
abbrev gL : Type := xL (Option Nat)
def gc (v : gV) : Value := match v with
  | .inl z => .int (Int32.ofInt z)
  | .inr (.inl o) => va_rf o
  | .inr (.inr x) => .long x
def gcL (L : gL) : List (Nat × Value) := L.map (fun q => (q.1, gc q.2))
/-- an outcome: returned (with a value or none), or threw -/
abbrev gO : Type := Option gV ⊕ Nat
def gout (o : gO) : Outcome := match o with
  | .inl v => .returned (v.map gc)
  | .inr a => .threw a
/-- abstract cells: an object (number of its class, fields) or an array (number of its class, length, contents) -/
abbrev gE : Type := (Nat × List gV) ⊕ (Nat × Nat × ((Nat → Int) ⊕ (Nat → Option Nat) ⊕ (Nat → Int64)))
/-- abstract state: cells by address, next address, cells and slots left -/
abbrev gS : Type := (Nat → Option gE) × Nat × Nat × Nat
/-- ghosts: launch, the law's start state, its arguments, class numbers and slots, array classes -/
abbrev gG : Type := Launch × State × Array Value × va_G × (Nat → ClassId)
abbrev g_cl : List vw_C := [(RX1, TX1, 9), (RX3, TX3, 1), (RX4, TX4, 5), (RX5, TX5, 31), (RX6, TX6, 7), (RX7, TX7, 3), (RX8, TX8, 3), (RX9, TX9, 1), (RX10, TX10, 2), (RX11, TX11, 2), (RJ2, TJ2, 3), (RJ22, TJ22, 4), (RJ17, TJ17, 1), (RJ6, TJ6, 0), (RJ20, TJ20, 0), (RJ18, TJ18, 0), (RJ23, TJ23, 0), (RJ21, TJ21, 0)]
abbrev g_tys (G : gG) : List (ClassId × FieldType) := [(G.2.2.2.2 0, .int), (G.2.2.2.2 1, .boolean), (G.2.2.2.2 2, .long), (G.2.2.2.2 3, .object "java/lang/Object"), (G.2.2.2.2 4, .object "XactKernel$Item"), (G.2.2.2.2 5, .object "XactKernel$Process"), (G.2.2.2.2 6, .object "XactKernel$Descriptor")]
def gcE (G : gG) (e : gE) : va_E := match e with
  | .inl (ci, vs) => .inr (ci, vs.map gc)
  | .inr (t, n, .inl f) => .inl (G.2.2.2.2 t, n, .inl (fun j => Int32.ofInt (f j)))
  | .inr (t, n, .inr (.inl f)) => .inl (G.2.2.2.2 t, n, .inr (.inr (.inr (.inr f))))
  | .inr (t, n, .inr (.inr f)) => .inl (G.2.2.2.2 t, n, .inr (.inl f))
/-- which fields are boolean -/
def gbool (ci k : Nat) : Bool := (Nat.beq ci 2 && Nat.beq k 4) || (Nat.beq ci 3 && Nat.beq k 30) || (Nat.beq ci 4 && Nat.beq k 1) || (Nat.beq ci 5 && Nat.beq k 1)
def okI (b : Bool) (z : Int) : Prop := match b with
  | true => z = 0 ∨ z = 1
  | false => inR z
def gwf (e : gE) : Prop := match e with
  | .inl (ci, vs) => ∀ (k : Nat) (z : Int), vs[k]? = some (.inl z) → okI (gbool ci k) z
  | .inr (t, _, .inl f) => ∀ j : Nat, okI (Nat.beq t 1) (f j)
  | _ => True
def gRep (G : gG) (σ : gS) (H : Heap) : Prop :=
  H.size = σ.2.1 ∧ G.2.1.heap.size ≤ H.size ∧ (∀ q : Nat, q < G.2.1.heap.size → H[q]? = G.2.1.heap[q]?) ∧ (∀ (q : Nat) (c : Cell), G.2.1.heap.size ≤ q → H[q]? = some c → c.vm.isStatics = false) ∧ ∀ (a : Nat) (e : gE), σ.1 a = some e → gwf e ∧ va_at G.2.2.2.1 g_cl (a, gcE G e) H
/-- a method: name, bytes, locals, answer, handlers, its code table -/
abbrev gM : Type := MethodName × ByteArray × Nat × Option FieldType × Option (List (Nat × Nat × Nat × Nat)) × xTb
def gcode (M : gM) : Cond := match M.2.2.2.2.1 with
  | none => Cond.code M.1 M.2.1 M.2.2.1 M.2.2.2.1
  | some hh => Cond.codeWith M.1 M.2.1 M.2.2.1 M.2.2.2.1 hh
def gws (M : gM) : List Cond := gcode M :: lw_all
def grm (fr rc rs : Nat) : Room := { frames := fr, cells := rc, slots := rs, locals := 100 * fr }
/-- the exception table, as the word has it -/
def gtab (M : gM) (c : Code) : Prop := c.exceptionTable.toList.map (fun x => (x.startPc, x.endPc, x.handlerPc, x.catchType)) = M.2.2.2.2.1.getD []
/-- what a body leans on -/
def gCx (G : gG) (M : gM) (p : Program) (s : State) (m : MethodId) (args : Array Value) (meth : Method) (c : Code) : Prop :=
  p.tables.exec = Jvm.exec ∧ c.code = M.2.1 ∧ c.maxLocals = M.2.2.1 ∧ meth.sig.returnType = M.2.2.2.1 ∧ meth.locks = false ∧ s.vm.findClass M.1.cls = some m.cls ∧ (∀ w ∈ lw_all, w.before args s = true) ∧ G.2.1.WarmedH s.vm ∧ meth.name = M.1.name ∧ gtab M c ∧ (∀ q : Nat, q < G.2.1.heap.size → s.heap[q]? = G.2.1.heap[q]?) ∧ (∀ (q : Nat) (x : Cell), G.2.1.heap.size ≤ q → s.heap[q]? = some x → x.vm.isStatics = false)
/-- how a body ends -/
def gPost (G : gG) (s : State) (below : List Frame) (rc rs : Nat) (Q : gO → gS → Prop) : State → Prop := fun t =>
  ∃ (out : gO) (σ : gS) (L : List Loc), t.status = .running ∧ Ended t below (gout out) ∧ Q out σ ∧ gRep G σ t.heap ∧ s.WarmedH t.vm ∧ s.sameButNew ({ t with vm := s.vm } : State) L (rc - σ.2.2.1) (rs - σ.2.2.2) ∧ (∀ q ∈ L, G.2.1.heap.size ≤ q.base) ∧ σ.2.2.1 ≤ rc ∧ σ.2.2.2 ≤ rs
/-- a body's judgement at pc -/
def gW (G : gG) (M : gM) (fr rc rs : Nat) (Q : gO → gS → Prop) (pc : Nat) (L : gL) (st : List gV) (σ : gS) : Prop :=
  ∀ (p : Program) (e : Env) (s : State) (m : MethodId) (args : Array Value) (below : List Frame) (meth : Method) (c : Code) (H : Heap) (locs : List Loc) (ls : Array Slot),
    gCx G M p s m args meth c → gRep G σ H → (∀ q ∈ locs, G.2.1.heap.size ≤ q.base) → σ.2.2.1 ≤ rc → σ.2.2.2 ≤ rs → lv_has ls M.2.2.1 (gcL L) →
    W p G.1 e (grm fr rc rs) s m args below meth c H locs (rc - σ.2.2.1) (rs - σ.2.2.2) (gPost G s below rc rs Q) (F0 m pc ls (st.map gc))
theorem xget_mem {ρ : Type} {L : xL ρ} {k : Nat} {v : xV ρ} (h : xget L k = some v) : (k, v) ∈ L := by
  induction L with
  | nil => cases h
  | cons q r ih =>
    obtain ⟨a, b⟩ := q
    unfold xget at h
    cases hb : Nat.beq a k with
    | true =>
      rw [hb] at h
      have e1 : a = k := Nat.eq_of_beq_eq_true hb
      have e2 : b = v := Option.some.inj h
      subst e1; subst e2
      exact List.mem_cons_self
    | false =>
      rw [hb] at h
      exact List.mem_cons_of_mem _ (ih h)
theorem gget {L : gL} {k nL : Nat} {v : gV} {ls : Array Slot} (h : xget L k = some v) (hl : lv_has ls nL (gcL L)) : ls[k]? = some (.val (gc v)) :=
  hl.2.2 (k, gc v) (List.mem_map.mpr ⟨(k, v), xget_mem h, rfl⟩)
theorem gc_cat (v : gV) : (gc v).category = if xlong v = true then 2 else 1 := by
  rcases v with z | o | x
  · rfl
  · cases o <;> rfl
  · rfl
theorem gc_cat1 {v : gV} (h : xlong v = false) : (gc v).category = 1 := by rw [gc_cat, h]; rfl
theorem gcL_del (L : gL) (k : Nat) : gcL (xdel L k) = (gcL L).filter (fun q => !(q.1 == k) && !(q.1 + 1 == k && q.2.category == 2)) := by
  induction L with
  | nil => rfl
  | cons q r ih =>
    obtain ⟨a, v⟩ := q
    have hc : ((gc v).category == 2) = xlong v := by
      rw [gc_cat]
      cases xlong v <;> rfl
    have e1 : gcL ((a, v) :: r) = (a, gc v) :: gcL r := rfl
    have e3 : ∀ x y : Nat, Nat.beq x y = (x == y) := fun x y => by rw [Bool.eq_iff_iff]; simp
    have e2 : xdel ((a, v) :: r) k = bif (Nat.beq a k || (Nat.beq (a + 1) k && xlong v)) then xdel r k else (a, v) :: xdel r k := rfl
    rw [e1, List.filter_cons, ← ih, e2]
    simp only [hc, e3]
    cases ha : (a == k) <;> cases hb : (a + 1 == k) <;> cases hv : xlong v <;> simp [gcL]
theorem xins_mem {ρ : Type} {L : xL ρ} {k : Nat} {v : xV ρ} {q : Nat × xV ρ} (h : q ∈ xins L k v) : q ∈ (k, v) :: L := by
  induction L with
  | nil => exact h
  | cons a r ih =>
    unfold xins at h
    cases hb : Nat.ble a.1 k with
    | true =>
      rw [hb] at h
      rcases List.mem_cons.mp h with e | e
      · subst e; exact List.mem_cons_of_mem _ List.mem_cons_self
      · rcases List.mem_cons.mp (ih e) with e | e
        · subst e; exact List.mem_cons_self
        · exact List.mem_cons_of_mem _ (List.mem_cons_of_mem _ e)
    | false => rw [hb] at h; exact h
theorem gcL_ins {ls : Array Slot} {nL k : Nat} {L : gL} {v : gV} (h : lv_has ls nL (gcL ((k, v) :: xdel L k))) : lv_has ls nL (gcL (xset L k v)) := by
  refine ⟨h.1, h.2.1, fun q hq => h.2.2 q ?_⟩
  obtain ⟨a, ha, rfl⟩ := List.mem_map.mp hq
  exact List.mem_map.mpr ⟨a, xins_mem ha, rfl⟩
theorem gcL_set {ls : Array Slot} {nL k : Nat} {L : gL} {v : gV} {w : Value} (e : gc v = w) : (k, w) :: (gcL L).filter (fun q => !(q.1 == k) && !(q.1 + 1 == k && q.2.category == 2)) = gcL ((k, v) :: xdel L k) := by
  rw [← gcL_del, ← e]
  rfl
theorem xoi (x : Int32) : Int32.ofInt x.toInt = x := Int32.ofInt_toInt x
theorem x_toInt {z : Int} (h : inR z) : (Int32.ofInt z).toInt = z := by
  have h1 := h.1
  have h2 := h.2
  have h3 : (Int32.size : Int) = 4294967296 := rfl
  rw [Int32.toInt_ofInt]
  simp only [Int.bmod]
  rw [h3]
  omega
theorem x_eq {a b : Int} (ha : inR a) (hb : inR b) : Int32.ofInt a = Int32.ofInt b ↔ a = b := by
  constructor
  · intro h
    have := congrArg Int32.toInt h
    rwa [x_toInt ha, x_toInt hb] at this
  · intro h; rw [h]
theorem x_lt {a b : Int} (ha : inR a) (hb : inR b) : Int32.ofInt a < Int32.ofInt b ↔ a < b := by
  rw [Int32.lt_iff_toInt_lt, x_toInt ha, x_toInt hb]
theorem x_le {a b : Int} (ha : inR a) (hb : inR b) : Int32.ofInt a ≤ Int32.ofInt b ↔ a ≤ b := by
  rw [Int32.le_iff_toInt_le, x_toInt ha, x_toInt hb]
theorem x_0 : Int32.ofInt 0 = 0 := rfl
theorem inR0 : inR 0 := by constructor <;> decide
