/-! an exception caught by a clause whose class may not be resolved yet -/
section GCA
variable {E : CtlPost} {e : Env} {d : Bool} {acts : List Action} {s : State} {f : JFrame} {a : Addr} {Q : Handler → Pre}
theorem gGo_cold {x : ExceptionTableEntry} {t : List ExceptionTableEntry} {c : ClassId} {cell : Cell} {vm' : Vm} (hx : covers x f.pc = true) (h0 : x.catchType ≠ 0)
    (hg : (Jvm.resolveClass f.method.cls x.catchType).Gives e.toSetting s.vm (.ok c) vm') (hsz : vm'.classes.size ≤ s.vm.classes.size) (hcell : s.heap[a]? = some cell) (hobj : ∀ k, cell.vm ≠ .statics k)
    (hk : ∃ k, vm'.classes[cell.cls]? = some k) (hc : ∃ k, vm'.classes[c]? = some k) :
    wp (findHandler.go f a (x :: t)) Q E e d acts s ↔
      if vm'.assignable cell.cls c = true then Q (.found x.handlerPc) d acts (s.setVm vm') else wp (findHandler.go f a t) Q E e d acts (s.setVm vm') := by
  simp only [covers] at hx
  obtain ⟨ha, ht⟩ := hg.op (op := VmOp.resolveClass f.method.cls x.catchType) rfl
  have hh : (s.setVm vm').heap[a]? = some cell := hcell
  cases hfit : vm'.assignable cell.cls c <;>
    simp [findHandler.go, hx, h0, ha, ht, hsz, hcell, hobj, hk, hc, hfit, VmOp.dirties, VmOp.acts]
def gHit (e : Env) (s₀ : State) (f : JFrame) (cls : ClassId) (hpc : Nat) (es : List ExceptionTableEntry) : Prop := match es with
  | [] => False
  | x :: t => (covers x f.pc = false ∧ gHit e s₀ f cls hpc t) ∨ (covers x f.pc = true ∧ x.catchType ≠ 0 ∧ ∃ c : ClassId, s₀.vm.ClassLinks e.platform f.method.cls x.catchType c ∧ ((s₀.vm.assignable cls c = true ∧ x.handlerPc = hpc) ∨ (s₀.vm.assignable cls c = false ∧ gHit e s₀ f cls hpc t)))
theorem gFind {e : Env} {s₀ : State} {f : JFrame} {a : Addr} {cell : Cell} {hpc : Nat} (hobj : ∀ k, cell.vm ≠ .statics k) {k0 : Class} (hk0 : s₀.vm.classes[cell.cls]? = some k0) :
    ∀ (es : List ExceptionTableEntry) (U : State), s₀.WarmedH U.vm → U.heap[a]? = some cell → gHit e s₀ f cell.cls hpc es → ∃ vm' : Vm, s₀.WarmedH vm' ∧ ∀ (Q : Handler → Pre) (E : CtlPost) (d : Bool) (acts : List Action), wp (findHandler.go f a es) Q E e d acts U ↔ Q (.found hpc) d acts (U.setVm vm') := by
  intro es
  induction es with
  | nil => intro U _ _ h; exact absurd h id
  | cons x t ih =>
    intro U hW hcell h
    rcases h with ⟨hx, h⟩ | ⟨hx, h0, c, hcl, h⟩
    · obtain ⟨vm', hW', hw⟩ := ih U hW hcell h
      exact ⟨vm', hW', fun Q E d acts => (W.findHandler_go_skip hx).trans (hw Q E d acts)⟩
    · obtain ⟨dk, _, _, kt, hd, _, _, _, _, hkt, _, hopen⟩ := hcl.here
      have hcl₀ := hW.classLinks hcl
      have hW' : s₀.WarmedH (U.vm.noted f.method.cls x.catchType (.cls c)) := hW.noted hd hopen (State.rightAt_cls hcl)
      obtain ⟨ks', hks', -⟩ := hW'.alike.2.2 _ _ hk0
      obtain ⟨kt', hkt', -⟩ := hW'.alike.2.2 _ _ hkt
      have hsz : (U.vm.noted f.method.cls x.catchType (.cls c)).classes.size ≤ U.vm.classes.size := by
        have h1 := hW'.2.1
        have h2 := hW.2.1
        omega
      have key := fun (Q : Handler → Pre) (E : CtlPost) (d : Bool) (acts : List Action) => gGo_cold (E := E) (e := e) (d := d) (acts := acts) (s := U) (f := f) (a := a) (Q := Q) (t := t) hx h0 (resolveClass_links e.toSetting hcl₀) hsz hcell hobj ⟨ks', hks'⟩ ⟨kt', hkt'⟩
      have has : (U.vm.noted f.method.cls x.catchType (.cls c)).assignable cell.cls c = s₀.vm.assignable cell.cls c := hW'.alike.assignable _ _
      rcases h with ⟨h1, h2⟩ | ⟨h1, h2⟩
      · refine ⟨_, hW', fun Q E d acts => (key Q E d acts).trans ?_⟩
        rw [has, h1, if_pos rfl, h2]
      · obtain ⟨vm', hW2, hw⟩ := ih (U.setVm (U.vm.noted f.method.cls x.catchType (.cls c))) hW' hcell h2
        refine ⟨vm', hW2, fun Q E d acts => (key Q E d acts).trans ?_⟩
        rw [has, h1, if_neg (by decide)]
        have := hw Q E d acts
        rw [State.setVm_twice] at this
        exact this
theorem gStepCatch {e : Env} {s : State} {a : Addr} {f : JFrame} {r : List Frame} {pc : Nat} {vm' : Vm} (hfind : ∀ (Q : Handler → Pre) (E : CtlPost) (d : Bool) (acts : List Action), wp (findHandler f a) Q E e d acts s ↔ Q (.found pc) d acts (s.setVm vm')) :
    (stepThrowing e s a (.java f :: r)).Is ((s.setVm vm').setFrames (.java { f with pc := pc, stack := [.ref a] } :: r)) [] := by
  simp only [stepThrowing, searchFrame, vmDo]
  generalize hr : Sem.go _ e false [] s = res
  obtain ⟨as, rfl, ha⟩ := Sem.eq_ok_of hr (a := Handler.found pc) (s' := s.setVm vm') (acts' := []) (by simp [hfind _ _ _ _])
  exact ⟨rfl, ha⟩
theorem gCaught {tb : Tables} {e : Env} {s target : State} {g : JFrame} {c : Code} {below : List Frame} {a : Addr} (h : At s g.method c below) {pc : Nat} {vm' : Vm} (hfind : ∀ (Q : Handler → Pre) (E : CtlPost) (d : Bool) (acts : List Action), wp (findHandler g a) Q E e d acts ((s.setTop g).pushFrame (.throwing a)) ↔ Q (.found pc) d acts (((s.setTop g).pushFrame (.throwing a)).setVm vm'))
    (hrest : Steps tb e below ((s.setVm vm').setTop { g with pc := pc, stack := [.ref a] }) target) :
    Steps tb e below ((s.setTop g).pushFrame (.throwing a)) target := by
  obtain ⟨hgo, hw⟩ := h.throwing a
  refine Steps.head hgo hw ?_
  rw [stepThread_throwing (frames_entered h.top _), (gStepCatch (s := (s.setTop g).pushFrame (.throwing a)) hfind).1]
  obtain ⟨g₀, hg⟩ := Option.isSome_iff_exists.mp h.top
  obtain ⟨r, hr⟩ := State.topJava?_eq_some.mp hg
  have hr' : (s.setVm vm').frames = .java g₀ :: r := hr
  rw [State.setTop_of_frames _ hr'] at hrest
  have e1 : ((((s.setTop g).pushFrame (.throwing a)).setVm vm').setFrames (.java { g with pc := pc, stack := [.ref a] } :: s.frames.tail)) = (s.setVm vm').setFrames (.java { g with pc := pc, stack := [.ref a] } :: r) := by
    rw [State.pushFrame, State.setTop_of_frames _ hr, hr, State.setFrames_setFrames]
    show ((s.setVm vm').setFrames _).setFrames _ = _
    rw [State.setFrames_setFrames]
    rfl
  rw [e1]
  exact hrest
end GCA
section GCB
variable {G : gG} {M : gM} {fr rc rs : Nat} {Q : gO → gS → Prop} {pc : Nat} {L : gL} {σ : gS}
/-- the handler of a method's table for an exception of class ci: by the names of the clauses' classes -/
def ghnd (own : String) (nm : Nat → String) (cx : String) (pc : Nat) (hh : List (Nat × Nat × Nat × Nat)) : Option Nat := match hh with
  | [] => none
  | q :: r => if q.1 ≤ pc ∧ pc < q.2.1 then (if nm q.2.2.2 = cx then some q.2.2.1 else ghnd own nm cx pc r) else ghnd own nm cx pc r
/-- every clause that covers pc is linked, its class known to differ or to be the same -/
def ghok (own : String) (nm : Nat → String) (cx : String) (pc : Nat) (hh : List (Nat × Nat × Nat × Nat)) : Prop := ∀ q ∈ hh, q.1 ≤ pc → pc < q.2.1 → q.2.2.2 ≠ 0 ∧ Cond.classLink own q.2.2.2 (nm q.2.2.2) ∈ lw_all ∧ (nm q.2.2.2 = cx ∨ Cond.not (.castable cx (nm q.2.2.2)) ∈ flatC (Jvm.Cond.and given_1 narrow_1))
theorem gX_catch (hG : gGood G) {hh : List (Nat × Nat × Nat × Nat)} (hM : M.2.2.2.2.1 = some hh) {x ci hpc : Nat} {vs : List gV} {r : vw_C} (nm : Nat → String) (hx : σ.1 x = some (.inl (ci, vs))) (hc : g_cl[ci]? = some r) (hok : ghok M.1.cls nm r.1 pc hh) (hhn : ghnd M.1.cls nm r.1 pc hh = some hpc)
    (h : gW G M fr rc rs Q hpc L [.inr (.inl (some x))] σ) : gX G M fr rc rs Q pc L x σ := by
  intro p e s m args below meth c H locs ls st hC hR hq k1 k2 hl T hT X
  have hts := hC.2.2.2.2.2.2.1
  have hW0 := hC.2.2.2.2.2.2.2.1
  have hpl : e.platform.magicAccessors = ({} : Platform).magicAccessors := by rw [X.admits.platform]
  obtain ⟨cell, k, hcell, hobj, hfc, hk⟩ := gRecv hG hW0 hR hx hc
  have hcls := ((gK hG hW0).1 ci r hc).2
  have htab := hC.2.2.2.2.2.2.2.2.2.1
  unfold gtab at htab
  rw [hM] at htab
  have htab : c.exceptionTable.toList.map (fun x => (x.startPc, x.endPc, x.handlerPc, x.catchType)) = hh := htab
  have hit : ∀ (es : List ExceptionTableEntry) (hh : List (Nat × Nat × Nat × Nat)), es.map (fun x => (x.startPc, x.endPc, x.handlerPc, x.catchType)) = hh → ghok M.1.cls nm r.1 pc hh → ghnd M.1.cls nm r.1 pc hh = some hpc → gHit e s (F0 m pc ls st) cell.cls hpc es := by
    intro es
    induction es with
    | nil => intro hh h1 _ h3; subst h1; cases h3
    | cons y t ih =>
      intro hh h1 h2 h3
      subst h1
      have ht2 : ghok M.1.cls nm r.1 pc (t.map (fun x => (x.startPc, x.endPc, x.handlerPc, x.catchType))) := fun q hq => h2 q (List.mem_cons_of_mem _ hq)
      have h3 : (if y.startPc ≤ pc ∧ pc < y.endPc then (if nm y.catchType = r.1 then some y.handlerPc else ghnd M.1.cls nm r.1 pc (t.map (fun x => (x.startPc, x.endPc, x.handlerPc, x.catchType)))) else ghnd M.1.cls nm r.1 pc (t.map (fun x => (x.startPc, x.endPc, x.handlerPc, x.catchType)))) = some hpc := h3
      by_cases hcv : y.startPc ≤ pc ∧ pc < y.endPc
      · rw [if_pos hcv] at h3
        obtain ⟨w1, w2, w3⟩ := h2 (y.startPc, y.endPc, y.handlerPc, y.catchType) List.mem_cons_self hcv.1 hcv.2
        obtain ⟨c', hc', hcl⟩ := Cond.classLink_spec hC.2.2.2.2.2.1 (hts _ w2) e.platform hpl
        refine Or.inr ⟨by show (decide _ && decide _) = true; rw [decide_eq_true hcv.1, decide_eq_true hcv.2]; rfl, w1, c', hcl, ?_⟩
        by_cases hn : nm y.catchType = r.1
        · rw [if_pos hn] at h3
          refine Or.inl ⟨?_, Option.some.inj h3⟩
          rw [show nm (y.startPc, y.endPc, y.handlerPc, y.catchType).2.2.2 = r.1 from hn] at hc'
          have e1 : c' = cell.cls := Option.some.inj (hc'.symm.trans hfc)
          have e2 : G.2.2.2.1.1 ci = cell.cls := Option.some.inj (hcls.1.symm.trans hfc)
          rw [e1, ← e2]; exact va_assign hcls
        · rw [if_neg hn] at h3
          refine Or.inr ⟨?_, ih _ rfl ht2 h3⟩
          rcases w3 with w3 | w3
          · exact absurd w3 hn
          · obtain ⟨c0, t0, f1, f2, f3⟩ := (va_Nc.of (flat_of_before _ hG.2.2.2 _ w3)).moved hW0.alike
            cases hfc.symm.trans f1
            cases hc'.symm.trans f2
            exact f3
      · rw [if_neg hcv] at h3
        refine Or.inl ⟨?_, ih _ rfl ht2 h3⟩
        show (decide _ && decide _) = false
        by_cases h9 : y.startPc ≤ pc
        · rw [decide_eq_true h9, decide_eq_false (fun q => hcv ⟨h9, q⟩)]; rfl
        · rw [decide_eq_false h9]; rfl
  have hobj' : ∀ k, cell.vm ≠ .statics k := fun z h9 => by rw [h9] at hobj; cases hobj
  obtain ⟨vm', hW', hw⟩ := gFind (e := e) (s₀ := s) (f := F0 m pc ls st) (a := x) (cell := cell) (hpc := hpc) hobj' hk c.exceptionTable.toList ((T.setTop (F0 m pc ls st)).pushFrame (.throwing x)) (by rw [Stand.throwing_vm]; exact X.warmed) (by rw [Stand.throwing_heap, hT]; exact hcell) (hit _ _ htab hok hhn)
  have hfind : ∀ (Q : Handler → Pre) (E : CtlPost) (d : Bool) (acts : List Action), wp (findHandler (F0 m pc ls st) x) Q E e d acts ((T.setTop (F0 m pc ls st)).pushFrame (.throwing x)) ↔ Q (.found hpc) d acts (((T.setTop (F0 m pc ls st)).pushFrame (.throwing x)).setVm vm') := fun Q E d acts => by
    rw [W.findHandler_eq (meth := meth) (code := c) (by rw [Stand.throwing_vm]; exact X.method') X.code]
    exact hw Q E d acts
  obtain ⟨t, a1, a2⟩ := h p e s m args below meth c H locs ls hC hR hq k1 k2 hl (T.setVm vm') hT (X.noted hW')
  exact ⟨t, gCaught X.here hfind a1, a2⟩
end GCB
