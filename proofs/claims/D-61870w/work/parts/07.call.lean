/-! calls: the callee's contract, returned or threw -/
theorem gws_at {M : gM} {s U : State} {args a' : Array Value} (hts : ∀ w ∈ lw_all, w.before args s = true) (hc : gcode M ∈ lw_all) (hW : s.WarmedH U.vm) : ∀ w ∈ gws M, w.before a' U = true := by
  intro w hw
  have h1 : w ∈ lw_all := by
    rcases List.mem_cons.mp hw with e | e
    · rw [e]; exact hc
    · exact e
  exact word_at hW (lw_self w h1).2 (hts w h1)
theorem gword {w : Cond} {s U : State} {args a' : Array Value} (hts : ∀ w ∈ lw_all, w.before args s = true) (h : w ∈ lw_all) (hW : s.WarmedH U.vm) : w.before a' U = true := word_at hW (lw_self w h).2 (hts w h)
/-- a contract: what the body does from its entry -/
def gOKb (G : gG) (M : gM) (fr : Nat) (as : List gV) (σ : gS) (Q : gO → gS → Prop) : Prop := gW G M fr σ.2.2.1 σ.2.2.2 Q 0 (gent 0 as) [] σ
theorem gOKb.mono {G : gG} {M : gM} {fr : Nat} {as : List gV} {σ : gS} {Q Q' : gO → gS → Prop} (h : gOKb G M fr as σ Q) (hq : ∀ o σ, Q o σ → Q' o σ) : gOKb G M fr as σ Q' := gW.mono h hq
def gargw (as : List gV) : Nat := match as with
  | [] => 0
  | v :: r => (bif xlong v then 2 else 1) + gargw r
theorem gargw_eq (as : List gV) : (lg_sl (as.map gc)).length = gargw as := by
  induction as with
  | nil => rfl
  | cons v r ih =>
    have e : (lg_sl ((v :: r).map gc)).length = (if (gc v).category = 2 then [Slot.val (gc v), Slot.second] else [Slot.val (gc v)]).length + (lg_sl (r.map gc)).length := by simp [lg_sl]
    rw [e, ih, gc_cat]
    show _ = (bif xlong v then 2 else 1) + gargw r
    cases xlong v <;> rfl
set_option maxHeartbeats 2000000 in
theorem gFin {G : gG} {M : gM} {fr fr' rc rs : Nat} {as : List gV} {σ : gS} {Q : gO → gS → Prop} {p : Program} {e : Env} {s : State} {m : MethodId} {args : Array Value} {below : List Frame} {meth : Method} {c : Code} {T : State} {locs : List Loc} {cells slots : Nat}
    (X : Stand p G.1 e (grm fr rc rs) s m args below meth c T locs cells slots) (hM : gOKb G M fr' as σ Q) (hexec : p.tables.exec = Jvm.exec) (hts : ∀ w ∈ lw_all, w.before args s = true) (hw0 : G.2.1.WarmedH s.vm) (hc : gcode M ∈ lw_all) (hpl : plainFor M.1 = true) (hsl : gargw as ≤ M.2.2.1)
    {g : JFrame} (hg : g.method = m) (hsize : g.locals.size = c.maxLocals) {ig : Instr} {len : Nat} (hdg : decode c.code g.pc = .ok (ig, len)) {mk : MethodId} (hn : T.methodNamed? M.1 = some mk)
    (hfr : fr = fr' + 1) (hW : 2 * g.monitorRoom + (g.stack.map fun v => v.category).sum + (M.2.2.1 + 11) ≤ 100) (hcells : cells + σ.2.2.1 ≤ rc) (hslots : slots + σ.2.2.2 ≤ rs) (hRep : gRep G σ T.heap) :
    ∃ (out : gO) (σ' : gS) (T' : State) (L : List Loc), Q out σ' ∧ gRep G σ' T'.heap ∧ σ'.2.2.1 ≤ σ.2.2.1 ∧ σ'.2.2.2 ≤ σ.2.2.2 ∧ (∀ q ∈ L, G.2.1.heap.size ≤ q.base) ∧
      Stand p G.1 e (grm fr rc rs) s m args below meth c T' (locs ++ L) (cells + (σ.2.2.1 - σ'.2.2.1)) (slots + (σ.2.2.2 - σ'.2.2.2)) ∧
      (∀ v, out = .inl v → Steps p.tables e below (doInvoke e (T.setTop g) [] mk (as.map gc).toArray).1 (T'.setTop { g with pc := g.pc + len, stack := (v.map gc).toList ++ g.stack })) ∧
      (∀ x, out = .inr x → Steps p.tables e below (doInvoke e (T.setTop g) [] mk (as.map gc).toArray).1 ((T'.setTop g).pushFrame (.throwing x))) := by
  have hcd : (gcode M).before (as.map gc).toArray T = true := gword hts hc X.warmed
  obtain ⟨methY, cY, hmY, hcY, hbY, hlY, htY, hrY, hkY, -⟩ := gcode_spec hn hcd
  have hpm : T.plainMethod mk := State.plainMethod.of_named hpl hn hmY
  obtain ⟨Y, hdo⟩ := X.into hg hsize hdg (as.map gc).toArray (R' := grm fr' σ.2.2.1 σ.2.2.2) hmY hcY hkY hpm (by show fr' + 1 ≤ fr; omega) (by
    rw [hlY]
    show _ + 100 * fr' ≤ 100 * fr
    omega) hcells hslots
  have hW9 : s.WarmedH (T.calling g mk (as.map gc).toArray).vm := X.warmed
  have hC' : gCx G M p (T.calling g mk (as.map gc).toArray) mk (as.map gc).toArray methY cY :=
    ⟨hexec, hbY, hlY, hrY, hkY, findClass_of_methodNamed hn, fun w hw => gword hts hw hW9, State.WarmedH.trans hw0 X.warmed, (name_of_methodNamed hn hmY).1, htY, hRep.2.2.1, hRep.2.2.2.1⟩
  have hl := lv_entry (as.map gc) (n := M.2.2.1) (by rw [gargw_eq]; exact hsl)
  rw [← gent_args] at hl
  have K := hM p e (T.calling g mk (as.map gc).toArray) mk (as.map gc).toArray (.java g :: below) methY cY T.heap [] _ hC' hRep (fun q hq => absurd hq List.not_mem_nil) (Nat.le_refl _) (Nat.le_refl _) hl
  rw [Nat.sub_self, Nat.sub_self] at K
  obtain ⟨t, a1, out, σ', L, b1, b2, b3, b4, b5, b6, b7, b8, b9⟩ := K ((T.setTop g).pushFrame (.java (entryFrame mk (as.map gc).toArray cY.maxLocals))) (by rfl) Y
  have hst : Steps p.tables e below (doInvoke e (T.setTop g) [] mk (as.map gc).toArray).1 t := by
    have e9 : entryFrame mk (as.map gc).toArray cY.maxLocals = F0 mk 0 ((lg_sl (as.map gc) ++ List.replicate (M.2.2.1 - (lg_sl (as.map gc)).length) Slot.unset).toArray) [] := by rw [hlY]; exact lg_entry_eq mk (as.map gc) M.2.2.1
    have a1' : Steps p.tables e (.java g :: below) (((T.setTop g).pushFrame (.java (entryFrame mk (as.map gc).toArray cY.maxLocals))).setTop (F0 mk 0 ((lg_sl (as.map gc) ++ List.replicate (M.2.2.1 - (lg_sl (as.map gc)).length) Slot.unset).toArray) [])) t := a1
    rw [← e9] at a1'
    rw [hdo []]
    exact Steps.weaken (mid := [.java g]) a1'
  cases out with
  | inl v =>
    obtain ⟨T', X', hW', -, ht⟩ := X.outOf hg hdg (mk := mk) (a := (as.map gc).toArray) (t := t) (v := v.map gc) (L := L) b2 b5 b6
    refine ⟨.inl v, σ', T', L, b3, ?_, b8, b9, b7, X', (fun v' hv => ?_), (fun x hx => by cases hx)⟩
    · have : T'.heap = t.heap := by rw [ht]; rfl
      rw [this]; exact b4
    · cases hv
      rw [← ht]; exact hst
  | inr x =>
    obtain ⟨T', X', hW', -, ht⟩ := X.outOfThrown hg (mk := mk) (a := (as.map gc).toArray) (t := t) (x := x) (L := L) b2 b5 b6
    have hheap : t.heap = T'.heap := by rw [ht, Stand.throwing_heap]
    refine ⟨.inr x, σ', T', L, b3, by rw [← hheap]; exact b4, b8, b9, b7, X', (fun v hv => by cases hv), fun x' hx => ?_⟩
    cases hx
    rw [← ht]; exact hst
/-- an exception is under way over the body's frame at pc -/
def gX (G : gG) (M : gM) (fr rc rs : Nat) (Q : gO → gS → Prop) (pc : Nat) (L : gL) (x : Nat) (σ : gS) : Prop :=
  ∀ (p : Program) (e : Env) (s : State) (m : MethodId) (args : Array Value) (below : List Frame) (meth : Method) (c : Code) (H : Heap) (locs : List Loc) (ls : Array Slot) (st : List Value),
    gCx G M p s m args meth c → gRep G σ H → (∀ q ∈ locs, G.2.1.heap.size ≤ q.base) → σ.2.2.1 ≤ rc → σ.2.2.2 ≤ rs → lv_has ls M.2.2.1 (gcL L) →
    ∀ T : State, T.heap = H → Stand p G.1 e (grm fr rc rs) s m args below meth c T locs (rc - σ.2.2.1) (rs - σ.2.2.2) → ∃ t, Steps p.tables e below ((T.setTop (F0 m pc ls st)).pushFrame (.throwing x)) t ∧ gPost G s below rc rs Q t
/-- the step from the invoking instruction to the callee's entry -/
def gEnt (G : gG) (M M' : gM) (fr rc rs : Nat) (pc : Nat) (st : List gV) (as rest : List gV) (σ : gS) : Prop :=
  ∀ (p : Program) (e : Env) (s : State) (m : MethodId) (args : Array Value) (below : List Frame) (meth : Method) (c : Code) (H : Heap) (locs : List Loc) (ls : Array Slot) (cells slots : Nat) (T : State),
    gCx G M p s m args meth c → gRep G σ H → ls.size = M.2.2.1 → T.heap = H → Stand p G.1 e (grm fr rc rs) s m args below meth c T locs cells slots →
    ∃ (vm₁ : Vm) (mk : MethodId), Stand p G.1 e (grm fr rc rs) s m args below meth c (T.setVm vm₁) locs cells slots ∧ s.methodNamed? M'.1 = some mk ∧
      ∀ tg, Steps p.tables e below (doInvoke e ((T.setVm vm₁).setTop (F0 m pc ls (rest.map gc))) [] mk (as.map gc).toArray).1 tg → Steps p.tables e below (T.setTop (F0 m pc ls (st.map gc))) tg
def gcat (st : List gV) : Nat := match st with
  | [] => 0
  | v :: r => (bif xlong v then 2 else 1) + gcat r
theorem gcat_eq (st : List gV) : ((st.map gc).map fun v => v.category).sum = gcat st := by
  induction st with
  | nil => rfl
  | cons v r ih =>
    have e : (((v :: r).map gc).map fun v => v.category).sum = (gc v).category + ((r.map gc).map fun v => v.category).sum := by simp
    rw [e, ih, gc_cat]
    show _ = (bif xlong v then 2 else 1) + gcat r
    cases xlong v <;> rfl
/-- what becomes of a call's outcome -/
def gAft (G : gG) (M : gM) (fr rc rs : Nat) (Q : gO → gS → Prop) (pc nx : Nat) (L : gL) (rest : List gV) : gO → gS → Prop := fun out σ => match out with
  | .inl v => gW G M fr rc rs Q nx L (v.toList ++ rest) σ
  | .inr x => gX G M fr rc rs Q pc L x σ
theorem gW_call {G : gG} {M M' : gM} {fr fr' rc rs : Nat} {Q : gO → gS → Prop} {pc nx : Nat} {i : Instr} {len : Nat} (hd : decode M.2.1 pc = .ok (i, len)) (hnx : nx = pc + len) {L : gL} {st as rest : List gV} {σ : gS}
    (hent : gEnt G M M' fr rc rs pc st as rest σ) (hc : gcode M' ∈ lw_all) (hpl : plainFor M'.1 = true) (hsl : gargw as ≤ M'.2.2.1) (hfr : fr = fr' + 1) (hW : gcat rest + (M'.2.2.1 + 11) ≤ 100)
    (h : gOKb G M' fr' as σ (gAft G M fr rc rs Q pc nx L rest)) : gW G M fr rc rs Q pc L st σ := by
  intro p e s m args below meth c H locs ls hC hR hq h1 h2 hl
  intro T hT X
  obtain ⟨vm₁, mk, X₁, hnm, hst⟩ := hent p e s m args below meth c H locs ls _ _ T hC hR hl.1 hT X
  obtain ⟨out, σ', T', L', hQ, hR', c1, c2, hL', X', hret, hthr⟩ := gFin (σ := σ) X₁ h hC.1 hC.2.2.2.2.2.2.1 hC.2.2.2.2.2.2.2.1 hc hpl hsl (g := F0 m pc ls (rest.map gc)) rfl (hl.1.trans hC.2.2.1.symm) (ig := i) (len := len) (by rw [hC.2.1]; exact hd) (X₁.named hnm) hfr
    (by
      have := gcat_eq rest
      show 2 * 0 + ((rest.map gc).map fun v => v.category).sum + _ ≤ 100
      omega) (by omega) (by omega) (by rw [show (T.setVm vm₁).heap = T.heap from rfl, hT]; exact hR)
  have e1 : rc - σ.2.2.1 + (σ.2.2.1 - σ'.2.2.1) = rc - σ'.2.2.1 := by omega
  have e2 : rs - σ.2.2.2 + (σ.2.2.2 - σ'.2.2.2) = rs - σ'.2.2.2 := by omega
  rw [e1, e2] at X'
  have hq' : ∀ q ∈ locs ++ L', G.2.1.heap.size ≤ q.base := fun q hh => by
    rcases List.mem_append.mp hh with z | z
    · exact hq q z
    · exact hL' q z
  cases out with
  | inl v =>
    have hK : gW G M fr rc rs Q nx L (v.toList ++ rest) σ' := hQ
    obtain ⟨t, a1, a2⟩ := hK p e s m args below meth c T'.heap (locs ++ L') ls hC hR' hq' (by omega) (by omega) hl T' rfl X'
    refine ⟨t, hst t ((hret v rfl).trans ?_), a2⟩
    have e3 : (v.toList ++ rest).map gc = (v.map gc).toList ++ rest.map gc := by cases v <;> simp
    rw [e3, hnx] at a1
    exact a1
  | inr x =>
    have hK : gX G M fr rc rs Q pc L x σ' := hQ
    obtain ⟨t, a1, a2⟩ := hK p e s m args below meth c T'.heap (locs ++ L') ls (rest.map gc) hC hR' hq' (by omega) (by omega) hl T' rfl X'
    exact ⟨t, hst t ((hthr x rfl).trans a1), a2⟩
/-- the exception leaves the body -/
theorem gX_out {G : gG} {M : gM} {fr rc rs : Nat} {Q : gO → gS → Prop} {pc : Nat} {L : gL} {x : Nat} {σ : gS} (hh : (M.2.2.2.2.1.getD []).all (fun q => !(decide (q.1 ≤ pc) && decide (pc < q.2.1))) = true) (h : Q (.inr x) σ) : gX G M fr rc rs Q pc L x σ := by
  intro p e s m args below meth c H locs ls st hC hR hq h1 h2 hl T hT X
  have hk : meth.locks = false := hC.2.2.2.2.1
  have hout : ∀ y ∈ c.exceptionTable.toList, covers y (F0 m pc ls st).pc = false := by
    intro y hy
    have ht := hC.2.2.2.2.2.2.2.2.2.1
    unfold gtab at ht
    rw [← ht] at hh
    have := List.all_eq_true.mp hh (y.startPc, y.endPc, y.handlerPc, y.catchType) (List.mem_map.mpr ⟨y, hy, rfl⟩)
    have this : (!(decide (y.startPc ≤ pc) && decide (pc < y.endPc))) = true := this
    rw [Bool.not_eq_true'] at this
    exact this
  obtain ⟨a1, a2, a3, a4, a5⟩ := X.leaveThrown x (g := F0 m pc ls st) rfl rfl rfl hout hk
  refine ⟨_, a1, .inr x, σ, locs, a2, a3, h, ?_, a4, a5, hq, h1, h2⟩
  show gRep G σ T.heap
  rw [hT]; exact hR
