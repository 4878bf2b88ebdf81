/-! the words of exceptions at a body's start; an exception made and thrown -/
theorem gLaysStatic {s0 s : State} {A args : Array Value} (hal : s0.vm.Alike s.vm) (hh : ∀ q : Nat, q < s0.heap.size → s.heap[q]? = s0.heap[q]?) {O f d : String} (h : (Cond.laysStatic O f d).before A s0 = true) : (Cond.laysStatic O f d).before args s = true := by
  obtain ⟨c, k, i, fd, a, cell, hc, hf, hst, hsta, hcell, hiss, hcls, hlt, hty⟩ := Cond.laysStatic_spec h
  obtain ⟨k', hf', he⟩ := State.fieldFound?_setVm hal hf
  have hc' : s.vm.findClass O = some c := by rw [hal.findClass]; exact hc
  have hf'' : s.fieldFound? O f d = some (c, k', i, fd) := hf'
  have hcell' : s.heap[a]? = some cell := by rw [hh a (Array.getElem?_eq_some_iff.mp hcell).1]; exact hcell
  have e1 : k'.statics = some a := by rw [he]; exact hsta
  have e2 : k'.staticTypes[fd.slot]? = some fd.type := by rw [he]; exact hty
  simp [Cond.before, Cond.holds, Cond.value, hc', hf'', hst, e1, hcell', hiss, hcls, hlt, e2]
theorem gIsRefStatic {s0 s : State} {A args : Array Value} (hal : s0.vm.Alike s.vm) (hh : ∀ q : Nat, q < s0.heap.size → s.heap[q]? = s0.heap[q]?) {O f d : String} (hl : (Cond.laysStatic O f d).before A s0 = true) (hini : (Cond.initialized O).before A s0 = true) (h : (Cond.isRef (.static O f d)).before A s0 = true) : (Cond.isRef (.static O f d)).before args s = true := by
  have hz : va_Zq O f d (fun q => s0.heap.size ≤ q) s s.heap := (va_Zq.moved hal (va_Zqof hl hini h (fun a ha => Nat.not_le.mpr ha))).kept (fun a ha _ => hh a ha)
  have key : ∀ v : Value, va_Z O f d v (fun q => s0.heap.size ≤ q) s s.heap → (Term.static O f d).eval args s none [] s = some v := by
    intro v hv
    obtain ⟨cf, kf, fi, fd, a, cell, h1, h2, h3, h4, h5, h6, h7, h8⟩ := hv
    simp [Term.eval, State.fieldNamed?, h1, h2, h4, h5, h6, h7]
  rcases hz with hz | ⟨t, hz⟩
  · simp [Cond.before, Cond.holds, Cond.value, key _ hz]
  · simp [Cond.before, Cond.holds, Cond.value, key _ hz]
/-- a word of the tables or premises that can be had at every body's start -/
def gHas (w : Cond) : Bool := match w with
  | .castable a b => decide (Cond.castable a b ∈ lw_tbl)
  | .declares x => decide (Cond.declares x ∈ lw_tbl)
  | .laysStatic a b c => decide (Cond.laysStatic a b c ∈ lw_tbl)
  | .isRef (.static a b c) => decide (Cond.isRef (.static a b c) ∈ flatC (Jvm.Cond.and given_1 narrow_1)) && decide (Cond.laysStatic a b c ∈ lw_tbl) && decide (Cond.initialized a ∈ lw_tbl)
  | w => decide (w ∈ lw_tbl) && goodWord w
theorem gHas_ok {G : gG} (hG : gGood G) {s : State} {args : Array Value} (hW : G.2.1.WarmedH s.vm) (hh : ∀ q : Nat, q < G.2.1.heap.size → s.heap[q]? = G.2.1.heap[q]?) {w : Cond} (h : gHas w = true) : w.before args s = true := by
  unfold gHas at h
  split at h
  · exact va_Nw.use rfl (va_Nw.warmC hW (va_Nw.of rfl (hG.1 _ (by simpa using h))))
  · exact va_Nw.use rfl (va_Nw.warmD hW (va_Nw.of rfl (hG.1 _ (by simpa using h))))
  · exact gLaysStatic hW.alike hh (hG.1 _ (by simpa using h))
  · simp only [Bool.and_eq_true, decide_eq_true_eq] at h
    exact gIsRefStatic hW.alike hh (hG.1 _ h.1.2) (hG.1 _ h.2) (flat_of_before _ hG.2.2.2 _ h.1.1)
  · simp only [Bool.and_eq_true, decide_eq_true_eq] at h
    exact word_at hW (good_of_word h.2) (hG.1 _ h.1)
def gXn : List String := ["java/lang/RuntimeException", "java/lang/Exception"]
set_option maxRecDepth 100000 in
set_option maxHeartbeats 4000000 in
theorem gHas_iae : (Jvm.Bundle.ownAtoms0 "XactKernel" 41 "java/lang/IllegalArgumentException" gXn).all gHas = true := by decide +kernel
set_option maxRecDepth 100000 in
set_option maxHeartbeats 4000000 in
theorem gHas_ise : (Jvm.Bundle.ownAtoms0 "XactKernel" 65 "java/lang/IllegalStateException" gXn).all gHas = true := by decide +kernel
set_option maxRecDepth 100000 in
set_option maxHeartbeats 4000000 in
theorem gHas_iob : (Jvm.Bundle.ownAtoms0 "XactKernel" 44 "java/lang/IndexOutOfBoundsException" gXn).all gHas = true := by decide +kernel
set_option maxRecDepth 100000 in
set_option maxHeartbeats 4000000 in
theorem gHas_uoe : (Jvm.Bundle.ownAtoms0 "XactKernel" 47 "java/lang/UnsupportedOperationException" gXn).all gHas = true := by decide +kernel
set_option maxRecDepth 100000 in
set_option maxHeartbeats 4000000 in
theorem gHas_nse : (Jvm.Bundle.ownAtoms0 "XactKernel" 50 "java/util/NoSuchElementException" gXn).all gHas = true := by decide +kernel
theorem gtraces {l : Launch} {e : Env} (hf : l.flags = flags0) (ha : l.admits e) : e.platform.stackTraces = false := Launch.traces_off hf ha
