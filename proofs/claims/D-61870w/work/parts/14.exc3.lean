/-! rows: an exception made; thrown; caught -/
section GX3
variable {G : gG} {M : gM} {fr rc rs : Nat} {Q : gO → gS → Prop} {pc : Nat} {L : gL} {rest : List gV} {σ : gS}
theorem lv_dup_ref {p : Program} {l : Launch} {e : Env} {R : Room} {s : State} {m : MethodId} {args : Array Value} {below : List Frame} {meth : Method} {c : Code} {H : Heap} {locs : List Loc} {cells slots : Nat} {Q : State → Prop} {cc : ByteArray} {pc : Nat} {ls : Array Slot} {rest : List Value} {a : Nat} (hexec : p.tables.exec = Jvm.exec) (hb : c.code = cc) (hdg : decode cc pc = .ok (.dup, 1))
    (k : W p l e R s m args below meth c H locs cells slots Q (F0 m (pc + 1) ls (.ref a :: .ref a :: rest))) : W p l e R s m args below meth c H locs cells slots Q (F0 m pc ls (.ref a :: rest)) := lv_dup hexec hb hdg rfl k
set_option maxHeartbeats 1000000 in
theorem gW_mkExc (hG : gGood G) {i1 ic : Nat} (hd0 : decode M.2.1 pc = .ok (.new i1, 3)) (hd3 : decode M.2.1 (pc + 3) = .ok (.dup, 1)) (hd4 : decode M.2.1 (pc + 4) = .ok (.invokespecial ic, 3)) {ci : Nat} {r : vw_C} (hc : g_cl[ci]? = some r) (h0 : r.2.2 = 0)
    (h1 : Cond.classLink M.1.cls i1 r.1 ∈ lw_all) (h2 : Cond.instantiable r.1 6 ∈ lw_all) (h3 : Cond.initialized r.1 ∈ lw_all) (hat : (Jvm.Bundle.ownAtoms0 M.1.cls ic r.1 gXn).all gHas = true) (hfit : Jvm.Bundle.fit r.1 = true)
    (hcr : 1 ≤ σ.2.2.1) (hsr : 6 ≤ σ.2.2.2) (hfr : 6 ≤ fr) (hcat : gcat rest ≤ 20)
    (h : gW G M fr rc rs Q (pc + 7) L (.inr (.inl (some σ.2.1)) :: rest) (gset σ.1 σ.2.1 (.inl (ci, [])), σ.2.1 + 1, σ.2.2.1 - 1, σ.2.2.2 - 6)) : gW G M fr rc rs Q pc L rest σ := by
  intro p e s m args below meth c H locs ls hC hR hq k1 k2 hl
  have hts := hC.2.2.2.2.2.2.1
  have hW0 := hC.2.2.2.2.2.2.2.1
  have hK := gK hG hW0
  have hKn := hK.1 ci r hc
  intro T0 hT0 X0
  have hss : s.heap.size ≤ σ.2.1 := by
    have h9 : s.heap.size ≤ T0.heap.size := X0.same.2.1
    rw [hT0, hR.1] at h9
    exact h9
  suffices key : W p G.1 e (grm fr rc rs) s m args below meth c H locs (rc - σ.2.2.1) (rs - σ.2.2.2) (gPost G s below rc rs Q) (F0 m pc ls (rest.map gc)) from key T0 hT0 X0
  clear hT0 X0 T0
  refine W.newcK hC.1 hC.2.1 hC.2.2.2.2.2.1 (hts _ h1) (hts _ h2) (hts _ h3) rfl hd0 (by show _ + 1 ≤ rc; omega) (by show _ + 6 ≤ rs; omega) hKn.2.1 hR.1 fun H1 kC hkC e1 z1 o1 => ?_
  refine lv_dup_ref hC.1 hC.2.1 hd3 ?_
  intro T hT X
  have hatoms : ∀ a ∈ Jvm.Bundle.ownAtoms0 M.1.cls ic r.1 gXn, a.before args s = true := fun w hw => gHas_ok hG hW0 hC.2.2.2.2.2.2.2.2.2.2.1 (List.all_eq_true.mp hat w hw)
  have hlocs : ∀ x ∈ locs, ∀ cell, s.heap[x.base]? = some cell → cell.vm.isStatics = false := fun x hx cell hcell => hC.2.2.2.2.2.2.2.2.2.2.2 x.base cell (hq x hx) hcell
  obtain ⟨vm', ce, L', X', hL', hce1, hce2, hst⟩ := gCtor0 X hC.1 (gtraces hG.2.2.1 X.admits) (own := M.1.cls) (cls := r.1) (names := gXn) (ic := ic) hC.2.2.2.2.2.1 hfit (by decide) hatoms hlocs (a := σ.2.1) hKn.2.1 hkC (by rw [hT]; exact e1) hss (g := F0 m (pc + 3 + 1) ls (.ref σ.2.1 :: .ref σ.2.1 :: rest.map gc)) rfl (by rw [hC.2.2.1]; exact hl.1) (rest := .ref σ.2.1 :: rest.map gc) rfl (by rw [hC.2.1]; exact hd4)
    (by show 2 + 3 < fr; omega) (by
      show 2 * 0 + ((Value.ref σ.2.1 :: rest.map gc).map fun v => v.category).sum + (13 * (2 + 1) + 41) ≤ 100 * fr
      have := gcat_eq rest
      simp only [List.map_cons, List.sum_cons]
      have h9 : (Value.ref σ.2.1).category = 1 := rfl
      omega)
  have hlt : σ.2.1 < T.heap.size := by rw [hT, z1]; omega
  have hheap : ((T.setVm vm').setCell σ.2.1 ce).heap[σ.2.1]? = some ce := heapAt_setCell_self (s := T.setVm vm') ce hlt
  have hne : ∀ q : Nat, q ≠ σ.2.1 → ((T.setVm vm').setCell σ.2.1 ce).heap[q]? = H1[q]? := fun q hq => by
    rw [heapAt_setCell_ne _ (Ne.symm hq)]
    show T.heap[q]? = _
    rw [hT]
  have hz : ((T.setVm vm').setCell σ.2.1 ce).heap.size = H.size + 1 := by
    rw [size_setCell]
    show T.heap.size = _
    rw [hT, z1, hR.1]
  have hvat : va_at G.2.2.2.1 g_cl (σ.2.1, gcE G (.inl (ci, []))) ((T.setVm vm').setCell σ.2.1 ce).heap := ⟨r, hc, ce, hheap, hce1, hce2, fun k hk => absurd hk (by rw [h0]; exact Nat.not_lt_zero _)⟩
  have hR' := hR.push (e := .inl (ci, [])) (H' := ((T.setVm vm').setCell σ.2.1 ce).heap) (rc := σ.2.2.1 - 1) (rs := σ.2.2.2 - 6) (fun k z hz => by simp at hz) hheap (by rw [hce2]; rfl) hz (fun q hq => by
    rw [hne q (by rw [hR.1] at hq; omega)]
    exact o1 q (by rw [← hR.1]; exact hq)) hvat
  have hq' : ∀ q ∈ locs ++ L', G.2.1.heap.size ≤ q.base := fun q hh => by
    rcases List.mem_append.mp hh with z | z
    · exact hq q z
    · rw [hL' q z, ← hR.1]; exact hR.2.1
  have e4 : rc - (σ.2.2.1 - 1) = rc - σ.2.2.1 + 1 := by omega
  have e5 : rs - (σ.2.2.2 - 6) = rs - σ.2.2.2 + 6 := by omega
  have K := h p e s m args below meth c _ (locs ++ L') ls hC hR' hq' (by show σ.2.2.1 - 1 ≤ rc; omega) (by show σ.2.2.2 - 6 ≤ rs; omega) hl
  rw [e4, e5] at K
  obtain ⟨t, a1, a2⟩ := K _ rfl X'
  exact ⟨t, hst t a1, a2⟩
/-- athrow: the exception is under way -/
theorem gW_athrow (hd : decode M.2.1 pc = .ok (.athrow, 1)) {a : Nat} (h : gX G M fr rc rs Q pc L a σ) : gW G M fr rc rs Q pc L (.inr (.inl (some a)) :: rest) σ := by
  intro p e s m args below meth c H locs ls hC hR hq k1 k2 hl T hT X
  obtain ⟨t, a1, a2⟩ := h p e s m args below meth c H locs ls (rest.map gc) hC hR hq k1 k2 hl T hT X
  refine ⟨t, ?_, a2⟩
  have hb := hC.2.1
  have hx := hC.1
  have hstk : (F0 m pc ls (((.inr (.inl (some a))) :: rest).map gc)).stack = .ref a :: rest.map gc := rfl
  jvm_step X.here [hx, hb, hd, athrow.wp_sem, hstk]
  exact a1
end GX3
