/-! L1: statics, the empty array, cached boxes, arraycopy -/
def gN0 : Nat → Prop := fun _ => False
section GSP
variable {G : gG} {M : gM} {fr rc rs : Nat} {Q : gO → gS → Prop} {pc : Nat} {L : gL} {rest : List gV} {σ : gS}
theorem gW_gets {idx : Nat} {C n d : String} {v : gV} (hZ : va_Z C n d (gc v) gN0 G.2.1 G.2.1.heap) (hd : decode M.2.1 pc = .ok (.getstatic idx, 3)) (hlink : Cond.fieldLink M.1.cls idx C n d ∈ lw_all)
    (h : gW G M fr rc rs Q (pc + 3) L (v :: rest) σ) : gW G M fr rc rs Q pc L rest σ := by
  intro p e s m args below meth c H locs ls hC hR hq k1 k2 hl
  obtain ⟨cf, kf, fi, f, a, cell, h1, h2, h3, h4, h5, h6, h7, h8⟩ := va_Z.moved hC.2.2.2.2.2.2.2.1.alike hZ
  exact W.gets hC.1 hC.2.1 hC.2.2.2.2.2.1 (hC.2.2.2.2.2.2.1 _ hlink) h1 h2 h3 h4 (by rw [hR.2.2.1 a (Array.getElem?_eq_some_iff.mp h5).1]; exact h5) (fun e => by rw [e] at h6; cases h6) h7 rfl hd (h p e s m args below meth c H locs ls hC hR hq k1 k2 hl)
theorem gW_alenT {ty : FieldType} {t N : Nat} {f : Nat → Value} (hT : va_T ty t N f gN0 G.2.1 G.2.1.heap) (hd : decode M.2.1 pc = .ok (.arraylength, 1))
    (h : gW G M fr rc rs Q (pc + 1) L (.inl (N : Int) :: rest) σ) : gW G M fr rc rs Q pc L (.inr (.inl (some t)) :: rest) σ := by
  intro p e s m args below meth c H locs ls hC hR hq k1 k2 hl
  obtain ⟨cell, h1, h2, h3, h4, h5, h6, h7⟩ := va_T.moved hC.2.2.2.2.2.2.2.1.alike hT
  have hx : gc (.inl (N : Int)) = .int (Int32.ofNat N) := by show Value.int (Int32.ofInt (N : Int)) = _; rfl
  refine W.alen (n := Int32.ofNat N) hC.1 hC.2.1 (by rw [hR.2.2.1 t (Array.getElem?_eq_some_iff.mp h1).1]; exact h1) h2 h5 rfl rfl hd ?_
  rw [← hx]
  exact h p e s m args below meth c H locs ls hC hR hq k1 k2 hl
theorem gW_aaldT {C : String} {t N : Nat} {f : Nat → Value} {z : Int} {v : Option Nat} (hT : va_T (.object C) t N f gN0 G.2.1 G.2.1.heap) (hN : N ≤ 2147483647) (h0 : 0 ≤ z ∧ z < (N : Int)) (hv : f z.toNat = gc (.inr (.inl v))) (hd : decode M.2.1 pc = .ok (.aaload, 1))
    (h : gW G M fr rc rs Q (pc + 1) L (.inr (.inl v) :: rest) σ) : gW G M fr rc rs Q pc L (.inl z :: .inr (.inl (some t)) :: rest) σ := by
  intro p e s m args below meth c H locs ls hC hR hq k1 k2 hl
  obtain ⟨cell, h1, h2, h3, h4, h5, h6, h7⟩ := va_T.moved hC.2.2.2.2.2.2.2.1.alike hT
  obtain ⟨hi, he⟩ := gidx h0.1 h0.2 hN
  have hlt : (Int32.ofInt z).toNatClampNeg < N := Nat.not_le.mp fun q => hi (Or.inr q)
  have hin' : ¬ (Int32.ofInt z < 0 ∨ cell.slots.size ≤ (Int32.ofInt z).toNatClampNeg) := by
    intro q
    rcases q with q | q
    · exact hi (Or.inl q)
    · omega
  exact W.aald (v := gc (.inr (.inl v))) (ty := .object C) hC.1 hC.2.1 (by rw [hR.2.2.1 t (Array.getElem?_eq_some_iff.mp h1).1]; exact h1) h2 rfl h3 hin' (by rw [h6 _ hlt, he, hv]) rfl rfl hd (h p e s m args below meth c H locs ls hC hR hq k1 k2 hl)
end GSP
/-- a cached box -/
def gInt (G : gG) (a : Nat) (z : Int) : Prop := va_O "java/lang/Integer" a gN0 G.2.1 G.2.1.heap ∧ va_OF "java/lang/Integer" "value" "I" (.int (Int32.ofInt z)) a gN0 G.2.1 G.2.1.heap ∧ inR z
theorem gInt.cell {G : gG} {a : Nat} {z : Int} (h : gInt G a z) {s : State} (hw : G.2.1.WarmedH s.vm) {σ : gS} {H : Heap} (hR : gRep G σ H) : ∃ cell : Cell, H[a]? = some cell ∧ cell.vm.isStatics = false ∧ s.vm.findClass "java/lang/Integer" = some cell.cls := by
  obtain ⟨cell, h1, h2, h3, -⟩ := va_O.moved hw.alike h.1
  exact ⟨cell, by rw [hR.2.2.1 a (Array.getElem?_eq_some_iff.mp h1).1]; exact h1, h2, h3⟩
theorem gInt.val {G : gG} {a : Nat} {z : Int} (h : gInt G a z) {s : State} (hw : G.2.1.WarmedH s.vm) {σ : gS} {H : Heap} (hR : gRep G σ H) : ∃ (cf : ClassId) (k : Class) (i : Nat) (f : Field) (cell : Cell), s.fieldFound? "java/lang/Integer" "value" "I" = some (cf, k, i, f) ∧ f.isStatic = false ∧ H[a]? = some cell ∧ cell.vm ≠ .unknown ∧ cell.slots[f.slot]? = some (.int (Int32.ofInt z)) := by
  obtain ⟨cf, k, i, f, cell, h1, h2, h3, h4, h5, -⟩ := va_OF.moved hw.alike h.2.1
  exact ⟨cf, k, i, f, cell, h1, h2, by rw [hR.2.2.1 a (Array.getElem?_eq_some_iff.mp h3).1]; exact h3, h4, h5⟩
/-- an object of class ci, or a cached box -/
def gObj (G : gG) (σ : gS) (a ci : Nat) : Prop := (∃ vs, σ.1 a = some (.inl (ci, vs))) ∨ (ci = 12 ∧ ∃ z, gInt G a z)
theorem gObj.cell {G : gG} (hG : gGood G) {a ci : Nat} {σ : gS} (h : gObj G σ a ci) {s : State} (hw : G.2.1.WarmedH s.vm) {H : Heap} (hR : gRep G σ H) {r : vw_C} (hc : g_cl[ci]? = some r) : ∃ cell : Cell, H[a]? = some cell ∧ cell.vm.isStatics = false ∧ s.vm.findClass r.1 = some cell.cls := by
  rcases h with ⟨vs, h⟩ | ⟨rfl, z, h⟩
  · exact gR3 hG hw hR h hc
  · cases hc
    exact h.cell hw hR
section GSQ
variable {G : gG} {M : gM} {fr rc rs : Nat} {Q : gO → gS → Prop} {pc : Nat} {L : gL} {rest : List gV} {σ : gS}
theorem gW_getC {idx a : Nat} {z : Int} (hd : decode M.2.1 pc = .ok (.getfield idx, 3)) (ha : gInt G a z) (hlink : Cond.fieldLink M.1.cls idx "java/lang/Integer" "value" "I" ∈ lw_all)
    (h : inR z → gW G M fr rc rs Q (pc + 3) L (.inl z :: rest) σ) : gW G M fr rc rs Q pc L (.inr (.inl (some a)) :: rest) σ := by
  intro p e s m args below meth c H locs ls hC hR hq k1 k2 hl
  obtain ⟨cf, k, fi, f, cell, h1, h2, h3, h4, h5⟩ := ha.val hC.2.2.2.2.2.2.2.1 hR
  exact W.getf hC.1 hC.2.1 hC.2.2.2.2.2.1 (hC.2.2.2.2.2.2.1 _ hlink) h1 h2 h3 h4 (v := .int (Int32.ofInt z)) h5 rfl rfl hd (h ha.2.2 p e s m args below meth c H locs ls hC hR hq k1 k2 hl)
theorem gW_castO (hG : gGood G) {idx a ci : Nat} {r : vw_C} (ha : gObj G σ a ci) (hc : g_cl[ci]? = some r) (hd : decode M.2.1 pc = .ok (.checkcast idx, 3)) (h1 : Cond.classLink M.1.cls idx r.1 ∈ lw_all)
    (h : gW G M fr rc rs Q (pc + 3) L (.inr (.inl (some a)) :: rest) σ) : gW G M fr rc rs Q pc L (.inr (.inl (some a)) :: rest) σ := by
  intro p e s m args below meth c H locs ls hC hR hq k1 k2 hl
  have hts := hC.2.2.2.2.2.2.1
  have hK := gK hG hC.2.2.2.2.2.2.2.1
  have h3 := h p e s m args below meth c H locs ls hC hR hq k1 k2 hl
  exact va_castS hC.1 hC.2.1 hC.2.2.2.2.2.1 (hts _ h1) (hK.1 ci r hc).2 (ha.cell hG hC.2.2.2.2.2.2.2.1 hR hc) hd h3
theorem gasg {s : State} (hG : gGood G) (hw : G.2.1.WarmedH s.vm) {ci : Nat} {r : vw_C} (hc : g_cl[ci]? = some r) {E : String} (hca : r.1 = E ∨ Cond.castable r.1 E ∈ lw_tbl) {comp : ClassId} (k3 : s.vm.findClass E = some comp) : s.vm.assignable (G.2.2.2.1.1 ci) comp = true := by
  have hcls := ((gK hG hw).1 ci r hc).2
  rcases hca with e9 | e9
  · have : comp = G.2.2.2.1.1 ci := Option.some.inj (k3.symm.trans (by rw [← e9]; exact hcls.1))
    rw [this]; exact va_assign hcls
  · obtain ⟨c0, t0, f1, f2, f3⟩ := Cond.castable_spec (va_Nw.use (A := #[]) rfl (va_Nw.warmC hw (va_Nw.of rfl (hG.1 _ e9))))
    cases hcls.1.symm.trans f1
    cases k3.symm.trans f2
    exact f3
theorem gW_aastO (hG : gGood G) (hd : decode M.2.1 pc = .ok (.aastore, 1)) {a n t v ci : Nat} {E : String} {f : Nat → Option Nat} {r : vw_C} {z : Int} (ha : σ.1 a = some (.inr (t, n, .inr (.inl f)))) (ht : (g_tys G)[t]? = some (G.2.2.2.2 t, .object E)) (hb : G.2.1.heap.size ≤ a) (hn : n ≤ 2147483647) (h0 : 0 ≤ z ∧ z < (n : Int))
    (hv : gObj G σ v ci) (hc : g_cl[ci]? = some r) (hca : r.1 = E ∨ Cond.castable r.1 E ∈ lw_tbl)
    (h : gW G M fr rc rs Q (pc + 1) L rest (gset σ.1 a (.inr (t, n, .inr (.inl (va_up f z.toNat (some v))))), σ.2)) : gW G M fr rc rs Q pc L (.inr (.inl (some v)) :: .inl z :: .inr (.inl (some a)) :: rest) σ := by
  intro p e s m args below meth c H locs ls hC hR hq h1 h2 hl
  obtain ⟨hi, he⟩ := gidx h0.1 h0.2 hn
  have hlt : (Int32.ofInt z).toNatClampNeg < n := Nat.not_le.mp fun q => hi (Or.inr q)
  have h00 : ¬ Int32.ofInt z < 0 := fun q => hi (Or.inl q)
  obtain ⟨cellV, g1, g3, g2⟩ := hv.cell hG hC.2.2.2.2.2.2.2.1 hR hc
  have hcls := ((gK hG hC.2.2.2.2.2.2.2.1).1 ci r hc).2
  have g2' : G.2.2.2.1.1 ci = cellV.cls := Option.some.inj (hcls.1.symm.trans g2)
  obtain ⟨kA, comp, k1, k2, k3, -⟩ := (gty_at hG hC.2.2.2.2.2.2.2.1 ht).2
  obtain ⟨kC, hkC, -⟩ := hcls.2
  obtain ⟨kE, hkE⟩ := Vm.classAt_of_findClass k3
  have hass := gasg hG hC.2.2.2.2.2.2.2.1 hc hca k3
  refine W.aast hC.1 hC.2.1 (hR.at ha) (fun q h => by cases h) (fun h => by cases h) k1 k2 rfl hkE ⟨h00, by show _ < (arrV _ _ _).slots.size; rw [arrV_size]; exact hlt⟩ g1 (fun q h => by rw [h] at g3; cases g3) (by rw [← g2']; exact hkC) (by rw [← g2']; exact hass) rfl rfl hd fun H1 e1 z1 oq => ?_
  have e2 : H1[a]? = some (vp_cell (G.2.2.2.2 t) (n, .inr (.inr (.inr (.inr (va_up f z.toNat (some v))))))) := by
    rw [e1]
    show some ((vp_cell _ _).setSlot _ _) = _
    rw [vp_cell_q, vp_cell_q, arrV_store]
    congr 2
    funext q
    rw [he]
    by_cases hq : q = z.toNat
    · subst hq; simp [updV, va_up, va_rf]
    · simp [updV, va_up, hq]
  exact h p e s m args below meth c H1 _ ls hC (hR.set hb trivial e2 (arrV_nst _ _ _) z1 oq e2) (glocs hq hb) h1 h2 hl
theorem gnn {z : Int} (h0 : 0 ≤ z) (h1 : z ≤ 2147483647) : ¬ Int32.ofInt z < 0 ∧ (Int32.ofInt z).toNatClampNeg = z.toNat ∧ (Int32.ofInt z).toInt = z := by
  have hi : inR z := ⟨by omega, h1⟩
  refine ⟨fun q => ?_, ?_, x_toInt hi⟩
  · have := (x_lt hi inR0).mp q
    omega
  · show (Int32.ofInt z).toInt.toNat = _
    rw [x_toInt hi]
theorem gW_copy (hG : gGood G) {idx a len t : Nat} {E : String} {f : Nat → Option Nat} {sp dp n : Int} (ha : σ.1 a = some (.inr (t, len, .inr (.inl f)))) (ht : (g_tys G)[t]? = some (G.2.2.2.2 t, .object E)) (hb : G.2.1.heap.size ≤ a) (hn : len ≤ 2147483647) (hsp : 0 ≤ sp) (hdp : 0 ≤ dp) (hn0 : 0 ≤ n) (h4 : sp + n ≤ (len : Int)) (h5 : dp + n ≤ (len : Int))
    (hel : ∀ j : Nat, j < n.toNat → ∀ y : Nat, f (sp.toNat + j) = some y → ∃ ci r, gObj G σ y ci ∧ g_cl[ci]? = some r ∧ (r.1 = E ∨ Cond.castable r.1 E ∈ lw_tbl))
    (hlink : Cond.methodLink M.1.cls idx arraycopyName ∈ lw_all) (hd : decode M.2.1 pc = .ok (.invokestatic idx, 3)) (hfr : 1 ≤ fr) (hcat : gcat rest ≤ 40)
    (h : gW G M fr rc rs Q (pc + 3) L rest (gset σ.1 a (.inr (t, len, .inr (.inl (va_cpy f f sp.toNat dp.toNat n.toNat)))), σ.2)) : gW G M fr rc rs Q pc L (.inl n :: .inl dp :: .inr (.inl (some a)) :: .inl sp :: .inr (.inl (some a)) :: rest) σ := by
  intro p e s m args below meth c H locs ls hC hR hq h1 h2 hl T hT X
  have hts := hC.2.2.2.2.2.2.1
  have hW0 := hC.2.2.2.2.2.2.2.1
  have hK := gK hG hW0
  obtain ⟨s1, s2, s3⟩ := gnn hsp (by omega)
  obtain ⟨d1, d2, d3⟩ := gnn hdp (by omega)
  obtain ⟨n1, n2, n3⟩ := gnn hn0 (by omega)
  have hc0 : H[a]? = some (vp_cell (G.2.2.2.2 t) (len, .inr (.inr (.inr (.inr f))))) := hR.at ha
  obtain ⟨-, k0, hk0, cm0, hkk0⟩ := (hK.2 t _ ht).1 len (fun j => va_rf (f j))
  obtain ⟨vm', X', step⟩ := X.arraycopy hC.1 hC.2.2.2.2.2.1 (hts _ hlink) (hts _ q276) (hts _ q275) (hts _ q75) (src := a) (dst := a) (cs := vp_cell (G.2.2.2.2 t) (len, .inr (.inr (.inr (.inr f))))) (cd := vp_cell (G.2.2.2.2 t) (len, .inr (.inr (.inr (.inr f))))) (srcPos := Int32.ofInt sp) (destPos := Int32.ofInt dp) (n := Int32.ofInt n) (by rw [hT]; exact hc0) (by rw [hT]; exact hc0)
    (fun _ h => by cases h) (fun _ h => by cases h) (fun h => by cases h) (fun h => by cases h) hk0 hk0 hkk0 hkk0 rfl s1 d1 n1
    (by rw [s3, n3]; show ¬ _ > ((arrV _ len (fun j => va_rf (f j))).slots.size : Int); rw [arrV_size]; omega)
    (by rw [d3, n3]; show ¬ _ > ((arrV _ len (fun j => va_rf (f j))).slots.size : Int); rw [arrV_size]; omega)
    (fun vm₁ hal i hi => by
      rw [n2] at hi
      have e : (vp_cell (G.2.2.2.2 t) (len, .inr (.inr (.inr (.inr f))))).slots.getD ((Int32.ofInt sp).toNatClampNeg + i) .null = va_rf (f (sp.toNat + i)) := by
        show (arrV _ len (fun j => va_rf (f j))).slots.getD _ _ = _
        rw [s2, Array.getD_eq_getD_getElem?, arrV_read _ _ (by omega)]
        rfl
      rw [e]
      cases hy : f (sp.toNat + i) with
      | none => exact ⟨rfl, trivial⟩
      | some y =>
        obtain ⟨ci, r, o1, o2, o3⟩ := hel i hi y hy
        obtain ⟨cellV, g1, g2, g3⟩ := o1.cell hG hW0 hR o2
        obtain ⟨kA, comp, r1, r2, r3, -⟩ := (hK.2 t _ ht).2
        cases hk0.symm.trans r1
        cases hkk0.symm.trans r2
        have hcls := (hK.1 ci r o2).2
        have g4 : G.2.2.2.1.1 ci = cellV.cls := Option.some.inj (hcls.1.symm.trans g3)
        obtain ⟨kC, hkC, -⟩ := Vm.findClass_spec g3
        obtain ⟨kE, hkE, -⟩ := Vm.findClass_spec r3
        obtain ⟨kC', hkC', -⟩ := hal.2.2 _ _ hkC
        obtain ⟨kE', hkE', -⟩ := hal.2.2 _ _ hkE
        refine ⟨rfl, cellV, (show T.heap[y]? = some cellV by rw [hT]; exact g1), (fun q h => by rw [h] at g2; cases g2), ⟨kC', hkC'⟩, ?_, ?_⟩
        · exact ⟨kE', hkE'⟩
        · show vm₁.assignable _ _ = true
          rw [hal.assignable, ← g4]
          exact gasg hG hW0 o2 o3 r3)
    (g := F0 m pc ls ((.inl n :: .inl dp :: .inr (.inl (some a)) :: .inl sp :: .inr (.inl (some a)) :: rest : List gV).map gc)) rfl (hl.1.trans hC.2.2.1.symm) (rest := rest.map gc) rfl (by rw [hC.2.1]; exact hd) hfr (by
      have e9 := gcat_eq rest
      have e8 : nativeFrameWords "java/lang/System" "arraycopy" 5 ≤ 40 := by decide
      show 2 * 0 + ((rest.map gc).map fun v => v.category).sum + _ ≤ 100 * fr
      omega)
  have e1 : copied (vp_cell (G.2.2.2.2 t) (len, .inr (.inr (.inr (.inr f))))) (vp_cell (G.2.2.2.2 t) (len, .inr (.inr (.inr (.inr f))))) (Int32.ofInt sp) (Int32.ofInt dp) (Int32.ofInt n) = vp_cell (G.2.2.2.2 t) (len, .inr (.inr (.inr (.inr (va_cpy f f sp.toNat dp.toNat n.toNat))))) := by
    rw [vp_cell_q, vp_cell_q, ← s2, ← d2, ← n2]
    exact va_copied (fun z => va_rf z) _ _ f f (by rw [s2, n2]; omega)
  rw [e1] at X' step
  have hl9 : a < H.size := (Array.getElem?_eq_some_iff.mp hc0).1
  have oq : ∀ q : Nat, q ≠ a → (H.setIfInBounds a (vp_cell (G.2.2.2.2 t) (len, .inr (.inr (.inr (.inr (va_cpy f f sp.toNat dp.toNat n.toNat)))))))[q]? = H[q]? := fun q hq => by simp [Array.getElem?_setIfInBounds, Ne.symm hq]
  have hce : (H.setIfInBounds a (vp_cell (G.2.2.2.2 t) (len, .inr (.inr (.inr (.inr (va_cpy f f sp.toNat dp.toNat n.toNat)))))))[a]? = some (vp_cell (G.2.2.2.2 t) (len, .inr (.inr (.inr (.inr (va_cpy f f sp.toNat dp.toNat n.toNat)))))) := by simp [Array.getElem?_setIfInBounds, hl9]
  have hheap : ((T.setVm vm').setCell a (vp_cell (G.2.2.2.2 t) (len, .inr (.inr (.inr (.inr (va_cpy f f sp.toNat dp.toNat n.toNat))))))).heap = H.setIfInBounds a (vp_cell (G.2.2.2.2 t) (len, .inr (.inr (.inr (.inr (va_cpy f f sp.toNat dp.toNat n.toNat)))))) := by rw [← hT]; rfl
  obtain ⟨t9, a1, b1⟩ := h p e s m args below meth c _ _ ls hC (hR.set hb trivial hce (arrV_nst _ _ _) (by simp) oq hce) (fun q hh => by
      rcases List.mem_append.mp hh with z | z
      · exact hq q z
      · obtain ⟨w, -, hw⟩ := List.mem_map.mp z
        rw [← hw]
        exact hb) h1 h2 hl _ hheap X'
  exact ⟨t9, step t9 a1, b1⟩
end GSQ
/-! the facts at the start -/
theorem lw_sub (w : Cond) (h : w ∈ lw_all) : w ∈ lw_tbl := (List.mem_filter.mp h).1
theorem gprem {G : gG} (hG : gGood G) {w : Cond} (h : w ∈ flatC (Jvm.Cond.and given_1 narrow_1)) : w.before G.2.2.1 G.2.1 = true := flat_of_before _ hG.2.2.2 w h
theorem gcEq {args : Array Value} {s : State} {t u : Term} {v : Value} (h : (Cond.eq t u).before args s = true) (hu : u.eval args s none [] s = some v) : t.eval args s none [] s = some v := va_eqI (first := s) (o := none) (idx := []) (by simpa [Cond.before, Cond.holds] using h) hu
abbrev gsDE : Term := .static "java/util/ArrayList" "DEFAULTCAPACITY_EMPTY_ELEMENTDATA" "[Ljava/lang/Object;"
abbrev gsEE : Term := .static "java/util/ArrayList" "EMPTY_ELEMENTDATA" "[Ljava/lang/Object;"
abbrev gsCa : Term := .static "java/lang/Integer$IntegerCache" "cache" "[Ljava/lang/Integer;"
def gev (G : gG) (t : Term) : Nat := match t.eval G.2.2.1 G.2.1 none [] G.2.1 with
  | some (.ref a) => a
  | _ => 0
def gDE (G : gG) : Nat := gev G gsDE
def gCa (G : gG) : Nat := gev G gsCa
theorem gDE_ok {G : gG} (hG : gGood G) : va_Z "java/util/ArrayList" "DEFAULTCAPACITY_EMPTY_ELEMENTDATA" "[Ljava/lang/Object;" (.ref (gDE G)) gN0 G.2.1 G.2.1.heap ∧ ∃ f, va_T (.object "java/lang/Object") (gDE G) 0 f gN0 G.2.1 G.2.1.heap := by
  have hl := gcEq (gprem hG (w := .eq (.length gsDE) (.int 0)) (by decide +kernel)) (v := .int 0) rfl
  obtain ⟨t, ht, hT⟩ := va_Tof (N := 0) (f := fun _ => .null) (A := gN0) (by decide) (gprem hG (w := .arrayOf gsDE (.object "java/lang/Object")) (by decide +kernel)) hl (fun j hj => absurd hj (Nat.not_lt_zero j)) (fun a _ h => h)
  have e : gDE G = t := by unfold gDE gev; rw [ht]
  rw [e]
  exact ⟨va_Zref (hG.1 _ q121) (hG.1 _ (lw_sub _ q61)) ht (fun a _ h => h), _, hT⟩
theorem gHi_ok {G : gG} (hG : gGood G) : va_Z "java/lang/Integer$IntegerCache" "high" "I" (gc (.inl 127)) gN0 G.2.1 G.2.1.heap :=
  va_Zof (hG.1 _ q944) (hG.1 _ (lw_sub _ q90)) (va_eqi (z := 127) (gprem hG (by decide +kernel))) (fun a _ h => h)
theorem gCa_ok {G : gG} (hG : gGood G) : ∃ ad : Nat → Nat, va_Z "java/lang/Integer$IntegerCache" "cache" "[Ljava/lang/Integer;" (.ref (gCa G)) gN0 G.2.1 G.2.1.heap ∧ va_T (.object "java/lang/Integer") (gCa G) 256 (fun k => .ref (ad k)) gN0 G.2.1 G.2.1.heap ∧ ∀ k : Nat, k < 256 → gInt G (ad k) ((k : Int) - 128) := by
  have hl := gcEq (gprem hG (w := .eq (.length gsCa) (.int 256)) (by decide +kernel)) (v := .int 256) rfl
  obtain ⟨ad, hC, hel⟩ := vb_Cof (args := G.2.2.1) (s := G.2.1) (A := gN0) (st := gsCa) rfl hl (gprem hG (by decide +kernel)) (fun a _ h => h)
  obtain ⟨t, ht, hT⟩ := va_Tof (N := 256) (f := fun k => .ref (ad k)) (A := gN0) (by decide) (gprem hG (w := .arrayOf gsCa (.object "java/lang/Integer")) (by decide +kernel)) hl hel (fun a _ h => h)
  have e : gCa G = t := by unfold gCa gev; rw [ht]
  rw [e]
  refine ⟨ad, va_Zref (hG.1 _ q946) (hG.1 _ (lw_sub _ q90)) ht (fun a _ h => h), hT, fun k hk => ⟨hC.1 k hk, ?_, by omega, by omega⟩⟩
  have e2 : vb_c k = Int32.ofInt ((k : Int) - 128) := by
    unfold vb_c
    rw [Int32.ofInt_sub]
    rfl
  rw [← e2]
  exact hC.2 k hk
