/-! the law's start, and the six kinds of call -/
def gGood (G : gG) : Prop := (∀ w ∈ lw_tbl, w.before G.2.2.1 G.2.1 = true) ∧ va_K G.2.2.2.1 g_cl (g_tys G) G.2.1 ∧ G.1.flags = flags0 ∧ (Jvm.Cond.and given_1 narrow_1).before G.2.2.1 G.2.1 = true
theorem gK {G : gG} (hG : gGood G) {s : State} (h : G.2.1.WarmedH s.vm) : va_K G.2.2.2.1 g_cl (g_tys G) s := va_K.moved h.alike hG.2.1
abbrev gnoMH (y : MethodName) : Prop := y.cls ≠ "java/lang/invoke/MethodHandle" ∧ y.cls ≠ "java/lang/invoke/VarHandle"
/-- the receiver's cell -/
theorem gRecv {G : gG} (hG : gGood G) {s : State} (hw : G.2.1.WarmedH s.vm) {σ : gS} {H : Heap} (hR : gRep G σ H) {a ci : Nat} {vs : List gV} (ha : σ.1 a = some (.inl (ci, vs))) {r : vw_C} (hc : g_cl[ci]? = some r) :
    ∃ (cell : Cell) (k : Class), H[a]? = some cell ∧ cell.vm.isStatics = false ∧ s.vm.findClass r.1 = some cell.cls ∧ s.vm.classes[cell.cls]? = some k := by
  obtain ⟨-, r', hr', cell, h1, h2, h3, -⟩ := hR.2.2.2.2 a _ ha
  cases hc.symm.trans hr'
  obtain ⟨-, hfc, k, hk, -⟩ := (gK hG hw).1 ci r hc
  exact ⟨cell, k, h1, by rw [h3]; rfl, by rw [h2]; exact hfc, by rw [h2]; exact hk⟩
theorem gst_map {st as rest : List gV} (h : st = as.reverse ++ rest) : st.map gc = (as.map gc).reverse ++ rest.map gc := by rw [h]; simp
theorem gpn {y : MethodName} {n : Nat} (h : (parseMethodDescriptor y.desc).map (fun d => d.parameters.length) = some n) {sig : ClassFile.MethodDescriptor} (hs : parseMethodDescriptor y.desc = some sig) : n = sig.parameters.length := by
  rw [hs] at h
  exact (Option.some.inj h).symm
theorem gEnt_S {G : gG} {M M' : gM} {fr rc rs pc idx : Nat} {st as rest : List gV} {σ : gS} (hd : decode M.2.1 pc = .ok (.invokestatic idx, 3)) (h1 : Cond.methodLink M.1.cls idx M'.1 ∈ lw_all) (h2 : Cond.static M'.1 ∈ lw_all) (h3 : Cond.initialized M'.1.cls ∈ lw_all) (h4 : gcode M' ∈ lw_all) (hy : gnoMH M'.1)
    (hn : (parseMethodDescriptor M'.1.desc).map (fun d => d.parameters.length) = some as.length) (hst : st = as.reverse ++ rest) : gEnt G M M' fr rc rs pc st as rest σ := by
  intro p e s m args below meth c H locs ls cells slots T hC hR hl hT X
  have hts := hC.2.2.2.2.2.2.1
  obtain ⟨mk, hnamed⟩ : ∃ mk, s.methodNamed? M'.1 = some mk := by
    have h := hts _ h4
    unfold gcode at h
    split at h
    · exact Cond.code_named h
    · obtain ⟨m9, -, -, h0, -⟩ := Cond.codeWith_spec h
      exact ⟨m9, h0⟩
  obtain ⟨methM, cM, hmethM, -, -, -, -, -, -, hsigM⟩ := gcode_spec hnamed (hts _ h4)
  have hstatic : methM.isStatic = true := Cond.static_spec hnamed hmethM (hts _ h2)
  obtain ⟨kP, hkP, -⟩ := className_of_methodNamed hnamed
  have hinitP : kP.init = .initialized := Cond.initialized_spec (findClass_of_methodNamed hnamed) hkP (hts _ h3)
  obtain ⟨vm₁, X₁, hstep₁⟩ := X.invokestatic hC.1 hC.2.2.2.2.2.1 (hts _ h1) hnamed hmethM hstatic hkP hinitP hy (g := F0 m pc ls (st.map gc)) rfl (argsL := as.map gc) (rest := rest.map gc) (by rw [List.length_map]; exact gpn hn hsigM) (gst_map hst) (by rw [hC.2.1]; exact hd)
  exact ⟨vm₁, mk, X₁, hnamed, fun tg h => hstep₁ tg fun acts => by rw [doInvoke_state]; exact h⟩
theorem gEnt_V {G : gG} (hG : gGood G) {M M' : gM} {fr rc rs pc idx : Nat} {st as rest : List gV} {σ : gS} {a ci : Nat} {vs : List gV} {r : vw_C} (ha : σ.1 a = some (.inl (ci, vs))) (hcl : g_cl[ci]? = some r) (hd : decode M.2.1 pc = .ok (.invokevirtual idx, 3)) (h1 : Cond.methodLink M.1.cls idx M'.1 ∈ lw_all) (h2 : Cond.instanceMethod M'.1 ∈ lw_all) (h3 : Cond.selects r.1 M'.1 M'.1 ∈ lw_all) (h4 : gcode M' ∈ lw_all) (hy : gnoMH M'.1)
    (hn : (parseMethodDescriptor M'.1.desc).map (fun d => d.parameters.length) = some as.length) (hst : st = (.inr (.inl (some a)) :: as).reverse ++ rest) : gEnt G M M' fr rc rs pc st (.inr (.inl (some a)) :: as) rest σ := by
  intro p e s m args below meth c H locs ls cells slots T hC hR hl hT X
  have hts := hC.2.2.2.2.2.2.1
  obtain ⟨cellB, kB, hcell, hobj, hcls, -⟩ := gRecv hG hC.2.2.2.2.2.2.2.1 hR ha hcl
  obtain ⟨mk, methM, hnamed, hmethM, hstM, habM⟩ := Cond.instanceMethod_spec (hts _ h2)
  obtain ⟨methM', cM, hmethM', -, -, -, -, -, -, hsigM⟩ := gcode_spec hnamed (hts _ h4)
  cases hmethM.symm.trans hmethM'
  obtain ⟨c2, r2, m2, q1, q2, q3, q4, kP, hkP, hkPi⟩ := Cond.selects_spec (hts _ h3)
  cases hcls.symm.trans q1
  cases (State.methodFound?_of_named hnamed hy).symm.trans q2
  cases hnamed.symm.trans q3
  have hselP : selectMethod e.platform s.vm cellB.cls mk = .method mk := by rw [Launch.admits_selectMethod X.admits]; exact q4
  obtain ⟨vm₁, X₁, hstep₁⟩ := X.invokevirtual hC.1 hC.2.2.2.2.2.1 (hts _ h1) hnamed hmethM hstM hkP hkPi hy (a := a) (cell := cellB) (by rw [hT]; exact hcell)
    (fun z h => by rw [h] at hobj; cases hobj) hselP hmethM habM hkP hkPi (g := F0 m pc ls (st.map gc)) rfl (argsL := as.map gc) (rest := rest.map gc) (by rw [List.length_map]; exact gpn hn hsigM) (by rw [hst]; simp [gc, va_rf]) (by rw [hC.2.1]; exact hd)
  exact ⟨vm₁, mk, X₁, hnamed, fun tg h => hstep₁ tg fun acts => by rw [doInvoke_state]; exact h⟩
theorem gEnt_U {G : gG} (hG : gGood G) {M M' : gM} {fr rc rs pc idx : Nat} {st as rest : List gV} {σ : gS} {a ci : Nat} {vs : List gV} {r : vw_C} {x : MethodName} {owner : String} (ha : σ.1 a = some (.inl (ci, vs))) (hcl : g_cl[ci]? = some r) (hd : decode M.2.1 pc = .ok (.invokevirtual idx, 3)) (h1 : Cond.methodLink M.1.cls idx x ∈ lw_all) (h5 : Cond.sameMethod x.cls owner x.name x.desc ∈ lw_all) (h6 : Cond.declares ⟨owner, x.name, x.desc⟩ ∈ lw_tbl ∨ Cond.instanceMethod ⟨owner, x.name, x.desc⟩ ∈ lw_all ∧ ∃ b L' r', Cond.code ⟨owner, x.name, x.desc⟩ b L' r' ∈ lw_all) (h2 : Cond.instanceMethod M'.1 ∈ lw_all) (h3 : Cond.selects r.1 x M'.1 ∈ lw_all) (h4 : gcode M' ∈ lw_all) (hy : gnoMH ⟨owner, x.name, x.desc⟩)
    (hn : (parseMethodDescriptor x.desc).map (fun d => d.parameters.length) = some as.length) (hst : st = (.inr (.inl (some a)) :: as).reverse ++ rest) : gEnt G M M' fr rc rs pc st (.inr (.inl (some a)) :: as) rest σ := by
  intro p e s m args below meth c H locs ls cells slots T hC hR hl hT X
  have hts := hC.2.2.2.2.2.2.1
  obtain ⟨cellB, kB, hcell, hobj, hcls, -⟩ := gRecv hG hC.2.2.2.2.2.2.2.1 hR ha hcl
  have hd0 : va_Decl s ⟨owner, x.name, x.desc⟩ := by
    rcases h6 with h6 | ⟨h6, b, L', r', h7⟩
    · exact va_Decl.abs (va_Nw.warmD hC.2.2.2.2.2.2.2.1 (va_Nw.of rfl (hG.1 _ h6)))
    · obtain ⟨mk, methM, hnamed, hmethM, hstM, habM⟩ := Cond.instanceMethod_spec (hts _ h6)
      obtain ⟨methM', cM, hmethM', -, -, -, -, -, -, hsigM⟩ := Cond.code_spec hnamed (hts _ h7)
      cases hmethM.symm.trans hmethM'
      exact ⟨mk, methM, hnamed, hmethM, hstM, hsigM⟩
  obtain ⟨r0, r1, hnR, hrm, hstR, hsigR⟩ := hd0
  obtain ⟨cn, ck, r2, hcn, hck, hni, hf, hn1⟩ := Cond.sameMethod_found (hts _ h5)
  cases hnR.symm.trans hn1
  obtain ⟨mk, methM, hnamed, hmethM, -, habM⟩ := Cond.instanceMethod_spec (hts _ h2)
  obtain ⟨c2, r3, m2, q1, q2, q3, q4, kP, hkP, hkPi⟩ := Cond.selects_spec (hts _ h3)
  cases hcls.symm.trans q1
  cases hf.symm.trans q2
  cases hnamed.symm.trans q3
  have hselP : selectMethod e.platform s.vm cellB.cls r0 = .method mk := by rw [Launch.admits_selectMethod X.admits]; exact q4
  obtain ⟨vm₁, X₁, hstep₁⟩ := X.invokevirtualUp hC.1 hC.2.2.2.2.2.1 (hts _ h1) (hts _ h5) hy hnR hrm hstR (a := a) (cell := cellB) (by rw [hT]; exact hcell)
    (fun z h => by rw [h] at hobj; cases hobj) hselP hmethM habM hkP hkPi (g := F0 m pc ls (st.map gc)) rfl (argsL := as.map gc) (rest := rest.map gc) (by rw [List.length_map]; exact gpn hn hsigR) (by rw [hst]; simp [gc, va_rf]) (by rw [hC.2.1]; exact hd)
  exact ⟨vm₁, mk, X₁, hnamed, fun tg h => hstep₁ tg fun acts => by rw [doInvoke_state]; exact h⟩
theorem gEnt_I {G : gG} {M M' : gM} {fr rc rs pc idx : Nat} {st as rest : List gV} {σ : gS} {a : Nat} (hd : decode M.2.1 pc = .ok (.invokespecial idx, 3)) (hin : M'.1.name = "<init>") (hno : M'.2.2.2.2.1 = none) (hret : M'.2.2.2.1 = none) (h1 : Cond.methodLink M.1.cls idx M'.1 ∈ lw_all) (h2 : Cond.instanceMethod M'.1 ∈ lw_all) (h4 : gcode M' ∈ lw_all) (hy : gnoMH M'.1)
    (hn : (parseMethodDescriptor M'.1.desc).map (fun d => d.parameters.length) = some as.length) (hst : st = (.inr (.inl (some a)) :: as).reverse ++ rest) : gEnt G M M' fr rc rs pc st (.inr (.inl (some a)) :: as) rest σ := by
  intro p e s m args below meth c H locs ls cells slots T hC hR hl hT X
  have hts := hC.2.2.2.2.2.2.1
  have hcode : (Cond.code M'.1 M'.2.1 M'.2.2.1 none).before args s = true := by
    have h := hts _ h4
    unfold gcode at h
    rw [hno, hret] at h
    exact h
  have hpl : e.platform.magicAccessors = ({} : Platform).magicAccessors := by rw [X.admits.platform]
  obtain ⟨mk, methM, cM, kP, vm₁, hnamed, -, -, -, -, -, -, -, hW₁, hstep₁⟩ := Steps.initColdArgs (e := e) X.here hC.1 X.warmed hpl hC.2.2.2.2.2.1 hin hy (hts _ h1) (hts _ h2) hcode (f := F0 m pc ls (st.map gc)) rfl (a := a) (argsL := as.map gc) (rest := rest.map gc) (fun sig h => by rw [List.length_map]; exact gpn hn h) (by rw [hst]; simp [gc, va_rf]) (by rw [hC.2.1]; exact hd)
  exact ⟨vm₁, mk, X.noted hW₁, hnamed, fun tg h => hstep₁ tg fun acts => by rw [doInvoke_state]; exact h⟩
theorem gEnt_IN {G : gG} (hG : gGood G) {M M' : gM} {fr rc rs pc idx : Nat} {st as rest : List gV} {σ : gS} {a : Nat} {host : String} (hd : decode M.2.1 pc = .ok (.invokespecial idx, 3)) (hin : M'.1.name = "<init>") (hno : M'.2.2.2.2.1 = none) (hret : M'.2.2.2.1 = none) (h1 : Cond.methodLinkNest M.1.cls idx M'.1 host ∈ lw_tbl) (h2 : Cond.instanceMethod M'.1 ∈ lw_all) (h4 : gcode M' ∈ lw_all) (hy : gnoMH M'.1)
    (hn : (parseMethodDescriptor M'.1.desc).map (fun d => d.parameters.length) = some as.length) (hst : st = (.inr (.inl (some a)) :: as).reverse ++ rest) : gEnt G M M' fr rc rs pc st (.inr (.inl (some a)) :: as) rest σ := by
  intro p e s m args below meth c H locs ls cells slots T hC hR hl hT X
  have hts := hC.2.2.2.2.2.2.1
  have hcode : (Cond.code M'.1 M'.2.1 M'.2.2.1 none).before args s = true := by
    have h := hts _ h4
    unfold gcode at h
    rw [hno, hret] at h
    exact h
  have hlk : (Cond.methodLinkNest M.1.cls idx M'.1 host).before args s = true := va_Nw.use rfl (va_Nw.warmM hC.2.2.2.2.2.2.2.1 (va_Nw.of rfl (hG.1 _ h1)))
  have hpl : e.platform.magicAccessors = ({} : Platform).magicAccessors := by rw [X.admits.platform]
  obtain ⟨mk, methM, cM, kP, vm₁, hnamed, -, -, -, -, -, -, -, hW₁, hstep₁⟩ := Steps.initColdArgsNest (e := e) X.here hC.1 X.warmed hpl hC.2.2.2.2.2.1 hin hy hlk (hts _ h2) hcode (f := F0 m pc ls (st.map gc)) rfl (a := a) (argsL := as.map gc) (rest := rest.map gc) (fun sig h => by rw [List.length_map]; exact gpn hn h) (by rw [hst]; simp [gc, va_rf]) (by rw [hC.2.1]; exact hd)
  exact ⟨vm₁, mk, X.noted hW₁, hnamed, fun tg h => hstep₁ tg fun acts => by rw [doInvoke_state]; exact h⟩
theorem gEnt_F {G : gG} (hG : gGood G) {M M' : gM} {fr rc rs pc idx count : Nat} {st as rest : List gV} {σ : gS} {a ci : Nat} {vs : List gV} {r : vw_C} {x : MethodName} (ha : σ.1 a = some (.inl (ci, vs))) (hcl : g_cl[ci]? = some r) (hd : decode M.2.1 pc = .ok (.invokeinterface idx count, 5)) (h1 : Cond.methodLink M.1.cls idx x ∈ lw_all) (k1 : Cond.declares x ∈ lw_tbl) (k2 : Cond.interfaceMethod x.cls x.cls x.name x.desc ∈ lw_tbl) (k3 : Cond.publicMethod M'.1 ∈ lw_tbl) (k4 : Cond.unhidden r.1 x.name x.desc ∈ lw_tbl) (k5 : Cond.castable r.1 x.cls ∈ lw_tbl) (h2 : Cond.instanceMethod M'.1 ∈ lw_all) (h3 : Cond.selects r.1 x M'.1 ∈ lw_all) (hy : gnoMH x)
    (hn : (parseMethodDescriptor x.desc).map (fun d => d.parameters.length) = some as.length) (hst : st = (.inr (.inl (some a)) :: as).reverse ++ rest) : gEnt G M M' fr rc rs pc st (.inr (.inl (some a)) :: as) rest σ := by
  intro p e s m args below meth c H locs ls cells slots T hC hR hl hT X
  have hts := hC.2.2.2.2.2.2.1
  obtain ⟨cellB, kB, hcell, hobj, hcls, hkB⟩ := gRecv hG hC.2.2.2.2.2.2.2.1 hR ha hcl
  obtain ⟨f1, f2, f3, f4, f5⟩ := va_Fw.moved hy hC.2.2.2.2.2.2.2.1.alike (va_Fw.of (hG.1 _ k1) (hG.1 _ k2) (hG.1 _ k3) (hG.1 _ k4) (hG.1 _ k5))
  obtain ⟨r0, r1, hnR, hrm, hstR, hsigR⟩ := Cond.declares_spec f1
  obtain ⟨cL, kL, r2, hcL, hkL, hiL, hfoundL, hn1⟩ := Cond.interfaceMethod_spec f2
  cases hnR.symm.trans hn1
  have hr0cls : r0.cls = cL := Option.some.inj ((findClass_of_methodNamed hnR).symm.trans hcL)
  obtain ⟨hnameR, hdescR⟩ := name_of_methodNamed hnR hrm
  obtain ⟨mk, methM, hnamed, hmethM, -, habM⟩ := Cond.instanceMethod_spec (hts _ h2)
  obtain ⟨c2, r3, m2, q1, q2, q3, q4, -⟩ := Cond.selects_spec (hts _ h3)
  cases hcls.symm.trans q1
  cases hfoundL.symm.trans q2
  cases hnamed.symm.trans q3
  have hselP : selectMethod e.platform s.vm cellB.cls r0 = .method mk := by rw [Launch.admits_selectMethod X.admits]; exact q4
  have hpubM : hasFlag methM.accessFlags Acc.public_ = true := Cond.publicMethod_spec hnamed hmethM f3
  have hway : ((cellB.cls :: s.vm.superclasses cellB.cls).any fun k => (declaredIn s.vm r1.name r1.desc k).any fun (_, z) => z.isPrivate || z.isStatic) = false := by
    rw [hnameR, hdescR]; exact Cond.unhidden_spec hcls f4
  obtain ⟨c3, t3, w1, w2, w3⟩ := Cond.castable_spec f5
  cases hcls.symm.trans w1
  cases hcL.symm.trans w2
  obtain ⟨vm₁, X₁, hstep₁⟩ := X.invokeinterface hC.1 hC.2.2.2.2.2.1 (hts _ h1) hnR hrm hstR (by rw [hr0cls]; exact hkL) hiL hy (a := a) (cell := cellB) (kcell := kB) (by rw [hT]; exact hcell)
    (fun z h => by rw [h] at hobj; cases hobj) hkB (by rw [hr0cls]; exact w3) hselP hmethM hway hpubM habM (g := F0 m pc ls (st.map gc)) rfl (argsL := as.map gc) (rest := rest.map gc) (by rw [List.length_map]; exact gpn hn hsigR) (by rw [hst]; simp [gc, va_rf]) (by rw [hC.2.1]; exact hd)
  exact ⟨vm₁, mk, X₁, hnamed, fun tg h => hstep₁ tg fun acts => by rw [doInvoke_state]; exact h⟩
