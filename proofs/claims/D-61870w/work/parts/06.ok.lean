/-! contracts, bodies, returns -/
def gOK (G : gG) (M : gM) (fr : Nat) (as : List gV) (σ : gS) (Q : gO → gS → Prop) : Prop :=
  MetFree G.1 M.1 (headSpec (gws M) (grm fr σ.2.2.1 σ.2.2.2))
    (fun a U => a = (as.map gc).toArray ∧ G.2.1.WarmedH U.vm ∧ gRep G σ U.heap)
    (fun _ _ _ _ _ => True)
    (fun _ st o t => ∃ (out : gO) (σ' : gS) (L : List Loc), o = gout out ∧ Q out σ' ∧ gRep G σ' t.heap ∧ st.WarmedH t.vm ∧ st.sameButNew ({ t with vm := st.vm } : State) L (σ.2.2.1 - σ'.2.2.1) (σ.2.2.2 - σ'.2.2.2) ∧ (∀ q ∈ L, G.2.1.heap.size ≤ q.base) ∧ σ'.2.2.1 ≤ σ.2.2.1 ∧ σ'.2.2.2 ≤ σ.2.2.2)
def gent (k : Nat) (as : List gV) : gL := match as with
  | [] => []
  | v :: r => (k, v) :: gent (bif xlong v then k + 2 else k + 1) r
theorem gent_args (as : List gV) : ∀ k : Nat, gcL (gent k as) = lv_args k (as.map gc) := by
  induction as with
  | nil => intro k; rfl
  | cons v r ih =>
    intro k
    have e1 : gcL (gent k (v :: r)) = (k, gc v) :: gcL (gent (bif xlong v then k + 2 else k + 1) r) := rfl
    have e2 : lv_args k ((v :: r).map gc) = (k, gc v) :: lv_args (if (gc v).category = 2 then k + 2 else k + 1) (r.map gc) := rfl
    rw [e1, e2, ih, gc_cat]
    cases xlong v <;> rfl
theorem gcode_spec {M : gM} {args : Array Value} {s : State} {m : MethodId} (hn : s.methodNamed? M.1 = some m) (h : (gcode M).before args s = true) :
    ∃ meth c, s.vm.method? m = some meth ∧ meth.code = some c ∧ c.code = M.2.1 ∧ c.maxLocals = M.2.2.1 ∧ gtab M c ∧ meth.sig.returnType = M.2.2.2.1 ∧ meth.locks = false ∧ parseMethodDescriptor M.1.desc = some meth.sig := by
  unfold gcode at h
  split at h
  · rename_i hh
    obtain ⟨meth, c, h1, h2, h3, h4, h5, h6, h7, h8⟩ := Cond.code_spec hn h
    refine ⟨meth, c, h1, h2, h3, h4, ?_, h5, h6, h8⟩
    unfold gtab
    rw [hh]
    have : c.exceptionTable = #[] := by simpa using h7
    rw [this]; rfl
  · rename_i hs hh
    obtain ⟨m9, meth, c, h0, h1, h2, h3, h4, h5, h6, h7, h8⟩ := Cond.codeWith_spec h
    cases hn.symm.trans h0
    refine ⟨meth, c, h1, h2, h3, h4, ?_, h6, h7, h8⟩
    unfold gtab
    rw [hh]
    exact h5
theorem W.monoQ {p : Program} {l : Launch} {e : Env} {R : Room} {s : State} {m : MethodId} {args : Array Value} {below : List Frame} {meth : Method} {c : Code} {H : Heap} {locs : List Loc} {cells slots : Nat} {Q Q' : State → Prop} {g : JFrame} (h : W p l e R s m args below meth c H locs cells slots Q g) (hq : ∀ t, Q t → Q' t) : W p l e R s m args below meth c H locs cells slots Q' g := by
  intro T hT X
  obtain ⟨t, a, b⟩ := h T hT X
  exact ⟨t, a, hq t b⟩
theorem gOK.body {G : gG} {M : gM} {fr : Nat} {as : List gV} {σ : gS} {Q : gO → gS → Prop} (hy : plainName M.1.cls = true) (hsl : (lg_sl (as.map gc)).length ≤ M.2.2.1) (h : gW G M fr σ.2.2.1 σ.2.2.2 Q 0 (gent 0 as) [] σ) : gOK G M fr as σ Q := by
  refine MetFree.of_bodyS (code := M.2.1) (maxLocals := M.2.2.1) (ret := M.2.2.2.1) hy ?_ ?_
  · intro args s m hpre hn
    obtain ⟨meth, c, h1, h2, h3, h4, -, h5, h6, -⟩ := gcode_spec hn (atoms_spec (ws := gws M) hpre _ List.mem_cons_self)
    exact ⟨meth, c, h1, h2, h3, h4, h5, h6⟩
  · intro p e s m args below meth c s₁ B hml hP _
    obtain ⟨rfl, hw0, hRep⟩ := hP
    have hts := atoms_spec (ws := gws M) B.pre
    have hh0 : s₁.heap = s.heap := by rw [B.state]; rfl
    obtain ⟨meth', c', g1, g2, g3, g4, g5, g6, g7, -⟩ := gcode_spec B.named (hts _ List.mem_cons_self)
    cases B.method.symm.trans g1
    cases (Stand.of_body B).code.symm.trans g2
    have hC : gCx G M p s m ((as.map gc).toArray) meth c := ⟨B.exec, B.bytes, hml, B.returns, B.notSynchronized, findClass_of_methodNamed B.named, fun w hw => hts w (List.mem_cons_of_mem _ hw), hw0, (name_of_methodNamed B.named B.method).1, g5, hRep.2.2.1, hRep.2.2.2.1⟩
    have hl := lv_entry (as.map gc) (n := M.2.2.1) hsl
    rw [← gent_args] at hl
    have K := h p e s m _ below meth c s.heap [] _ hC hRep (fun q hq => absurd hq List.not_mem_nil) (Nat.le_refl _) (Nat.le_refl _) hl
    rw [Nat.sub_self, Nat.sub_self] at K
    obtain ⟨t, a1, out, σ', L, b1, b2, b3, b4, b5, b6, b7, b8, b9⟩ := K s₁ hh0 (Stand.of_body B)
    refine ⟨t, gout out, ?_, b1, b2, out, σ', L, rfl, b3, b4, b5, b6, b7, b8, b9⟩
    rw [lg_entry_eq]
    exact a1
/-- the end of a body, from the kit's return rows -/
theorem gPost_ret {G : gG} {fr rc rs : Nat} {Q : gO → gS → Prop} {σ : gS} {p : Program} {e : Env} {s : State} {m : MethodId} {args : Array Value} {below : List Frame} {meth : Method} {c : Code} {H : Heap} {locs : List Loc} {g : JFrame} {v : Option gV}
    (hR : gRep G σ H) (hq : ∀ q ∈ locs, G.2.1.heap.size ≤ q.base) (h1 : σ.2.2.1 ≤ rc) (h2 : σ.2.2.2 ≤ rs) (hQ : Q (.inl v) σ)
    (h : W p G.1 e (grm fr rc rs) s m args below meth c H locs (rc - σ.2.2.1) (rs - σ.2.2.2) (MQ below (fun _ _ o t => o = gout (.inl v) ∧ t.heap = H) args s (rc - σ.2.2.1) (rs - σ.2.2.2) (fun q => G.2.1.heap.size ≤ q)) g) :
    W p G.1 e (grm fr rc rs) s m args below meth c H locs (rc - σ.2.2.1) (rs - σ.2.2.2) (gPost G s below rc rs Q) g := by
  refine W.monoQ h ?_
  intro t ht
  obtain ⟨o, a1, a2, ⟨rfl, a3⟩, L, ⟨-, a4, a5⟩, a6⟩ := ht
  exact ⟨.inl v, σ, L, a1, a2, hQ, by rw [a3]; exact hR, a4, a5, a6, h1, h2⟩
theorem gW_ireturn {G : gG} {M : gM} {fr rc rs : Nat} {Q : gO → gS → Prop} (htb : xTbOK M.2.1 M.2.2.2.2.2) {pc nx tg : Nat} (hi : M.2.2.2.2.2 pc = some (.ireturn, nx, tg)) {L : gL} {z : Int} {σ : gS}
    (hret : M.2.2.2.1 = some .int ∨ (M.2.2.2.1 = some .boolean ∧ (z = 0 ∨ z = 1))) (h : Q (.inl (some (.inl z))) σ) : gW G M fr rc rs Q pc L [.inl z] σ := by
  obtain ⟨⟨len, hd, hlen⟩, him⟩ := htb pc _ nx tg hi
  have hlen := hlen (fun _ _ _ _ => by simp)
  subst hlen
  intro p e s m args below meth c H locs ls hC hR hq h1 h2 hl
  have hk : meth.locks = false := hC.2.2.2.2.1
  refine gPost_ret (v := some (.inl z)) hR hq h1 h2 h ?_
  rcases hret with hr | ⟨hr, hz⟩
  · exact W.iret hC.1 hC.2.1 (hC.2.2.2.1.trans hr) (fun t ht hW => ⟨rfl, ht⟩) hq hd hk
  · exact W.zret (ty := .boolean) hC.1 hC.2.1 (hC.2.2.2.1.trans hr) (by rcases hz with rfl | rfl <;> rfl) (fun t ht hW => ⟨rfl, ht⟩) hq hd hk
theorem gW_return {G : gG} {M : gM} {fr rc rs : Nat} {Q : gO → gS → Prop} (htb : xTbOK M.2.1 M.2.2.2.2.2) {pc nx tg : Nat} (hi : M.2.2.2.2.2 pc = some (.return_, nx, tg)) {L : gL} {σ : gS}
    (hret : M.2.2.2.1 = none) (h : Q (.inl none) σ) : gW G M fr rc rs Q pc L [] σ := by
  obtain ⟨⟨len, hd, hlen⟩, him⟩ := htb pc _ nx tg hi
  have hlen := hlen (fun _ _ _ _ => by simp)
  subst hlen
  intro p e s m args below meth c H locs ls hC hR hq h1 h2 hl
  have hk : meth.locks = false := hC.2.2.2.2.1
  refine gPost_ret (v := none) hR hq h1 h2 h ?_
  exact W.vret hC.1 hC.2.1 (hC.2.2.2.1.trans hret) (fun t ht hW => ⟨rfl, ht⟩) hq hd hk
theorem gW_areturn {G : gG} {M : gM} {fr rc rs : Nat} {Q : gO → gS → Prop} (htb : xTbOK M.2.1 M.2.2.2.2.2) {pc nx tg : Nat} (hi : M.2.2.2.2.2 pc = some (.areturn, nx, tg)) {L : gL} {o : Option Nat} {σ : gS}
    (hret : (∃ n, M.2.2.2.1 = some (.object n)) ∨ ∃ t, M.2.2.2.1 = some (.array t)) (h : Q (.inl (some (.inr (.inl o)))) σ) : gW G M fr rc rs Q pc L [.inr (.inl o)] σ := by
  obtain ⟨⟨len, hd, hlen⟩, him⟩ := htb pc _ nx tg hi
  have hlen := hlen (fun _ _ _ _ => by simp)
  subst hlen
  intro p e s m args below meth c H locs ls hC hR hq h1 h2 hl
  have hk : meth.locks = false := hC.2.2.2.2.1
  refine gPost_ret (v := some (.inr (.inl o))) hR hq h1 h2 h ?_
  have hv : gc (.inr (.inl o)) = .null ∨ ∃ a, gc (.inr (.inl o)) = .ref a := by
    cases o with
    | none => exact Or.inl rfl
    | some a => exact Or.inr ⟨a, rfl⟩
  rcases hret with ⟨n, hr⟩ | ⟨n, hr⟩
  · exact W.aret (rt := .object n) hC.1 hC.2.1 (hC.2.2.2.1.trans hr) (Or.inl ⟨n, rfl⟩) hv (fun t ht hW => ⟨rfl, ht⟩) hq hd hk
  · exact W.aret (rt := .array n) hC.1 hC.2.1 (hC.2.2.2.1.trans hr) (Or.inr ⟨n, rfl⟩) hv (fun t ht hW => ⟨rfl, ht⟩) hq hd hk
theorem gW.mono {G : gG} {M : gM} {fr rc rs : Nat} {Q Q' : gO → gS → Prop} {pc : Nat} {L : gL} {st : List gV} {σ : gS} (h : gW G M fr rc rs Q pc L st σ) (hq : ∀ o σ, Q o σ → Q' o σ) : gW G M fr rc rs Q' pc L st σ := by
  intro p e s m args below meth c H locs ls hC hR hl1 h1 h2 hl
  refine W.monoQ (h p e s m args below meth c H locs ls hC hR hl1 h1 h2 hl) ?_
  rintro t ⟨out, σ', L', b1, b2, b3, b4⟩
  exact ⟨out, σ', L', b1, b2, hq _ _ b3, b4⟩
theorem gOK.mono {G : gG} {M : gM} {fr : Nat} {as : List gV} {σ : gS} {Q Q' : gO → gS → Prop} (h : gOK G M fr as σ Q) (hq : ∀ o σ, Q o σ → Q' o σ) : gOK G M fr as σ Q' := by
  intro p e ha hc hk s m args below hf happ hP hK
  obtain ⟨n, o, g1, g2, g3, out, σ', L, g4, g5, g6⟩ := h p e ha hc hk s m args below hf happ hP hK
  exact ⟨n, o, g1, g2, g3, out, σ', L, g4, hq _ _ g5, g6⟩
