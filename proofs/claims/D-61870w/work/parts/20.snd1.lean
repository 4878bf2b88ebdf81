/-! soundness of hop1 -/
theorem gF_ok {o idx ci k q : Nat} (ho : o < 21) (h : glk (gFl o) idx = some (ci, k, q)) : ∃ r, g_cl[ci]? = some r ∧ k < r.2.2 ∧ ((q < 2 ∧ ∃ ref, Cond.fieldLink (gOwn o) idx ref (r.2.1 k).2.1 (r.2.1 k).2.2.1 ∈ lw_all ∧ (ref = (r.2.1 k).1 ∨ Cond.sameField ref (r.2.1 k).1 (r.2.1 k).2.1 (r.2.1 k).2.2.1 ∈ lw_all)) ∨ (2 ≤ q ∧ Cond.fieldLinkNest (gOwn o) idx (r.2.1 k).1 (r.2.1 k).2.1 (r.2.1 k).2.2.1 "java/util/ArrayList" ∈ lw_tbl)) := by
  have h1 := List.all_eq_true.mp (gFlok o ho) _ (glk_mem h)
  unfold gFlchk at h1
  dsimp only at h1
  split at h1
  · cases h1
  · rename_i r hr
    rw [Bool.and_eq_true] at h1
    refine ⟨r, hr, of_decide_eq_true h1.1, ?_⟩
    have h2 := h1.2
    split at h2
    · exact Or.inl ⟨by omega, _, of_decide_eq_true h2, Or.inl rfl⟩
    · rw [Bool.and_eq_true] at h2
      exact Or.inl ⟨by omega, _, of_decide_eq_true h2.1, Or.inr (of_decide_eq_true h2.2)⟩
    · rename_i n0 n1
      exact Or.inr ⟨by
        rcases q with _ | _ | q
        · exact absurd rfl n0
        · exact absurd rfl n1
        · omega, of_decide_eq_true h2⟩
theorem gcl_at {ci : Nat} (h : ci < 18) : ∃ r, g_cl[ci]? = some r ∧ r.1 = gcn ci ∧ r.2.2 = gN ci := by
  match ci, h with
  | 0, _ | 1, _ | 2, _ | 3, _ | 4, _ | 5, _ | 6, _ | 7, _ | 8, _ | 9, _ | 10, _ | 11, _ | 12, _ | 13, _ | 14, _ | 15, _ | 16, _ | 17, _ => exact ⟨_, rfl, rfl, rfl⟩
  | n + 18, h => omega
theorem gcl_lt {ci : Nat} {r : vw_C} (h : g_cl[ci]? = some r) : ci < 18 := by
  rcases Nat.lt_or_ge ci 18 with q | q
  · exact q
  · rw [List.getElem?_eq_none (by simpa using q)] at h
    cases h
theorem gcl_r {ci : Nat} {r : vw_C} (h : g_cl[ci]? = some r) : g_cl.getD ci ("", TX1, 0) = r := by
  rw [List.getD_eq_getElem?_getD, h]; rfl
theorem gnc_lt {a b : Nat} (h : gnc a b = true) : a < 18 ∧ b < 18 := by
  unfold gnc at h
  simp only [Bool.or_eq_true, Bool.and_eq_true, Nat.beq_eq, Nat.ble_eq] at h
  omega
theorem gnc_ne : ∀ a : Fin 18, ∀ b : Fin 18, gnc a.val b.val = true → gcn b.val ≠ gcn a.val := by decide +kernel
theorem gxv_ok {G : gG} (hG : gGood G) {M : gM} {o : Nat} (ho : o < 21) (hown : M.1.cls = gOwn o) {fr rc rs : Nat} {Q : gO → gS → Prop} {pc : Nat} {L : gL} {x : Nat} {σ : gS} {K : Nat → gL → List gV → gS → Prop} (hK : ∀ pc L st σ, K pc L st σ → gW G M fr rc rs Q pc L st σ) (h : gxv M o Q pc L K x σ) : gX G M fr rc rs Q pc L x σ := by
  unfold gxv at h
  split at h
  · rename_i hm
    refine gX_out ?_ h
    rw [hm]; rfl
  · rename_i hh hm
    obtain ⟨ci, vs, hx, hci, hc, h⟩ := h
    split at h
    · rename_i hpc hp
      obtain ⟨r, hr, hr1, -⟩ := gcl_at hci
      refine gX_catch hG hm (fun k => match glk (gKl o) k with | some c => gcn c | none => "") hx hr ?_ ?_ (hK _ _ _ _ h)
      · intro q hq h1 h2
        have h3 := List.all_eq_true.mp hc q hq
        have e1 : (Nat.ble q.1 pc && Nat.blt pc q.2.1) = true := by
          rw [Bool.and_eq_true]; exact ⟨Nat.ble_eq_true_of_le h1, Nat.ble_eq_true_of_le h2⟩
        rw [e1] at h3
        have h3 : (!(Nat.beq q.2.2.2 0) && (match glk (gKl o) q.2.2.2 with
          | some c => Nat.beq c ci || gnc ci c
          | none => false)) = true := h3
        rw [Bool.and_eq_true] at h3
        refine ⟨fun e => ?_, ?_⟩
        · rw [e] at h3; exact absurd h3.1 (by decide)
        · have h4 := h3.2
          dsimp only
          split at h4
          · rename_i c hg
            refine ⟨by rw [hown]; exact gKlok o ho _ (glk_mem hg), ?_⟩
            rw [Bool.or_eq_true] at h4
            rcases h4 with h4 | h4
            · left; rw [Nat.eq_of_beq_eq_true h4, hr1]
            · right; rw [hr1]; exact gnc_ok ⟨ci, hci⟩ ⟨c, (gnc_lt h4).2⟩ h4
          · cases h4
      · rw [hr1]
        clear hm h
        induction hh with
        | nil => cases hp
        | cons q t ih =>
          have hct : ghc o pc ci t = true := by
            unfold ghc at hc ⊢
            rw [List.all_cons, Bool.and_eq_true] at hc
            exact hc.2
          have hcq := List.all_eq_true.mp hc q List.mem_cons_self
          unfold ghp at hp
          unfold ghnd
          cases hcv : (Nat.ble q.1 pc && Nat.blt pc q.2.1) with
          | false =>
            rw [hcv] at hp
            have : ¬ (q.1 ≤ pc ∧ pc < q.2.1) := by
              intro ⟨a, b⟩
              rw [show (Nat.ble q.1 pc && Nat.blt pc q.2.1) = true by rw [Bool.and_eq_true]; exact ⟨Nat.ble_eq_true_of_le a, Nat.ble_eq_true_of_le b⟩] at hcv
              cases hcv
            rw [if_neg this]
            exact ih hct hp
          | true =>
            rw [hcv] at hp hcq
            have hcv2 := hcv
            rw [Bool.and_eq_true] at hcv2
            rw [if_pos ⟨Nat.le_of_ble_eq_true hcv2.1, Nat.le_of_ble_eq_true hcv2.2⟩]
            have hcq : (!(Nat.beq q.2.2.2 0) && (match glk (gKl o) q.2.2.2 with
              | some c => Nat.beq c ci || gnc ci c
              | none => false)) = true := hcq
            have hp : (match glk (gKl o) q.2.2.2 with
              | some c => bif Nat.beq c ci then some q.2.2.1 else ghp o pc ci t
              | none => ghp o pc ci t) = some hpc := hp
            cases hg : glk (gKl o) q.2.2.2 with
            | none => rw [hg] at hcq; simp at hcq
            | some c =>
              rw [hg] at hcq hp
              dsimp only at hcq hp ⊢
              cases hb : Nat.beq c ci with
              | true =>
                rw [hb] at hp
                rw [Nat.eq_of_beq_eq_true hb, if_pos rfl]
                exact hp
              | false =>
                rw [hb] at hp hcq
                rw [Bool.and_eq_true] at hcq
                have h9 : gnc ci c = true := hcq.2
                rw [if_neg (gnc_ne ⟨ci, hci⟩ ⟨c, (gnc_lt h9).2⟩ h9)]
                exact ih hct hp
    · exact absurd h id
theorem gcl_ok {G : gG} (hG : gGood G) {M M' : gM} {o : Nat} (ho : o < 21) (hown : M.1.cls = gOwn o) {fr rc rs : Nat} {Q : gO → gS → Prop} {pc nx : Nat} {L : gL} {st as rest : List gV} {σ : gS} {K : Nat → gL → List gV → gS → Prop} (hK : ∀ pc L st σ, K pc L st σ → gW G M fr rc rs Q pc L st σ)
    {i : Instr} {len : Nat} (hd : decode M.2.1 pc = .ok (i, len)) (hnx : nx = pc + len) (hent : gEnt G M M' fr rc rs pc st as rest σ) (hc : gcode M' ∈ lw_all) (hpl : plainFor M'.1 = true) (h : gcl G M M' o fr Q pc nx L as rest σ K) : gW G M fr rc rs Q pc L st σ := by
  unfold gcl at h
  cases hb : (Nat.ble (gcat rest + (M'.2.2.1 + 11)) 100 && Nat.ble (gargw as) M'.2.2.1) with
  | false => rw [hb] at h; exact absurd h id
  | true =>
    rw [hb] at h
    rw [Bool.and_eq_true] at hb
    cases fr with
    | zero => exact absurd h id
    | succ fr' =>
      refine gW_call hd hnx hent hc hpl (Nat.le_of_ble_eq_true hb.2) rfl (Nat.le_of_ble_eq_true hb.1) (gOKb.mono (bx_out h) ?_)
      intro out σ' hq
      cases out with
      | inl v => exact hK _ _ _ _ hq
      | inr x => exact gxv_ok hG ho hown hK hq
theorem gEnt_VO {G : gG} (hG : gGood G) {M M' : gM} {fr rc rs pc idx : Nat} {st as rest : List gV} {σ : gS} {a ci : Nat} {r : vw_C} (ha : gObj G σ a ci) (hcl : g_cl[ci]? = some r) (hd : decode M.2.1 pc = .ok (.invokevirtual idx, 3)) (h1 : Cond.methodLink M.1.cls idx M'.1 ∈ lw_all) (h2 : Cond.instanceMethod M'.1 ∈ lw_all) (h3 : Cond.selects r.1 M'.1 M'.1 ∈ lw_all) (h4 : gcode M' ∈ lw_all) (hy : gnoMH M'.1)
    (hn : (parseMethodDescriptor M'.1.desc).map (fun d => d.parameters.length) = some as.length) (hst : st = (.inr (.inl (some a)) :: as).reverse ++ rest) : gEnt G M M' fr rc rs pc st (.inr (.inl (some a)) :: as) rest σ := by
  intro p e s m args below meth c H locs ls cells slots T hC hR hl hT X
  have hts := hC.2.2.2.2.2.2.1
  obtain ⟨cellB, hcell, hobj, hcls⟩ := ha.cell hG hC.2.2.2.2.2.2.2.1 hR hcl
  obtain ⟨mk, methM, hnamed, hmethM, hstM, habM⟩ := Cond.instanceMethod_spec (hts _ h2)
  obtain ⟨methM', cM, hmethM', -, -, -, -, -, -, hsigM⟩ := gcode_spec hnamed (hts _ h4)
  cases hmethM.symm.trans hmethM'
  obtain ⟨c2, r2, m2, q1, q2, q3, q4, kP, hkP, hkPi⟩ := Cond.selects_spec (hts _ h3)
  cases hcls.symm.trans q1
  cases (State.methodFound?_of_named hnamed hy).symm.trans q2
  cases hnamed.symm.trans q3
  have hselP : selectMethod e.platform s.vm cellB.cls mk = .method mk := by rw [Launch.admits_selectMethod X.admits]; exact q4
  obtain ⟨vm₁, X₁, hstep₁⟩ := X.invokevirtual hC.1 hC.2.2.2.2.2.1 (hts _ h1) hnamed hmethM hstM hkP hkPi hy (a := a) (cell := cellB) (by rw [hT]; exact hcell)
    (fun z h => by rw [h] at hobj; cases hobj) hselP hmethM habM hkP hkPi (g := F0 m pc ls (st.map gc)) rfl (argsL := as.map gc) (rest := rest.map gc) (by rw [List.length_map]; exact gpn hn hsigM) (by rw [hst]; simp [gc, va_rf]) (by rw [hC.2.1]; exact hd)
  exact ⟨vm₁, mk, X₁, hnamed, fun tg h => hstep₁ tg fun acts => by rw [doInvoke_state]; exact h⟩
theorem gEnt_UO {G : gG} (hG : gGood G) {M M' : gM} {fr rc rs pc idx : Nat} {st as rest : List gV} {σ : gS} {a ci : Nat} {r : vw_C} {x : MethodName} (ha : gObj G σ a ci) (hcl : g_cl[ci]? = some r) (hd : decode M.2.1 pc = .ok (.invokevirtual idx, 3)) (h1 : Cond.methodLink M.1.cls idx x ∈ lw_all) (h5 : Cond.sameMethod x.cls x.cls x.name x.desc ∈ lw_all) (h6 : Cond.declares x ∈ lw_tbl ∨ Cond.instanceMethod x ∈ lw_all ∧ ∃ b L' r', Cond.code x b L' r' ∈ lw_all) (h2 : Cond.instanceMethod M'.1 ∈ lw_all) (h3 : Cond.selects r.1 x M'.1 ∈ lw_all) (h4 : gcode M' ∈ lw_all) (hy : gnoMH x)
    (hn : (parseMethodDescriptor x.desc).map (fun d => d.parameters.length) = some as.length) (hst : st = (.inr (.inl (some a)) :: as).reverse ++ rest) : gEnt G M M' fr rc rs pc st (.inr (.inl (some a)) :: as) rest σ := by
  intro p e s m args below meth c H locs ls cells slots T hC hR hl hT X
  have hts := hC.2.2.2.2.2.2.1
  obtain ⟨cellB, hcell, hobj, hcls⟩ := ha.cell hG hC.2.2.2.2.2.2.2.1 hR hcl
  have hd0 : va_Decl s x := by
    rcases h6 with h6 | ⟨h6, b, L', r', h7⟩
    · exact va_Decl.abs (va_Nw.warmD hC.2.2.2.2.2.2.2.1 (va_Nw.of rfl (hG.1 _ h6)))
    · obtain ⟨mk, methM, hnamed, hmethM, hstM, habM⟩ := Cond.instanceMethod_spec (hts _ h6)
      obtain ⟨methM', cM, hmethM', -, -, -, -, -, -, hsigM⟩ := Cond.code_spec hnamed (hts _ h7)
      cases hmethM.symm.trans hmethM'
      exact ⟨mk, methM, hnamed, hmethM, hstM, hsigM⟩
  obtain ⟨r0, r1, hnR, hrm, hstR, hsigR⟩ := hd0
  obtain ⟨cn, ck, r2, hcn, hck, hni, hf, hn1⟩ := Cond.sameMethod_found (hts _ h5)
  cases hnR.symm.trans hn1
  obtain ⟨mk, methM, hnamed, hmethM, -, habM⟩ := Cond.instanceMethod_spec (hts _ h2)
  obtain ⟨c2, r3, m2, q1, q2, q3, q4, kP, hkP, hkPi⟩ := Cond.selects_spec (hts _ h3)
  cases hcls.symm.trans q1
  cases hf.symm.trans q2
  cases hnamed.symm.trans q3
  have hselP : selectMethod e.platform s.vm cellB.cls r0 = .method mk := by rw [Launch.admits_selectMethod X.admits]; exact q4
  obtain ⟨vm₁, X₁, hstep₁⟩ := X.invokevirtualUp hC.1 hC.2.2.2.2.2.1 (hts _ h1) (hts _ h5) hy hnR hrm hstR (a := a) (cell := cellB) (by rw [hT]; exact hcell)
    (fun z h => by rw [h] at hobj; cases hobj) hselP hmethM habM hkP hkPi (g := F0 m pc ls (st.map gc)) rfl (argsL := as.map gc) (rest := rest.map gc) (by rw [List.length_map]; exact gpn hn hsigR) (by rw [hst]; simp [gc, va_rf]) (by rw [hC.2.1]; exact hd)
  exact ⟨vm₁, mk, X₁, hnamed, fun tg h => hstep₁ tg fun acts => by rw [doInvoke_state]; exact h⟩
def gin (c : String) : Bool := c == "XactKernelLaw" || c == "XactKernel" || c == "XactKernelModel" || c == "java/lang/Math" || c == "java/util/Arrays" || c == "java/util/Objects" || c == "jdk/internal/util/Preconditions" || c == "java/lang/Integer" || c == "jdk/internal/util/ArraysSupport"
theorem gin_ok {c : String} (h : gin c = true) : Cond.initialized c ∈ lw_all := by
  unfold gin at h
  simp only [Bool.or_eq_true, beq_iff_eq] at h
  rcases h with ((((((((rfl | rfl) | rfl) | rfl) | rfl) | rfl) | rfl) | rfl) | rfl)
  · exact q57
  · exact q58
  · exact q81
  · exact q73
  · exact q74
  · exact q91
  · exact q76
  · exact q79
  · exact q72
def ginT (o : Nat) : Bool := (gMl o).all fun e => !(Nat.beq e.2.1 0) || gin e.2.2.2.1.cls
theorem ginT_ok : ∀ o : Fin 21, ginT o.val = true := by decide +kernel
