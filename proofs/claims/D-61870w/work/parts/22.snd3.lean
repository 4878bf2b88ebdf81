/-! soundness of hop1: calls, the rest, and all of it -/
theorem gMl_at {o idx kd na : Nat} {x : MethodName} {ts : List (Nat × gM)} (ho : o < 21) (h : glk (gMl o) idx = some (kd, na, x, ts)) : gMlP o (idx, kd, na, x, ts) := gMlok o ho _ (glk_mem h)
theorem gmap1 {α : Type} {x : Option α} {f : α → Nat} {n : Nat} (h : x.map (fun d => f d + 1) = some (n + 1)) : x.map f = some n := by
  cases x with
  | none => cases h
  | some a => exact congrArg some (Nat.succ.inj (Option.some.inj h))
theorem h1_stat {G : gG} (hG : gGood G) {M : gM} {o : Nat} (ho : o < 21) (hown : M.1.cls = gOwn o) {fr rc rs : Nat} {Q : gO → gS → Prop} {pc tg : Nat} {L : gL} {st : List gV} {σ : gS} {K : Nat → gL → List gV → gS → Prop} (hK : ∀ pc L st σ, K pc L st σ → gW G M fr rc rs Q pc L st σ) {idx : Nat} (hd : decode M.2.1 pc = .ok (.invokestatic idx, 3)) (h : hop1 G M o fr Q pc (.invokestatic idx) (pc + 3) tg L st σ K) : gW G M fr rc rs Q pc L st σ := by
  unfold hop1 at h
  dsimp only at h
  cases hb : (Nat.beq o 12 && Nat.beq idx 112) with
  | true =>
    rw [hb] at h
    rw [Bool.and_eq_true] at hb
    have e1 := Nat.eq_of_beq_eq_true hb.1
    have e2 := Nat.eq_of_beq_eq_true hb.2
    subst e1 e2
    dsimp only [cond_true] at h
    split at h
    · obtain ⟨a, t, len, f, rfl, rfl, ha, ht, hba, hn, h1, h2, h3, h4, h5, hel, hfr, hcat, h⟩ := h
      refine gW_copy hG ha (gty_ok G ht.1 ht.2) hba hn h1 h2 h3 h4 h5 (fun j hj y hy => ?_) (by rw [hown]; exact q826) hd hfr hcat (hK _ _ _ _ h)
      obtain ⟨ci, o1, o2, o3⟩ := hel j hj y hy
      obtain ⟨r9, hr9, -, -⟩ := gcl_at o2
      exact ⟨ci, r9, o1, hr9, gcst_ok' o2 ht.2 hr9 o3⟩
    · exact absurd h id
  | false =>
    rw [hb] at h
    dsimp only [cond_false] at h
    split at h
    · rename_i kd na x ct M' ts hlk
      obtain ⟨h0, h⟩ := h
      have e0 := Nat.eq_of_beq_eq_true h0
      subst e0
      obtain ⟨g1, g2⟩ := gMl_at ho hlk
      obtain ⟨c1, c2, c3, c4, c5, c6⟩ := g2 _ List.mem_cons_self
      dsimp only at c1 c2 c3 c4 c5 c6 g1
      split at h
      · rename_i as rest hp
        obtain ⟨pre, p1, p2, p3⟩ := xpop_ok hp
        rw [List.append_nil] at p1
        subst p1
        rw [← c3] at c4 c5 c6 g1
        have hi : Cond.initialized M'.1.cls ∈ lw_all := by
          have h9 := List.all_eq_true.mp (show (gMl o).all (fun e => !(Nat.beq e.2.1 0) || gin e.2.2.2.1.cls) = true from ginT_ok ⟨o, ho⟩) _ (glk_mem hlk)
          rw [c3]
          exact gin_ok h9
        rw [← hown] at c4
        exact gcl_ok hG ho hown hK hd rfl (gEnt_S hd c4 c5 hi c1 g1 (by rw [c6, p3]) p2) c1 c2 h
      · exact absurd h id
    · exact absurd h id
theorem h1_spec {G : gG} (hG : gGood G) {M : gM} {o : Nat} (ho : o < 21) (hown : M.1.cls = gOwn o) {fr rc rs : Nat} {Q : gO → gS → Prop} {pc tg : Nat} {L : gL} {st : List gV} {σ : gS} {K : Nat → gL → List gV → gS → Prop} (hK : ∀ pc L st σ, K pc L st σ → gW G M fr rc rs Q pc L st σ) {idx : Nat} (hd : decode M.2.1 pc = .ok (.invokespecial idx, 3)) (h : hop1 G M o fr Q pc (.invokespecial idx) (pc + 3) tg L st σ K) : gW G M fr rc rs Q pc L st σ := by
  unfold hop1 at h
  dsimp only at h
  cases hb : gOi o idx with
  | true =>
    rw [hb] at h
    dsimp only [cond_true] at h
    split at h
    · obtain ⟨a, rfl, h1, h2, h⟩ := h
      exact gW_objInit hd (by rw [hown]; exact gOi_ok hb) q102 q103 h1 h2 (hK _ _ _ _ h)
    · exact absurd h id
  | false =>
    rw [hb] at h
    dsimp only [cond_false] at h
    split at h
    · rename_i kd na x ct M' ts hlk
      obtain ⟨h0, h⟩ := h
      obtain ⟨g1, g2⟩ := gMl_at ho hlk
      have g3 := g2 _ List.mem_cons_self
      clear g2
      split at h
      · rename_i r as rest hp
        obtain ⟨⟨a, rfl⟩, h⟩ := h
        obtain ⟨pre, p1, p2, p3⟩ := xpop_ok hp
        rw [List.append_nil] at p1
        subst p1
        rw [Bool.or_eq_true] at h0
        have p3 : as.length + 1 = na := p3
        subst p3
        rcases h0 with h0 | h0
        · have e0 := Nat.eq_of_beq_eq_true h0
          subst e0
          obtain ⟨c1, c2, c3, c4, c5, c6, c7, c8, c9⟩ := g3
          dsimp only at c1 c2 c3 c4 c5 c6 c7 c8 c9 g1
          rw [← c3] at c4 c7 c9 g1
          rw [← hown] at c7
          exact gcl_ok hG ho hown hK hd rfl (gEnt_I hd c4 c5 c6 c7 c8 c1 g1 (gmap1 c9) p2) c1 c2 h
        · have e0 := Nat.eq_of_beq_eq_true h0
          subst e0
          obtain ⟨c1, c2, c3, c4, c5, c6, c7, c8, c9⟩ := g3
          dsimp only at c1 c2 c3 c4 c5 c6 c7 c8 c9 g1
          rw [← c3] at c4 c7 c9 g1
          rw [← hown] at c7
          exact gcl_ok hG ho hown hK hd rfl (gEnt_IN hG hd c4 c5 c6 c7 c8 c1 g1 (gmap1 c9) p2) c1 c2 h
      · exact absurd h id
    · exact absurd h id
theorem h1_virt {G : gG} (hG : gGood G) {M : gM} {o : Nat} (ho : o < 21) (hown : M.1.cls = gOwn o) {fr rc rs : Nat} {Q : gO → gS → Prop} {pc tg : Nat} {L : gL} {st : List gV} {σ : gS} {K : Nat → gL → List gV → gS → Prop} (hK : ∀ pc L st σ, K pc L st σ → gW G M fr rc rs Q pc L st σ) {idx : Nat} (hd : decode M.2.1 pc = .ok (.invokevirtual idx, 3)) (h : hop1 G M o fr Q pc (.invokevirtual idx) (pc + 3) tg L st σ K) : gW G M fr rc rs Q pc L st σ := by
  unfold hop1 at h
  dsimp only at h
  split at h
  · rename_i kd na x ts hlk
    obtain ⟨h0, h⟩ := h
    obtain ⟨g1, g2⟩ := gMl_at ho hlk
    split at h
    · rename_i r as rest hp
      obtain ⟨a, ci, rfl, hob, hci, h⟩ := h
      split at h
      · rename_i M' hts
        have g3 := g2 _ (glk_mem hts)
        clear g2
        obtain ⟨pre, p1, p2, p3⟩ := xpop_ok hp
        rw [List.append_nil] at p1
        subst p1
        rw [Bool.or_eq_true] at h0
        have p3 : as.length + 1 = na := p3
        subst p3
        rcases h0 with h0 | h0
        · have e0 := Nat.eq_of_beq_eq_true h0
          subst e0
          obtain ⟨c1, c2, r9, c3, c4, c5, c6, c7, c8⟩ := g3
          dsimp only at c1 c2 c3 c4 c5 c6 c7 c8 g1
          rw [← c4] at c5 c7 c8 g1
          rw [← hown] at c5
          exact gcl_ok hG ho hown hK hd rfl (gEnt_VO hG hob c3 hd c5 c6 c7 c1 g1 (gmap1 c8) p2) c1 c2 h
        · have e0 := Nat.eq_of_beq_eq_true h0
          subst e0
          obtain ⟨c1, c2, r9, c3, c4, c5, c6, c7, c8, c9⟩ := g3
          dsimp only at c1 c2 c3 c4 c5 c6 c7 c8 c9 g1
          rw [← hown] at c4
          exact gcl_ok hG ho hown hK hd rfl (gEnt_UO hG hob c3 hd c4 c5 c6 c7 c8 c1 g1 (gmap1 c9) p2) c1 c2 h
      · exact absurd h id
    · exact absurd h id
  · exact absurd h id
theorem h1_face {G : gG} (hG : gGood G) {M : gM} {o : Nat} (ho : o < 21) (hown : M.1.cls = gOwn o) {fr rc rs : Nat} {Q : gO → gS → Prop} {pc tg : Nat} {L : gL} {st : List gV} {σ : gS} {K : Nat → gL → List gV → gS → Prop} (hK : ∀ pc L st σ, K pc L st σ → gW G M fr rc rs Q pc L st σ) {idx n : Nat} (hd : decode M.2.1 pc = .ok (.invokeinterface idx n, 5)) (h : hop1 G M o fr Q pc (.invokeinterface idx n) (pc + 5) tg L st σ K) : gW G M fr rc rs Q pc L st σ := by
  unfold hop1 at h
  dsimp only at h
  split at h
  · rename_i kd na x ts hlk
    obtain ⟨h0, h⟩ := h
    obtain ⟨g1, g2⟩ := gMl_at ho hlk
    split at h
    · rename_i r as rest hp
      obtain ⟨a, ci, vs, rfl, hob, hci, h⟩ := h
      split at h
      · rename_i M' hts
        have g3 := g2 _ (glk_mem hts)
        clear g2
        obtain ⟨pre, p1, p2, p3⟩ := xpop_ok hp
        rw [List.append_nil] at p1
        subst p1
        have p3 : as.length + 1 = na := p3
        subst p3
        have e0 := Nat.eq_of_beq_eq_true h0
        subst e0
        obtain ⟨c1, c2, r9, c3, c4, c5, c6, c7, c8, c9, d1, d2, d3⟩ := g3
        dsimp only at c1 c2 c3 c4 c5 c6 c7 c8 c9 d1 d2 d3 g1
        rw [← hown] at c4
        exact gcl_ok hG ho hown hK hd rfl (gEnt_F hG hob c3 hd c4 c5 c6 c7 c8 c9 d1 d2 g1 (gmap1 d3) p2) c1 c2 h
      · exact absurd h id
    · exact absurd h id
  · exact absurd h id
