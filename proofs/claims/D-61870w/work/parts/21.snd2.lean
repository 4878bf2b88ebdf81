/-! soundness of hop1, by instruction -/
theorem gini_ok {ci : Nat} (h : ci < 13) : Cond.instantiable (gcn ci) (gN ci) ∈ lw_all ∧ Cond.initialized (gcn ci) ∈ lw_all := by
  match ci, h with
  | 0, _ => exact ⟨q97, q58⟩
  | 1, _ => exact ⟨q138, q63⟩
  | 2, _ => exact ⟨q474, q80⟩
  | 3, _ => exact ⟨q1419, q81⟩
  | 4, _ => exact ⟨q616, q85⟩
  | 5, _ => exact ⟨q630, q86⟩
  | 6, _ => exact ⟨q1063, q92⟩
  | 7, _ => exact ⟨q1141, q93⟩
  | 8, _ => exact ⟨q1163, q94⟩
  | 9, _ => exact ⟨q1337, q95⟩
  | 10, _ => exact ⟨q109, q61⟩
  | 11, _ => exact ⟨q841, q88⟩
  | 12, _ => exact ⟨q947, q79⟩
  | n + 13, h => exact absurd h (by omega)
theorem gexc_ok {ci : Nat} (h0 : 13 ≤ ci) (h : ci < 18) : Cond.instantiable (gcn ci) 6 ∈ lw_all ∧ Cond.initialized (gcn ci) ∈ lw_all ∧ gN ci = 0 ∧ (Jvm.Bundle.ownAtoms0 "XactKernel" (gIc ci) (gcn ci) gXn).all gHas = true ∧ Jvm.Bundle.fit (gcn ci) = true := by
  match ci, h0, h with
  | 13, _, _ => exact ⟨q155, q67, rfl, gHas_iae, by decide +kernel⟩
  | 14, _, _ => exact ⟨q583, q84, rfl, gHas_ise, by decide +kernel⟩
  | 15, _, _ => exact ⟨q601, q82, rfl, gHas_iob, by decide +kernel⟩
  | 16, _, _ => exact ⟨q899, q89, rfl, gHas_uoe, by decide +kernel⟩
  | 17, _, _ => exact ⟨q748, q87, rfl, gHas_nse, by decide +kernel⟩
  | n + 18, _, h => exact absurd h (by omega)
theorem gty_ok (G : gG) {t : Nat} (h0 : 3 ≤ t) (h : t < 7) : (g_tys G)[t]? = some (G.2.2.2.2 t, .object (gel t)) := by
  match t, h0, h with
  | 3, _, _ | 4, _, _ | 5, _, _ | 6, _, _ => rfl
  | n + 7, _, h => exact absurd h (by omega)
theorem gty_any (G : gG) {t : Nat} (h : t < 7) : ∃ ty, (g_tys G)[t]? = some (G.2.2.2.2 t, ty) := by
  match t, h with
  | 0, _ | 1, _ | 2, _ | 3, _ | 4, _ | 5, _ | 6, _ => exact ⟨_, rfl⟩
  | n + 7, h => exact absurd h (by omega)
theorem gov_ok {t : Nat} (h0 : 3 ≤ t) (h : t < 7) : Cond.arrayOver (.object (gel t)) ∈ lw_tbl := by
  match t, h0, h with
  | 3, _, _ => exact q151
  | 4, _, _ => exact q105
  | 5, _, _ => exact q107
  | 6, _, _ => exact q480
  | n + 7, _, h => exact absurd h (by omega)
theorem gac_ok {t : Nat} (h : t < 3) : Cond.arrayClass (newarray.typeOf (gaty t)) ∈ lw_all := by
  match t, h with
  | 0, _ => exact q1081
  | 1, _ => exact q648
  | 2, _ => exact q1743
  | n + 3, h => exact absurd h (by omega)
theorem gOi_ok {o idx : Nat} (h : gOi o idx = true) : Cond.methodLink (gOwn o) idx Lib.objectInit ∈ lw_all := by
  unfold gOi at h
  split at h
  all_goals first | exact absurd h (by decide) | (have e := Nat.eq_of_beq_eq_true h; subst e)
  · exact q101
  · exact q1423
  · exact q634
  · exact q1167
  · exact q1341
  · exact q145
  · exact q954
  · exact q119
  · exact q478
  · exact q620
  · exact q845
theorem gcst_ok' {t ci : Nat} {r : vw_C} (h : ci < 18) (ht : t < 7) (hr : g_cl[ci]? = some r) (hc : gcst t ci = true) : r.1 = gel t ∨ Cond.castable r.1 (gel t) ∈ lw_tbl := by
  obtain ⟨r', h1, h2, -⟩ := gcl_at h
  cases hr.symm.trans h1
  rw [h2]
  exact gcst_ok ⟨t, ht⟩ ⟨ci, h⟩ hc
theorem gF12 : ∀ o : Fin 21, (gFl o.val).all (fun e => !(Nat.beq e.2.1 12) || (Nat.beq o.val 14 && Nat.beq e.1 205 && Nat.beq e.2.2.2 0)) = true := by decide +kernel
theorem gF12_ok {o idx k q : Nat} (ho : o < 21) (h : glk (gFl o) idx = some (12, k, q)) : Cond.fieldLink (gOwn o) idx "java/lang/Integer" "value" "I" ∈ lw_all := by
  have h1 := List.all_eq_true.mp (gF12 ⟨o, ho⟩) _ (glk_mem h)
  have h1 : (Nat.beq o 14 && Nat.beq idx 205 && Nat.beq q 0) = true := h1
  rw [Bool.and_eq_true, Bool.and_eq_true] at h1
  rw [Nat.eq_of_beq_eq_true h1.1.1, Nat.eq_of_beq_eq_true h1.1.2]
  exact q955
theorem h1_getfield {G : gG} (hG : gGood G) {M : gM} {o : Nat} (ho : o < 21) (hown : M.1.cls = gOwn o) {fr rc rs : Nat} {Q : gO → gS → Prop} {pc tg : Nat} {L : gL} {st : List gV} {σ : gS} {K : Nat → gL → List gV → gS → Prop} (hK : ∀ pc L st σ, K pc L st σ → gW G M fr rc rs Q pc L st σ) {idx : Nat} (hd : decode M.2.1 pc = .ok (.getfield idx, 3)) (h : hop1 G M o fr Q pc (.getfield idx) (pc + 3) tg L st σ K) : gW G M fr rc rs Q pc L st σ := by
  unfold hop1 at h
  dsimp only at h
  split at h
  · rename_i ci k q hlk
    obtain ⟨r, hr, hk, hf⟩ := gF_ok ho hlk
    split at h
    · rename_i r9 st9
      cases hb : Nat.beq ci 12 with
      | true =>
        rw [hb] at h
        have e12 := Nat.eq_of_beq_eq_true hb
        subst e12
        obtain ⟨a, z, rfl, hbx, h⟩ := h
        rcases hbx with hbx | hbx
        · cases hr
          have ek : k = 0 := by have : k < 1 := hk; omega
          subst ek
          rcases hf with ⟨-, ref, l1, l2⟩ | ⟨-, l⟩
          · rw [← hown] at l1
            exact gW_get hG hd hbx rfl hk (v := .inl z) rfl l1 l2 (fun hz => hK _ _ _ _ (h (hz z rfl)))
          · rw [← hown] at l
            exact gW_getN hG hd hbx rfl hk (v := .inl z) rfl l (fun hz => hK _ _ _ _ (h (hz z rfl)))
        · exact gW_getC hd hbx (by rw [hown]; exact gF12_ok ho hlk) (fun hz => hK _ _ _ _ (h hz))
      | false =>
        rw [hb] at h
        obtain ⟨a, vs, v, rfl, ha, hv, h⟩ := h
        rcases hf with ⟨-, ref, l1, l2⟩ | ⟨-, l⟩
        · rw [← hown] at l1
          exact gW_get hG hd ha hr hk hv l1 l2 (fun hz => hK _ _ _ _ (h hz))
        · rw [← hown] at l
          exact gW_getN hG hd ha hr hk hv l (fun hz => hK _ _ _ _ (h hz))
    · exact absurd h id
  · exact absurd h id
theorem h1_putfield {G : gG} (hG : gGood G) {M : gM} {o : Nat} (ho : o < 21) (hown : M.1.cls = gOwn o) {fr rc rs : Nat} {Q : gO → gS → Prop} {pc tg : Nat} {L : gL} {st : List gV} {σ : gS} {K : Nat → gL → List gV → gS → Prop} (hK : ∀ pc L st σ, K pc L st σ → gW G M fr rc rs Q pc L st σ) {idx : Nat} (hd : decode M.2.1 pc = .ok (.putfield idx, 3)) (h : hop1 G M o fr Q pc (.putfield idx) (pc + 3) tg L st σ K) : gW G M fr rc rs Q pc L st σ := by
  unfold hop1 at h
  dsimp only at h
  split at h
  · rename_i ci k q hlk
    obtain ⟨r, hr, hk, hf⟩ := gF_ok ho hlk
    split at h
    · obtain ⟨a, vs, rfl, ha, hb, hkl, ht, hq, hfin, h⟩ := h
      rw [gcl_r hr] at hfin
      rcases hf with ⟨-, ref, l1, l2⟩ | ⟨hq2, -⟩
      · rw [← hown] at l1
        exact gW_put hG hd ha hb hr hk hkl l1 l2 hfin ht (hK _ _ _ _ h)
      · omega
    · exact absurd h id
  · exact absurd h id
theorem h1_aaload {G : gG} (hG : gGood G) {M : gM} {o : Nat} (ho : o < 21) (hown : M.1.cls = gOwn o) {fr rc rs : Nat} {Q : gO → gS → Prop} {pc tg : Nat} {L : gL} {st : List gV} {σ : gS} {K : Nat → gL → List gV → gS → Prop} (hK : ∀ pc L st σ, K pc L st σ → gW G M fr rc rs Q pc L st σ) (hd : decode M.2.1 pc = .ok (.aaload, 1)) (h : hop1 G M o fr Q pc .aaload (pc + 1) tg L st σ K) : gW G M fr rc rs Q pc L st σ := by
  unfold hop1 at h
  dsimp only at h
  split at h
  · rename_i z r st9
    cases hb : Nat.beq o 14 with
    | true =>
      rw [hb] at h
      obtain ⟨rfl, hz, h⟩ := h
      obtain ⟨ad, -, hT, hi⟩ := gCa_ok hG
      have hk : z.toNat < 256 := by omega
      refine gW_aaldT (v := some (ad z.toNat)) hT (by decide) hz rfl hd (hK _ _ _ _ (h _ ?_))
      have := hi z.toNat hk
      rw [show ((z.toNat : Nat) : Int) = z from Int.toNat_of_nonneg hz.1] at this
      exact this
    | false =>
      rw [hb] at h
      obtain ⟨a, t, n, f, rfl, ha, ht, hn, hz, h⟩ := h
      exact gW_aald hG hd ha (gty_ok G ht.1 ht.2) hn hz (hK _ _ _ _ h)
  · exact absurd h id
theorem h1_alen {G : gG} (hG : gGood G) {M : gM} {o : Nat} (ho : o < 21) (hown : M.1.cls = gOwn o) {fr rc rs : Nat} {Q : gO → gS → Prop} {pc tg : Nat} {L : gL} {st : List gV} {σ : gS} {K : Nat → gL → List gV → gS → Prop} (hK : ∀ pc L st σ, K pc L st σ → gW G M fr rc rs Q pc L st σ) (hd : decode M.2.1 pc = .ok (.arraylength, 1)) (h : hop1 G M o fr Q pc .arraylength (pc + 1) tg L st σ K) : gW G M fr rc rs Q pc L st σ := by
  unfold hop1 at h
  dsimp only at h
  split at h
  · rename_i r st9
    cases hb : Nat.beq o 12 with
    | true =>
      rw [hb] at h
      obtain ⟨n, hl, hn, h⟩ := h
      rcases hl with ⟨a, t, f, rfl, ha, ht⟩ | ⟨rfl, rfl⟩
      · obtain ⟨ty, hty⟩ := gty_any G ht
        exact gW_alen hG hd ha hty hn (hK _ _ _ _ h)
      · obtain ⟨-, f, hT⟩ := gDE_ok hG
        exact gW_alenT hT hd (hK _ _ _ _ h)
    | false =>
      rw [hb] at h
      obtain ⟨a, t, n, f, rfl, ha, ht, hn, h⟩ := h
      obtain ⟨ty, hty⟩ := gty_any G ht
      exact gW_alen hG hd ha hty hn (hK _ _ _ _ h)
  · exact absurd h id
theorem h1_aastore {G : gG} (hG : gGood G) {M : gM} {o : Nat} (ho : o < 21) (hown : M.1.cls = gOwn o) {fr rc rs : Nat} {Q : gO → gS → Prop} {pc tg : Nat} {L : gL} {st : List gV} {σ : gS} {K : Nat → gL → List gV → gS → Prop} (hK : ∀ pc L st σ, K pc L st σ → gW G M fr rc rs Q pc L st σ) (hd : decode M.2.1 pc = .ok (.aastore, 1)) (h : hop1 G M o fr Q pc .aastore (pc + 1) tg L st σ K) : gW G M fr rc rs Q pc L st σ := by
  unfold hop1 at h
  dsimp only at h
  split at h
  · rename_i v z r st9
    obtain ⟨a, t, n, f, rfl, ha, ht, hb, hn, hz, hv, h⟩ := h
    cases v with
    | none => exact gW_aastN hG hd ha (gty_ok G ht.1 ht.2) hb hn hz (hK _ _ _ _ h)
    | some b =>
      obtain ⟨ci, ho1, hci, hcs⟩ := hv b rfl
      obtain ⟨r9, hr9, -, -⟩ := gcl_at hci
      exact gW_aastO hG hd ha (gty_ok G ht.1 ht.2) hb hn hz ho1 hr9 (gcst_ok' hci ht.2 hr9 hcs) (hK _ _ _ _ h)
  · exact absurd h id
theorem h1_new {G : gG} (hG : gGood G) {M : gM} {o : Nat} (ho : o < 21) (hown : M.1.cls = gOwn o) {fr rc rs : Nat} {Q : gO → gS → Prop} {pc tg : Nat} {L : gL} {st : List gV} {σ : gS} {K : Nat → gL → List gV → gS → Prop} (hK : ∀ pc L st σ, K pc L st σ → gW G M fr rc rs Q pc L st σ) {idx : Nat} (htb : xTbOK M.2.1 M.2.2.2.2.2) (hd : decode M.2.1 pc = .ok (.new idx, 3)) (h : hop1 G M o fr Q pc (.new idx) (pc + 3) tg L st σ K) : gW G M fr rc rs Q pc L st σ := by
  unfold hop1 at h
  dsimp only at h
  split at h
  · rename_i ci hlk
    have hcl : Cond.classLink M.1.cls idx (gcn ci) ∈ lw_all := by rw [hown]; exact gKlok o ho _ (glk_mem hlk)
    cases hb : Nat.ble 13 ci with
    | true =>
      rw [hb] at h
      obtain ⟨ho1, hci, t1, t2, c1, c2, c3, c4, h⟩ := h
      have h13 := Nat.le_of_ble_eq_true hb
      obtain ⟨r, hr, hr1, hr2⟩ := gcl_at hci
      obtain ⟨e1, e2, e3, e4, e5⟩ := gexc_ok h13 hci
      have eo := Nat.eq_of_beq_eq_true ho1
      obtain ⟨⟨l1, d1, d1'⟩, -⟩ := htb _ _ _ _ t1
      obtain ⟨⟨l2, d2, d2'⟩, -⟩ := htb _ _ _ _ t2
      have d1' := d1' (fun _ _ _ _ => by simp)
      have d2' := d2' (fun _ _ _ _ => by simp)
      subst d1' d2'
      have hcls : M.1.cls = "XactKernel" := by rw [hown, eo]; rfl
      rw [← hr1] at hcl e1 e2 e4 e5
      exact gW_mkExc hG hd d1 d2 hr (by rw [hr2, e3]) hcl e1 e2 (by rw [hcls]; exact e4) e5 c1 c2 c3 c4 (hK _ _ _ _ h)
    | false =>
      rw [hb] at h
      obtain ⟨c1, c2, h⟩ := h
      have h13 : ci < 13 := by
        apply Nat.not_le.mp
        intro q
        rw [Nat.ble_eq_true_of_le q] at hb
        cases hb
      obtain ⟨r, hr, hr1, hr2⟩ := gcl_at (show ci < 18 by omega)
      obtain ⟨e1, e2⟩ := gini_ok h13
      rw [← hr1] at hcl e1 e2
      refine gW_new hG hd hr hcl e1 e2 c1 c2 (hK _ _ _ _ ?_)
      rw [hr2]; exact h
  · exact absurd h id
theorem h1_anew {G : gG} (hG : gGood G) {M : gM} {o : Nat} (ho : o < 21) (hown : M.1.cls = gOwn o) {fr rc rs : Nat} {Q : gO → gS → Prop} {pc tg : Nat} {L : gL} {st : List gV} {σ : gS} {K : Nat → gL → List gV → gS → Prop} (hK : ∀ pc L st σ, K pc L st σ → gW G M fr rc rs Q pc L st σ) {idx : Nat} (hd : decode M.2.1 pc = .ok (.anewarray idx, 3)) (h : hop1 G M o fr Q pc (.anewarray idx) (pc + 3) tg L st σ K) : gW G M fr rc rs Q pc L st σ := by
  unfold hop1 at h
  dsimp only at h
  split at h
  · rename_i c hlk
    have hcl : Cond.classLink M.1.cls idx (gcn c) ∈ lw_all := by rw [hown]; exact gKlok o ho _ (glk_mem hlk)
    split at h
    · obtain ⟨t, ht, hc, hz, c1, c2, h⟩ := h
      rw [hc] at hcl
      exact gW_newq hG (gty_ok G ht.1 ht.2) hd hcl (gov_ok ht.1 ht.2) hz c1 c2 (hK _ _ _ _ h)
    · exact absurd h id
  · exact absurd h id
theorem h1_cast {G : gG} (hG : gGood G) {M : gM} {o : Nat} (ho : o < 21) (hown : M.1.cls = gOwn o) {fr rc rs : Nat} {Q : gO → gS → Prop} {pc tg : Nat} {L : gL} {st : List gV} {σ : gS} {K : Nat → gL → List gV → gS → Prop} (hK : ∀ pc L st σ, K pc L st σ → gW G M fr rc rs Q pc L st σ) {idx : Nat} (hd : decode M.2.1 pc = .ok (.checkcast idx, 3)) (h : hop1 G M o fr Q pc (.checkcast idx) (pc + 3) tg L st σ K) : gW G M fr rc rs Q pc L st σ := by
  unfold hop1 at h
  dsimp only at h
  split at h
  · rename_i c hlk
    have hcl : Cond.classLink M.1.cls idx (gcn c) ∈ lw_all := by rw [hown]; exact gKlok o ho _ (glk_mem hlk)
    split at h
    · rename_i r st9
      obtain ⟨hc, hob, h⟩ := h
      cases r with
      | none => exact gW_castN hd (hK _ _ _ _ h)
      | some a =>
        obtain ⟨r9, hr9, hr1, -⟩ := gcl_at hc
        rw [← hr1] at hcl
        exact gW_castO hG (hob a rfl) hr9 hd hcl (hK _ _ _ _ h)
    · exact absurd h id
  · exact absurd h id
theorem h1_inst {G : gG} (hG : gGood G) {M : gM} {o : Nat} (ho : o < 21) (hown : M.1.cls = gOwn o) {fr rc rs : Nat} {Q : gO → gS → Prop} {pc tg : Nat} {L : gL} {st : List gV} {σ : gS} {K : Nat → gL → List gV → gS → Prop} (hK : ∀ pc L st σ, K pc L st σ → gW G M fr rc rs Q pc L st σ) {idx : Nat} (hd : decode M.2.1 pc = .ok (.instanceof idx, 3)) (h : hop1 G M o fr Q pc (.instanceof idx) (pc + 3) tg L st σ K) : gW G M fr rc rs Q pc L st σ := by
  unfold hop1 at h
  dsimp only at h
  split at h
  · rename_i c hlk
    have hcl : Cond.classLink M.1.cls idx (gcn c) ∈ lw_all := by rw [hown]; exact gKlok o ho _ (glk_mem hlk)
    split at h
    · rename_i r st9
      obtain ⟨hc, hN, hS⟩ := h
      cases r with
      | none => exact gW_instN hd (hK _ _ _ _ (hN rfl))
      | some a =>
        obtain ⟨ci, vs, ha, hci, hy, hn⟩ := hS a rfl
        obtain ⟨r9, hr9, hr1, -⟩ := gcl_at hci
        by_cases e : ci = c
        · rw [← e, ← hr1] at hcl
          exact gW_instY hG ha hr9 hd hcl (hK _ _ _ _ (hy e))
        · obtain ⟨h1, h2⟩ := hn e
          refine gW_instNo hG ha hr9 hd hcl ?_ (hK _ _ _ _ h2)
          rw [hr1]
          exact gnc_ok ⟨ci, hci⟩ ⟨c, hc⟩ h1
    · exact absurd h id
  · exact absurd h id
theorem h1_gets {G : gG} (hG : gGood G) {M : gM} {o : Nat} (ho : o < 21) (hown : M.1.cls = gOwn o) {fr rc rs : Nat} {Q : gO → gS → Prop} {pc tg : Nat} {L : gL} {st : List gV} {σ : gS} {K : Nat → gL → List gV → gS → Prop} (hK : ∀ pc L st σ, K pc L st σ → gW G M fr rc rs Q pc L st σ) {idx : Nat} (hd : decode M.2.1 pc = .ok (.getstatic idx, 3)) (h : hop1 G M o fr Q pc (.getstatic idx) (pc + 3) tg L st σ K) : gW G M fr rc rs Q pc L st σ := by
  unfold hop1 at h
  dsimp only at h
  cases h1 : (Nat.beq o 12 && Nat.beq idx 39) with
  | true =>
    rw [h1] at h
    rw [Bool.and_eq_true] at h1
    have e1 := Nat.eq_of_beq_eq_true h1.1
    have e2 := Nat.eq_of_beq_eq_true h1.2
    subst e1 e2
    exact gW_gets (v := .inr (.inl (some (gDE G)))) (gDE_ok hG).1 hd (by rw [hown]; exact q120) (hK _ _ _ _ h)
  | false =>
    rw [h1] at h
    cases h2 : (Nat.beq o 14 && Nat.beq idx 191) with
    | true =>
      rw [h2] at h
      rw [Bool.and_eq_true] at h2
      have e1 := Nat.eq_of_beq_eq_true h2.1
      have e2 := Nat.eq_of_beq_eq_true h2.2
      subst e1 e2
      exact gW_gets (v := .inl 127) (gHi_ok hG) hd (by rw [hown]; exact q943) (hK _ _ _ _ h)
    | false =>
      rw [h2] at h
      cases h3 : (Nat.beq o 14 && Nat.beq idx 195) with
      | true =>
        rw [h3] at h
        rw [Bool.and_eq_true] at h3
        have e1 := Nat.eq_of_beq_eq_true h3.1
        have e2 := Nat.eq_of_beq_eq_true h3.2
        subst e1 e2
        obtain ⟨ad, hZ, -, -⟩ := gCa_ok hG
        exact gW_gets (v := .inr (.inl (some (gCa G)))) hZ hd (by rw [hown]; exact q945) (hK _ _ _ _ h)
      | false =>
        rw [h3] at h
        exact absurd h id
