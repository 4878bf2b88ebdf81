/-! the plain law (6): reading and writing -/
theorem iP_6 {μ ν : mS} {p : Nat} (hp : p < 6) (hr : mRs μ) (e : ∀ a, a ≤ 5 ∨ a = 18 ∨ a = 20 → ν a = μ a) (e6 : ∀ d, d < 15 → μ 6 (15 * p + d) = 1 → ν 6 (15 * p + d) = 1) (e7 : ∀ d, d < 15 → ν 6 (15 * p + d) = 1 → μ 6 (15 * p + d) = 1 ∨ (mgr μ p d ∧ d < 12 ∧ (¬ μ 0 d = 0 ∨ μ 5 (15 * p + d) = 1))) (h : iP μ p) : iP ν p := by
  obtain ⟨p1, p2, p3, p4, p5, p6, p7, p8, p9⟩ := h
  have r8 : mR8 μ := fun c hc => (hr.1 c hc).2.2.2.1
  have ec : ∀ c, csame μ ν c c := fun c => csame_e (fun a ha => e a (by omega))
  have ho : ∀ i, mof ν p i = mof μ p i := fun i => mof_c (by rw [e 5 (by omega)])
  have hm : ∀ c i, men ν c i = men μ c i := fun c i => by unfold men; rw [e 0 (by omega), e 1 (by omega), e 4 (by omega)]
  have hi0 : ∀ v v' : Nat → Nat, (∀ i, v' i = v i) → ∀ x, ids μ v x → ids ν v' x := fun v v' hv x h h0 => by
    obtain ⟨a, b⟩ := h h0
    rw [e 0 (by omega), hv, hv]
    exact ⟨a, b⟩
  refine ⟨mbal_m p1 (fun d i _ => by rw [ho, hm]) (fun i hi => by rw [ho]; exact mcap_c (ec _)), fun i hi hr => ?_, ?_, ?_, fun c hc => by rw [ho]; exact ndis_c (ec _) (r8 _ (mof_lt hp (by omega))) (p5 c hc), by rw [ho, e 0 (by omega)]; exact p6, fun d hd => by rw [e 20 (by omega)]; exact hi0 id id (fun _ => rfl) _ (p7 d hd), fun d hd => by rw [e 18 (by omega)]; exact hi0 _ _ ho _ (p8 d hd), fun i hi hs => ?_⟩
  · have : mgr μ p i := by
      rcases hr with ⟨d, hd, y⟩ | y | ⟨d, hd, y1, y2⟩
      · rw [e 18 (by omega)] at y; exact p2 i hi (Or.inl ⟨d, hd, y⟩)
      · rw [e 5 (by omega)] at y
        rcases y with y | y
        · exact p2 i hi (Or.inr (Or.inl (Or.inl y)))
        · rcases e7 i (by omega) y with y | y
          · exact p2 i hi (Or.inr (Or.inl (Or.inr y)))
          · exact y.1
      · rw [e 5 (by omega)] at y1
        rw [hm] at y2
        exact p2 i hi (Or.inr (Or.inr ⟨d, hd, y1, y2⟩))
    unfold mgr at this ⊢
    simp only [hm]
    rw [e 20 (by omega), e 5 (by omega), e 0 (by omega)]
    rcases this with y | y | y | ⟨d, hd, y1, y2⟩
    · exact Or.inl y
    · exact Or.inr (Or.inl y)
    · exact Or.inr (Or.inr (Or.inl y))
    · exact Or.inr (Or.inr (Or.inr ⟨d, hd, e6 d (by omega) y1, y2⟩))
  · rw [e 18 (by omega), e 20 (by omega), e 0 (by omega), e 5 (by omega)]; exact p3
  · unfold icp at p4 ⊢
    rw [e 0 (by omega), e 5 (by omega)]; exact p4
  · rw [e 0 (by omega), e 5 (by omega)]
    rcases e7 i hi hs with y | y
    · exact p9 i hi y
    · exact y.2
theorem kInv_seen {μ : mS} {p i : Nat} (hp : p < 6) (hi : i < 15) (g : μ 9 p = 1) (hr : mRs μ) (hx : mRx μ) (h : kInv μ) (hn : ∀ q, q < 6 → q ≠ p → μ 9 q = 1 → ¬ μ 5 (15 * q + i) = 1) (hg : mgr μ p i) (h12 : i < 12) (h0 : ¬ μ 0 i = 0 ∨ μ 5 (15 * p + i) = 1) : kInv (mup μ 6 (15 * p + i) 1) := by
  have e : ∀ a, a ≠ 6 → mup μ 6 (15 * p + i) 1 a = μ a := fun a ha => mup_other _ _ _ ha
  have e6 : ∀ q j, q ≠ p → j < 15 → mup μ 6 (15 * p + i) 1 6 (15 * q + j) = μ 6 (15 * q + j) := fun q j hq hj => by simp only [mup]; rw [if_neg (by omega)]
  have hAA := h.2.2.2.1
  refine kInv_own g hr hx h (fun a ha => e a (by omega)) (fun c _ _ => csame_e (fun a ha => e a (by omega))) (fun q hq hqp => ⟨fun j hj => ⟨by rw [e 5 (by omega)], e6 q j hqp hj⟩, by rw [e 11 (by omega)], by rw [e 17 (by omega)], fun d _ => by rw [e 18 (by omega)]⟩) (iP_6 hp hr (fun a ha => e a (by omega)) (fun d hd w => ?_) (fun d hd w => ?_) ((h.2.2.1 p hp).1 g).1) (fun q hq hqp gq => ⟨⟨fun j hj w => ?_, ?_⟩, ⟨fun j hj w => ?_, ?_⟩⟩)
  · simp only [mup]; split
    · rfl
    · exact w
  · by_cases z : d = i
    · subst z; exact Or.inr ⟨hg, h12, h0⟩
    · simp only [mup] at w; rw [if_neg (by omega)] at w; exact Or.inl w
  · rw [e 5 (by omega)] at w ⊢
    rw [e6 q j hqp hj]
    exact (hAA p q hp hq (fun y => hqp y.symm) g gq).1 j hj w
  · rw [e 12 (by omega)]; exact (hAA p q hp hq (fun y => hqp y.symm) g gq).2
  · rw [e 5 (by omega)] at w ⊢
    have := (hAA q p hq hp hqp gq g).1 j hj w
    refine ⟨this.1, ?_⟩
    by_cases z : j = i
    · subst z; exact absurd w (hn q hq hqp gq)
    · simp only [mup]; rw [if_neg (by omega)]; exact this.2
  · rw [e 12 (by omega)]; exact (hAA q p hq hp hqp gq g).2
theorem kInv_write {μ : mS} {p i : Nat} (hp : p < 6) (hi : i < 15) (g : μ 9 p = 1) (hB : kB μ) (hr : mRs μ) (hx : mRx μ) (h : kInv μ) (h5 : μ 5 (15 * p + i) = 0) (hn : ∀ q, q < 6 → q ≠ p → μ 9 q = 1 → ¬ μ 5 (15 * q + i) = 1 ∧ ¬ μ 6 (15 * q + i) = 1) (h0 : ¬ μ 0 i = 0) (hg : i < 12 → mgr μ p i) (hs : i < 12 → μ 0 i = 2 → μ 6 (15 * p + i) = 1) : kInv (mcopy i (15 + 15 * p + i) (mup (mup μ 5 (15 * p + i) 1) 7 i 1)) := by
  generalize hν : mcopy i (15 + 15 * p + i) (mup (mup μ 5 (15 * p + i) 1) 7 i 1) = ν
  have r8 : mR8 μ := fun c hc => (hr.1 c hc).2.2.2.1
  have e : ∀ a, 5 < a → a ≠ 7 → ν a = μ a := fun a ha h7 => by
    rw [← hν]; funext j
    rw [mcopy_e a j (by omega) (by omega), mup_other _ _ _ h7, mup_other _ _ _ (by omega)]
  have e5 : ∀ j, ν 5 j = if j = 15 * p + i then 1 else μ 5 j := fun j => by
    rw [← hν, mcopy_e 5 j (by omega) (by omega), mup_other _ _ _ (by omega)]
    simp only [mup]; simp
  have ec : ∀ c, c ≠ 15 + 15 * p + i → csame μ ν c c := fun c hc => by
    refine ⟨fun a ha => ?_, fun a k ha hk => ?_⟩
    · rw [← hν, mcopy_e a c (by omega) (by omega), mup_other _ _ _ (by omega), mup_other _ _ _ (by omega)]
    · rw [← hν, mcopy_e a _ (by omega) (by omega), mup_other _ _ _ (by omega), mup_other _ _ _ (by omega)]
  have ei : csame μ ν i (15 + 15 * p + i) := by
    refine ⟨fun a ha => ?_, fun a k ha hk => ?_⟩
    · rw [← hν, mcopy_a ha, mup_other _ _ _ (by omega), mup_other _ _ _ (by omega)]
    · rw [← hν, mcopy_v ha hk, mup_other _ _ _ (by omega), mup_other _ _ _ (by omega)]
  have e5q : ∀ q j, j < 15 → ¬ (q = p ∧ j = i) → ν 5 (15 * q + j) = μ 5 (15 * q + j) := fun q j hj hq => by rw [e5, if_neg (by omega)]
  have e5i : ν 5 (15 * p + i) = 1 := by rw [e5, if_pos rfl]
  have hAA := h.2.2.2.1
  obtain ⟨hC, -, hPP, -⟩ := id h
  obtain ⟨p1, p2, p3, p4, p5, p6, p7, p8, p9⟩ := ((hPP p hp).1 g).1
  have hv : ∀ d, d < 15 → csame μ ν (mof μ p d) (mof ν p d) := fun d hd => by
    by_cases z : d = i
    · subst z
      rw [mof_n h5, mof_w (by rw [e5i]; omega)]; exact ei
    · rw [mof_c (e5q p d hd (by omega))]
      exact ec _ (by unfold mof; split <;> omega)
  have o8 : ∀ d, d < 15 → μ 1 (mof μ p d) ≤ 8 := fun d hd => r8 _ (mof_lt hp hd)
  have k0 : ∀ c, c < 15 → ν 0 c = μ 0 c := fun c hc => (ec c (by omega)).1 0 (by omega)
  have hm : ∀ c j, c < 15 → men ν c j = men μ c j := fun c j hc => men_c (ec c (by omega)) (r8 c (by omega))
  have gm : ∀ j, j < 12 → mgr μ p j → mgr ν p j := fun j hj y => by
    unfold mgr at y ⊢
    rw [e 20 (by omega) (by omega), e 6 (by omega) (by omega), k0 j (by omega)]
    rcases y with y | y | ⟨y1, y2⟩ | ⟨d, hd, y1, y2⟩
    · exact Or.inl y
    · exact Or.inr (Or.inl y)
    · refine Or.inr (Or.inr (Or.inl ⟨y1, ?_⟩))
      rw [e5]; split
      · rfl
      · exact y2
    · exact Or.inr (Or.inr (Or.inr ⟨d, hd, y1, by rw [hm d j (by omega)]; exact y2⟩))
  refine kInv_own g hr hx h (fun a ha => e a (by omega) (by omega)) (fun c _ hc => ec c (by omega)) (fun q hq hqp => ⟨fun j hj => ⟨e5q q j hj (by omega), by rw [e 6 (by omega) (by omega)]⟩, by rw [e 11 (by omega) (by omega)], by rw [e 17 (by omega) (by omega)], fun d _ => by rw [e 18 (by omega) (by omega)]⟩) ⟨?_, ?_, ?_, ?_, ?_, ?_, ?_, ?_, ?_⟩ (fun q hq hqp gq => ⟨⟨fun j hj w => ?_, ?_⟩, ⟨fun j hj w => ?_, ?_⟩⟩)
  · exact mbal_c p1 (fun d hd => hv d (by omega)) (fun d hd => o8 d (by omega))
  · intro j hj hr2
    rcases hr2 with ⟨d, hd, y⟩ | y | ⟨d, hd, y1, y2⟩
    · rw [e 18 (by omega) (by omega)] at y
      exact gm j hj (p2 j hj (Or.inl ⟨d, hd, y⟩))
    · by_cases z : j = i
      · subst z; exact gm j hj (hg hj)
      · rw [e5q p j (by omega) (by omega), e 6 (by omega) (by omega)] at y
        exact gm j hj (p2 j hj (Or.inr (Or.inl y)))
    · by_cases z : d = i
      · subst z
        rw [men_c ei (r8 d (by omega))] at y2
        exact gm j hj (Or.inr (Or.inr (Or.inr ⟨d, hd, hs hd (men_ex y2).1, y2⟩)))
      · rw [e5q p d (by omega) (by omega)] at y1
        rw [men_c (ec _ (by omega)) (r8 _ (by omega))] at y2
        exact gm j hj (p2 j hj (Or.inr (Or.inr ⟨d, hd, y1, y2⟩)))
  · intro d hd y
    rw [e 18 (by omega) (by omega)] at y ⊢
    have rx := (hx (4 * p + d) (by omega)).1
    rcases p3 d hd y with y | ⟨y1, y2⟩
    · rw [e 20 (by omega) (by omega)]; exact Or.inl y
    · refine Or.inr ⟨by rw [k0 _ (by omega)]; exact y1, ?_⟩
      rw [e5]; split
      · rfl
      · exact y2
  · intro j hj w
    rw [k0 j hj]
    by_cases z : j = i
    · subst z
      rw [ei.1 0 (by omega)]
      refine ⟨fun y => ⟨hC.2.1 j y, fun y => y, fun y => Or.inl y⟩, fun y => ?_⟩
      have := hC.2.2.1 j y hj
      omega
    · rw [e5q p j hj (by omega)] at w
      rw [(ec _ (by omega)).1 0 (by omega)]
      exact p4 j hj w
  · intro c hc
    exact ndis_c (hv c (by omega)) (o8 c (by omega)) (p5 c hc)
  · rw [(hv 0 (by omega)).1 0 (by omega)]; exact p6
  · intro d hd
    rw [e 20 (by omega) (by omega)]
    have rx := (hx (4 * p + d) (by omega)).2.1
    exact ids_c (fun j hj => k0 j hj) (by omega) (p7 d hd)
  · intro d hd
    rw [e 18 (by omega) (by omega)]
    have rx := (hx (4 * p + d) (by omega)).1
    exact ids_c (fun j hj => (hv j hj).1 0 (by omega)) (by omega) (p8 d hd)
  · intro j hj hs2
    rw [e 6 (by omega) (by omega)] at hs2
    rw [k0 j hj]
    refine ⟨(p9 j hj hs2).1, ?_⟩
    rcases (p9 j hj hs2).2 with y | y
    · exact Or.inl y
    · refine Or.inr ?_
      rw [e5]; split
      · rfl
      · exact y
  · rw [e5q q j hj (by omega), e 6 (by omega) (by omega)]
    by_cases z : j = i
    · subst z; exact hn q hq hqp gq
    · rw [e5q p j hj (by omega)] at w
      exact (hAA p q hp hq (fun y => hqp y.symm) g gq).1 j hj w
  · rw [e 12 (by omega) (by omega)]; exact (hAA p q hp hq (fun y => hqp y.symm) g gq).2
  · rw [e5q q j hj (by omega)] at w
    have := (hAA q p hq hp hqp gq g).1 j hj w
    rw [e 6 (by omega) (by omega)]
    refine ⟨?_, this.2⟩
    by_cases z : j = i
    · subst z; exact absurd w (hn q hq hqp gq).1
    · rw [e5q p j hj (by omega)]; exact this.1
  · rw [e 12 (by omega) (by omega)]; exact (hAA q p hq hp hqp gq g).2
