/-! the plain law (7): a call begins -/
theorem kInv_enter {μ : mS} {p : Nat} (hp : p < 6) (g : μ 9 p = 0) (h8 : μ 8 p = 1) (hr : mRs μ) (hx : mRx μ) (h : kInv μ) : kInv (menter p μ) := by
  obtain ⟨hC, hI, hPP, hAA, hN, hT⟩ := h
  have r8 : mR8 μ := fun c hc => (hr.1 c hc).2.2.2.1
  obtain ⟨⟨z5, z17⟩, z11, z18⟩ := (hPP p hp).2 (by omega)
  have e : ∀ a, a < 26 → ¬ (a = 7 ∨ a = 9 ∨ a = 12 ∨ a = 20 ∨ a = 21 ∨ a = 23) → menter p μ a = μ a := fun a h1 h2 => menter_o h1 h2
  have e9 := menter_9 g
  have e12 := menter_12 g
  have e20 := menter_20 g
  have e23 : menter p μ 23 0 = μ 23 0 + 1 := by simp [menter, menterk, g]
  have ec : ∀ c, csame μ (menter p μ) c c := fun c => csame_e (fun a ha => e a (by omega) (by omega))
  generalize menter p μ = ν at *
  have ho : ∀ d, d < 15 → mof ν p d = d := fun d hd => mof_n (by rw [e 5 (by omega) (by omega)]; exact (z5 d hd).1)
  have k0 : ν 0 = μ 0 := e 0 (by omega) (by omega)
  have d20 : ∀ d, d < 4 → ν 20 (4 * p + d) = μ 18 (4 * p + d) := fun d hd => by rw [e20, if_pos (by omega)]
  have q20 : ∀ q d, q ≠ p → d < 4 → ν 20 (4 * q + d) = μ 20 (4 * q + d) := fun q d hq hd => by rw [e20, if_neg (by omega)]
  refine ⟨iC_c r8 hC (fun c _ => ec c), iS_c hI (fun c _ => ec c) (e 8 (by omega) (by omega)) (fun x hx24 => ?_), fun q hq => ?_, fun a b ha hb hab ga gb => ?_, ?_, fun q hq gq => ?_⟩
  · unfold sol
    rw [e9, e20, e 18 (by omega) (by omega)]
    by_cases z : x / 4 = p
    · rw [if_pos z, if_pos z, if_pos rfl, if_neg (by rw [z]; omega)]
    · rw [if_neg z, if_neg z]
  · rw [e9, e12, e23]
    by_cases z : q = p
    · subst z
      rw [if_pos rfl, if_pos rfl]
      refine ⟨fun _ => ⟨⟨?_, ?_, ?_, ?_, ?_, ?_, ?_, ?_, ?_⟩, by omega⟩, fun y => absurd rfl y⟩
      · exact mbal_c hC.1 (fun d hd => by rw [ho d (by omega)]; exact ec d) (fun d hd => r8 d (by omega))
      · intro i hi hr2
        rcases hr2 with ⟨d, hd, y⟩ | y | ⟨d, hd, y1, y2⟩
        · rw [e 18 (by omega) (by omega)] at y
          exact Or.inr (Or.inl ⟨d, hd, by rw [d20 d hd]; exact y⟩)
        · rw [e 5 (by omega) (by omega), e 6 (by omega) (by omega), (z5 i (by omega)).1, (z5 i (by omega)).2] at y; omega
        · rw [e 5 (by omega) (by omega), (z5 d (by omega)).1] at y1; omega
      · intro d hd y
        exact Or.inl ⟨d, hd, by rw [d20 d hd, e 18 (by omega) (by omega)]⟩
      · intro i hi w
        rw [e 5 (by omega) (by omega), (z5 i hi).1] at w; omega
      · intro c hc
        rw [ho c (by omega)]
        exact ndis_c (ec c) (r8 c (by omega)) (hC.2.2.2.1 c hc)
      · rw [ho 0 (by omega), k0]; exact hC.2.2.2.2
      · intro d hd
        rw [d20 d hd]
        have rx := (hx (4 * q + d) (by omega)).1
        exact ids_c (fun i hi => by rw [k0]) (by omega) (z18 d hd)
      · intro d hd
        rw [e 18 (by omega) (by omega)]
        have rx := (hx (4 * q + d) (by omega)).1
        exact ids_c (v := id) (fun i hi => by rw [k0, ho i hi]; rfl) (by omega) (z18 d hd)
      · intro i hi w
        rw [e 6 (by omega) (by omega), (z5 i hi).2] at w; omega
    · rw [if_neg z, if_neg z]
      refine ⟨fun y => ⟨iP_c hq ⟨fun c _ => ec c, fun i hi => ⟨Or.inr (ec _), by rw [e 5 (by omega) (by omega)], by rw [e 6 (by omega) (by omega)]⟩, fun d hd => ⟨by rw [e 18 (by omega) (by omega)], q20 q d z hd⟩⟩ r8 hx ((hPP q hq).1 y).1, by have := ((hPP q hq).1 y).2; omega⟩, fun y => ?_⟩
      obtain ⟨⟨y5, y17⟩, y11, y18⟩ := (hPP q hq).2 y
      refine ⟨⟨fun s hs => ?_, by rw [e 17 (by omega) (by omega)]; exact y17⟩, by rw [e 11 (by omega) (by omega)]; exact y11, fun d hd => ?_⟩
      · rw [e 5 (by omega) (by omega), e 6 (by omega) (by omega)]; exact y5 s hs
      · rw [e 18 (by omega) (by omega)]
        have rx := (hx (4 * q + d) (by omega)).1
        exact ids_c (fun i hi => by rw [k0]) (by omega) (y18 d hd)
  · rw [e9] at ga gb
    have w5 : ∀ i, i < 15 → ν 5 (15 * p + i) = 0 ∧ ν 6 (15 * p + i) = 0 := fun i hi => by rw [e 5 (by omega) (by omega), e 6 (by omega) (by omega)]; exact z5 i hi
    by_cases za : a = p
    · subst za
      rw [if_neg (fun y => hab y.symm)] at gb
      refine ⟨fun i hi w => by have := w5 i hi; omega, ?_⟩
      rw [e12, e12, if_pos rfl, if_neg (fun y => hab y.symm)]
      have := ((hPP b hb).1 gb).2
      omega
    · rw [if_neg za] at ga
      by_cases zb : b = p
      · subst zb
        refine ⟨fun i hi w => by have := w5 i hi; omega, ?_⟩
        rw [e12, e12, if_neg za, if_pos rfl]
        have := ((hPP a ha).1 ga).2
        omega
      · rw [if_neg zb] at gb
        have := hAA a b ha hb hab ga gb
        unfold iA at this ⊢
        rw [e 5 (by omega) (by omega), e 6 (by omega) (by omega), e12, e12, if_neg za, if_neg zb]
        exact this
  · unfold kNt at hN ⊢
    rw [e 8 (by omega) (by omega), e 11 (by omega) (by omega), e 10 (by omega) (by omega), e 14 (by omega) (by omega), e 18 (by omega) (by omega)]
    exact hN
  · rw [e 8 (by omega) (by omega)]
    rw [e9] at gq
    by_cases z : q = p
    · subst z; exact h8
    · rw [if_neg z] at gq; exact hT q hq gq
/-- fields that nobody looks at -/
theorem kInv_c {μ ν : mS} (hr : mRs μ) (hx : mRx μ) (h : kInv μ) (e : ∀ a, a ≤ 6 ∨ a = 8 ∨ a = 9 ∨ a = 10 ∨ a = 11 ∨ a = 14 ∨ a = 17 ∨ a = 18 ∨ a = 20 → ν a = μ a) (e12 : ∀ q, q < 6 → μ 9 q = 1 → ν 12 q = μ 12 q) (e23 : μ 23 0 ≤ ν 23 0) : kInv ν := by
  obtain ⟨hC, hI, hPP, hAA, hN, hT⟩ := h
  have r8 : mR8 μ := fun c hc => (hr.1 c hc).2.2.2.1
  have ec : ∀ c, csame μ ν c c := fun c => csame_e (fun a ha => e a (by omega))
  refine ⟨iC_c r8 hC (fun c _ => ec c), iS_c hI (fun c _ => ec c) (e 8 (by omega)) (fun x _ => by unfold sol; rw [e 9 (by omega), e 18 (by omega), e 20 (by omega)]), fun q hq => ?_, fun a b ha hb hab ga gb => ?_, ?_, fun q hq gq => ?_⟩
  · rw [e 9 (by omega)]
    refine ⟨fun y => ⟨iP_c hq ⟨fun c _ => ec c, fun i hi => ⟨Or.inr (ec _), by rw [e 5 (by omega)], by rw [e 6 (by omega)]⟩, fun d hd => ⟨by rw [e 18 (by omega)], by rw [e 20 (by omega)]⟩⟩ r8 hx ((hPP q hq).1 y).1, by rw [e12 q hq y]; have := ((hPP q hq).1 y).2; omega⟩, fun y => ?_⟩
    have := (hPP q hq).2 y
    unfold iN kZ ids at this ⊢
    rw [e 5 (by omega), e 6 (by omega), e 17 (by omega), e 11 (by omega), e 18 (by omega), e 0 (by omega)]
    exact this
  · rw [e 9 (by omega)] at ga gb
    have := hAA a b ha hb hab ga gb
    unfold iA at this ⊢
    rw [e 5 (by omega), e 6 (by omega), e12 a ha ga, e12 b hb gb]
    exact this
  · unfold kNt at hN ⊢
    rw [e 8 (by omega), e 11 (by omega), e 10 (by omega), e 14 (by omega), e 18 (by omega)]
    exact hN
  · rw [e 9 (by omega)] at gq
    rw [e 8 (by omega)]
    exact hT q hq gq
theorem kInv_plain {μ : mS} {p : Nat} (hB : kB μ) (hr : mRs μ) (hx : mRx μ) (h : kInv μ) : kInv (mplain p μ) := by
  unfold mplain
  rcases (hB p).2.2.2.1 with g | g
  · rw [if_pos g]
    have e23 : mup (menter p μ) 9 p 0 23 0 = μ 23 0 + 1 := by simp [mup, menter, menterk, g]
    have e20 : ∀ q d, ¬ q = p → d < 4 → mup (menter p μ) 9 p 0 20 (4 * q + d) = μ 20 (4 * q + d) := fun q d hq hd => by rw [mup_other _ _ _ (by omega), menter_20 g, if_neg (by omega)]
    have e12 : ∀ q, μ 9 q = 1 → mup (menter p μ) 9 p 0 12 q = μ 12 q := fun q hq => by
      rw [mup_other _ _ _ (by omega), menter_12 g, if_neg (by intro y; subst y; omega)]
    have e : ∀ a, a < 26 → ¬ (a = 7 ∨ a = 12 ∨ a = 20 ∨ a = 21 ∨ a = 23) → mup (menter p μ) 9 p 0 a = μ a := fun b h1 h2 => by
      by_cases z : b = 9
      · subst z
        funext j
        show (if _ then _ else _) = _
        by_cases w : j = p
        · rw [if_pos ⟨rfl, w⟩, w, g]
        · rw [if_neg (fun q => w q.2), menter_9 g, if_neg w]
      · rw [mup_other _ _ _ z, menter_o h1 (by omega)]
    generalize mup (menter p μ) 9 p 0 = ν at *
    obtain ⟨hC, hI, hPP, hAA, hN, hT⟩ := h
    have r8 : mR8 μ := fun c hc => (hr.1 c hc).2.2.2.1
    have ec : ∀ c, csame μ ν c c := fun c => csame_e (fun a ha => e a (by omega) (by omega))
    refine ⟨iC_c r8 hC (fun c _ => ec c), iS_c hI (fun c _ => ec c) (e 8 (by omega) (by omega)) (fun x hx24 => ?_), fun q hq => ?_, fun a b ha hb hab ga gb => ?_, ?_, fun q hq gq => ?_⟩
    · unfold sol
      rw [e 9 (by omega) (by omega), e 18 (by omega) (by omega)]
      by_cases z : μ 9 (x / 4) = 1
      · have x4 : 4 * (x / 4) + x % 4 = x := by omega
        have := e20 (x / 4) (x % 4) (by intro y; rw [y] at z; omega) (by omega)
        rw [x4] at this
        rw [if_pos z, if_pos z, this]
      · rw [if_neg z, if_neg z]
    · rw [e 9 (by omega) (by omega)]
      refine ⟨fun y => ⟨iP_c hq ⟨fun c _ => ec c, fun i hi => ⟨Or.inr (ec _), by rw [e 5 (by omega) (by omega)], by rw [e 6 (by omega) (by omega)]⟩, fun d hd => ⟨by rw [e 18 (by omega) (by omega)], e20 q d (by intro w; subst w; omega) hd⟩⟩ r8 hx ((hPP q hq).1 y).1, by rw [e12 q y, e23]; have := ((hPP q hq).1 y).2; omega⟩, fun y => ?_⟩
      have := (hPP q hq).2 y
      unfold iN kZ ids at this ⊢
      rw [e 5 (by omega) (by omega), e 6 (by omega) (by omega), e 17 (by omega) (by omega), e 11 (by omega) (by omega), e 18 (by omega) (by omega), e 0 (by omega) (by omega)]
      exact this
    · rw [e 9 (by omega) (by omega)] at ga gb
      have := hAA a b ha hb hab ga gb
      unfold iA at this ⊢
      rw [e 5 (by omega) (by omega), e 6 (by omega) (by omega), e12 a ga, e12 b gb]
      exact this
    · unfold kNt at hN ⊢
      rw [e 8 (by omega) (by omega), e 11 (by omega) (by omega), e 10 (by omega) (by omega), e 14 (by omega) (by omega), e 18 (by omega) (by omega)]
      exact hN
    · rw [e 9 (by omega) (by omega)] at gq
      rw [e 8 (by omega) (by omega)]
      exact hT q hq gq
  · rw [if_neg (by omega)]
    have ng : ¬ μ 9 p = 0 := by omega
    refine kInv_c hr hx h (fun a ha => menter_g ng (by omega) (by omega)) (fun q _ _ => by rw [menter_g ng (by omega) (by omega)]) ?_
    rw [menter_g ng (by omega) (by omega)]
    exact Int.le_refl _
