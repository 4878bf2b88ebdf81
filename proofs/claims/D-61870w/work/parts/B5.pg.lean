/-! the plain law (16): something new; a directory goes -/
theorem mcre_v {μ : mS} {p i : Nat} {k : Int} : (∀ a, 5 < a → mcreate p i k μ a = μ a) ∧ (∀ j, mcreate p i k μ 5 j = if j = 15 * p + i then 1 else μ 5 j) ∧ (∀ c, c ≠ 15 + 15 * p + i → csame μ (mcreate p i k μ) c c) ∧ mcreate p i k μ 0 (15 + 15 * p + i) = k ∧ mcreate p i k μ 1 (15 + 15 * p + i) = 0 ∧ mcreate p i k μ 2 (15 + 15 * p + i) = if k = 1 then 1 else 0 := by
  have v : ∀ a j, mcreate p i k μ a j = if a = 5 ∧ j = 15 * p + i then 1 else if a = 0 ∧ j = 15 + 15 * p + i then k else if a = 1 ∧ j = 15 + 15 * p + i then 0 else if a = 2 ∧ j = 15 + 15 * p + i then (if k = 1 then 1 else 0) else mcopy i (15 + 15 * p + i) μ a j := fun a j => rfl
  refine ⟨fun a ha => funext fun j => ?_, fun j => ?_, fun c hc => ⟨fun a ha => ?_, fun a q ha hq => ?_⟩, ?_, ?_, ?_⟩
  · rw [v, if_neg (by omega), if_neg (by omega), if_neg (by omega), if_neg (by omega), mcopy_e a j (by omega) (by omega)]
  · rw [v]
    by_cases z : j = 15 * p + i
    · rw [if_pos ⟨rfl, z⟩, if_pos z]
    · rw [if_neg (by omega), if_neg (by omega), if_neg (by omega), if_neg (by omega), if_neg z, mcopy_e 5 j (by omega) (by omega)]
  · rw [v, if_neg (by omega), if_neg (by omega), if_neg (by omega), if_neg (by omega), mcopy_e a c (by omega) (by omega)]
  · rw [v, if_neg (by omega), if_neg (by omega), if_neg (by omega), if_neg (by omega), mcopy_e a _ (by omega) (by omega)]
  · rw [v, if_neg (by omega), if_pos ⟨rfl, rfl⟩]
  · rw [v, if_neg (by omega), if_neg (by omega), if_pos ⟨rfl, rfl⟩]
  · rw [v, if_neg (by omega), if_neg (by omega), if_neg (by omega), if_pos ⟨rfl, rfl⟩]
theorem iPr_new {μ : mS} {p i : Nat} {k : Int} (hp : p < 6) (hi : i < 15) (hx : mRx μ) (r8 : mR8 μ) (h5 : μ 5 (15 * p + i) = 0) (h0 : μ 0 i = 0) (hk : (i < 12 → k = 1 ∨ k = 2) ∧ (12 ≤ i → k = 3)) (hP : iPr μ p) : iPr (mcreate p i k μ) p ∧ mcreate p i k μ 5 (15 * p + i) = 1 ∧ (∀ j, msE (mcreate p i k μ) (mof (mcreate p i k μ) p) j = msE μ (mof μ p) j) ∧ (∀ j, mgr μ p j → j < 12 → mgr (mcreate p i k μ) p j) ∧ (i < 12 → mgr (mcreate p i k μ) p i) := by
  obtain ⟨e, e5, ec, v0, v1, v2⟩ := mcre_v (μ := μ) (p := p) (i := i) (k := k)
  generalize mcreate p i k μ = ν at *
  obtain ⟨p2, p3, p4, p5, p6, p7, p8, p9⟩ := hP
  have e5i : ν 5 (15 * p + i) = 1 := by rw [e5, if_pos rfl]
  have e5n : ∀ d, d < 15 → d ≠ i → ν 5 (15 * p + d) = μ 5 (15 * p + d) := fun d hd hn => by rw [e5, if_neg (by omega)]
  have e5m : ∀ d, d < 15 → μ 5 (15 * p + d) = 1 → ν 5 (15 * p + d) = 1 := fun d hd w => by rw [e5]; split <;> first | rfl | exact w
  have ho : ∀ d, d < 15 → d ≠ i → mof ν p d = mof μ p d := fun d hd hn => mof_c (e5n d hd hn)
  have hoi : mof ν p i = 15 + 15 * p + i := mof_w (by rw [e5i]; omega)
  have k0 : ∀ c, c < 15 → ν 0 c = μ 0 c := fun c hc => (ec c (by omega)).1 0 (by omega)
  have hm : ∀ c j, c < 105 → c ≠ 15 + 15 * p + i → men ν c j = men μ c j := fun c j hc hn => men_c (ec c hn) (r8 c hc)
  have hmt : ∀ j, men ν (15 + 15 * p + i) j = 0 := fun j => by
    unfold men
    rw [v1]
    split <;> rfl
  have gm : ∀ j, mgr μ p j → j < 12 → mgr ν p j := fun j y hj => by
    unfold mgr at y ⊢
    rw [e 20 (by omega), e 6 (by omega), k0 j (by omega)]
    rcases y with y | y | ⟨y1, y2⟩ | ⟨d, hd, y1, y2⟩
    · exact Or.inl y
    · exact Or.inr (Or.inl y)
    · exact Or.inr (Or.inr (Or.inl ⟨y1, e5m j (by omega) y2⟩))
    · exact Or.inr (Or.inr (Or.inr ⟨d, hd, y1, by rw [hm d j (by omega) (by omega)]; exact y2⟩))
  have gi : i < 12 → mgr ν p i := fun hj => Or.inr (Or.inr (Or.inl ⟨by rw [k0 i hi]; exact h0, e5i⟩))
  have i0 : i ≠ 0 := by
    intro y; subst y
    rw [mof_n h5] at p6; omega
  refine ⟨⟨fun j hj hr => ?_, ?_, fun j hj w => ?_, fun c hc => ?_, ?_, ?_, ?_, ?_⟩, e5i, fun j => ?_, gm, gi⟩
  · rcases hr with ⟨d, hd, y⟩ | y | ⟨d, hd, y1, y2⟩
    · rw [e 18 (by omega)] at y; exact gm j (p2 j hj (Or.inl ⟨d, hd, y⟩)) hj
    · by_cases z : j = i
      · subst z; exact gi hj
      · rw [e5n j (by omega) z, e 6 (by omega)] at y; exact gm j (p2 j hj (Or.inr (Or.inl y))) hj
    · by_cases z : d = i
      · subst z; rw [hmt] at y2; omega
      · rw [e5n d (by omega) z] at y1
        rw [hm _ j (by omega) (by omega)] at y2
        exact gm j (p2 j hj (Or.inr (Or.inr ⟨d, hd, y1, y2⟩))) hj
  · intro d hd y
    rw [e 18 (by omega)] at y ⊢
    have rx := (hx (4 * p + d) (by omega)).1
    rw [e 20 (by omega)]
    rcases p3 d hd y with y | ⟨y1, y2⟩
    · exact Or.inl y
    · exact Or.inr ⟨by rw [k0 _ (by omega)]; exact y1, e5m _ (by omega) y2⟩
  · rw [k0 j hj]
    by_cases z : j = i
    · subst z
      rw [v0]
      exact ⟨fun y => ⟨by have := hk.1 y; omega, fun w => by omega, fun w => by omega⟩, hk.2⟩
    · rw [e5n j hj z] at w
      rw [(ec _ (by omega)).1 0 (by omega)]
      exact p4 j hj w
  · by_cases z : c = i
    · subst z
      rw [hoi]
      intro _ q q' h1 _
      rw [v1] at h1; omega
    · rw [ho c (by omega) z]
      exact ndis_c (ec _ (by unfold mof; split <;> omega)) (r8 _ (mof_lt hp (by omega))) (p5 c hc)
  · rw [ho 0 (by omega) (by omega), (ec _ (by unfold mof; split <;> omega)).1 0 (by omega)]; exact p6
  · intro d hd
    rw [e 20 (by omega)]
    have rx := (hx (4 * p + d) (by omega)).2.1
    exact ids_c (fun j hj => k0 j hj) (by omega) (p7 d hd)
  · intro d hd
    rw [e 18 (by omega)]
    have rx := (hx (4 * p + d) (by omega)).1
    intro h9
    obtain ⟨a, b⟩ := p8 d hd h9
    have hv : ∀ j, j < 15 → ¬ μ 0 (mof μ p j) = 0 → ν 0 (mof ν p j) = μ 0 (mof μ p j) := fun j hj y => by
      have : j ≠ i := by intro z; subst z; rw [mof_n h5] at y; exact y h0
      rw [ho j hj this, (ec _ (by unfold mof; split <;> omega)).1 0 (by omega)]
    refine ⟨fun y => ?_, fun y => ?_⟩
    · rw [hv _ (by omega) (by rw [a y]; omega)]; exact a y
    · rw [hv _ (by omega) (by rw [b y]; omega)]; exact b y
  · intro j hj y
    rw [e 6 (by omega)] at y
    rw [k0 j hj]
    refine ⟨(p9 j hj y).1, ?_⟩
    rcases (p9 j hj y).2 with z | z
    · exact Or.inl z
    · exact Or.inr (e5m j hj z)
  · refine sm_ext _ fun d hd => ?_
    by_cases z : d = i
    · subst z
      rw [hoi, hmt, mof_n h5, men_z (by omega)]
    · rw [ho d (by omega) z]
      exact hm _ j (mof_lt hp (by omega)) (by unfold mof; split <;> omega)
/-- a directory of its own that is empty goes -/
theorem iPr_fre {μ : mS} {p i : Nat} (hp : p < 6) (hi : i < 12) (hx : mRx μ) (r8 : mR8 μ) (i0 : i ≠ 0) (h5 : μ 5 (15 * p + i) = 1) (h0 : μ 0 (15 + 15 * p + i) = 2) (hci : ¬ μ 0 i = 1) (hm0 : μ 1 (15 + 15 * p + i) ≤ 0) (hP : iPr μ p) : iPr (mup μ 0 (15 + 15 * p + i) 0) p ∧ (∀ j, msE (mup μ 0 (15 + 15 * p + i) 0) (mof (mup μ 0 (15 + 15 * p + i) 0) p) j = msE μ (mof μ p) j) := by
  have e : ∀ a, a ≠ 0 → mup μ 0 (15 + 15 * p + i) 0 a = μ a := fun a ha => mup_other _ _ _ ha
  have e0 : ∀ c, c ≠ 15 + 15 * p + i → mup μ 0 (15 + 15 * p + i) 0 0 c = μ 0 c := fun c hc => by simp only [mup]; rw [if_neg (by omega)]
  have et : mup μ 0 (15 + 15 * p + i) 0 0 (15 + 15 * p + i) = 0 := mup_ss _ _ _ _
  generalize mup μ 0 (15 + 15 * p + i) 0 = ν at *
  obtain ⟨p2, p3, p4, p5, p6, p7, p8, p9⟩ := hP
  have ho : ∀ d, mof ν p d = mof μ p d := fun d => mof_c (by rw [e 5 (by omega)])
  have hm : ∀ c j, men ν c j = men μ c j := fun c j => by
    by_cases z : c = 15 + 15 * p + i
    · subst z
      rw [men_z (by rw [et]; omega)]
      unfold men
      rw [if_pos h0, show (μ 1 (15 + 15 * p + i)).toNat = 0 by omega]; rfl
    · unfold men; rw [e0 c z, e 1 (by omega), e 4 (by omega)]
  have k0 : ∀ c, c < 15 → ν 0 c = μ 0 c := fun c hc => e0 c (by omega)
  refine ⟨⟨fun j hj hr => ?_, ?_, fun j hj w => ?_, fun c hc => ?_, ?_, ?_, ?_, ?_⟩, fun j => sm_ext _ fun d hd => by rw [ho, hm]⟩
  · have hr2 : mref μ p j := by
      unfold mref at hr ⊢
      simp only [hm] at hr
      rw [e 18 (by omega), e 5 (by omega), e 6 (by omega)] at hr
      exact hr
    have := p2 j hj hr2
    unfold mgr at this ⊢
    simp only [hm]
    rw [e 20 (by omega), e 5 (by omega), e 6 (by omega), k0 j (by omega)]
    exact this
  · intro d hd y
    rw [e 18 (by omega)] at y ⊢
    have rx := (hx (4 * p + d) (by omega)).1
    rw [e 20 (by omega), e 5 (by omega), k0 _ (by omega)]
    exact p3 d hd y
  · rw [e 5 (by omega)] at w
    have := p4 j hj w
    rw [k0 j hj]
    by_cases z : j = i
    · subst z
      rw [et]
      exact ⟨fun _ => ⟨by omega, fun y => absurd y hci, fun _ => Or.inr rfl⟩, fun y => by omega⟩
    · rw [e0 _ (by omega)]; exact this
  · rw [ho]
    intro hz q q' h1 h2 h3
    rw [e 1 (by omega)] at h1 h2
    rw [e 3 (by omega)] at h3
    by_cases z : mof μ p c = 15 + 15 * p + i
    · rw [z, et] at hz; omega
    · rw [e0 _ z] at hz
      exact p5 c hc hz q q' h1 h2 h3
  · rw [ho, e0 _ (by unfold mof; split <;> omega)]; exact p6
  · intro d hd
    rw [e 20 (by omega)]
    have rx := (hx (4 * p + d) (by omega)).2.1
    exact ids_c (fun j hj => k0 j hj) (by omega) (p7 d hd)
  · intro d hd
    rw [e 18 (by omega)]
    have rx := (hx (4 * p + d) (by omega)).1
    intro h9
    obtain ⟨a, b⟩ := p8 d hd h9
    have hv : ∀ j, j < 15 → ¬ μ 0 (mof μ p j) = 2 → ν 0 (mof ν p j) = μ 0 (mof μ p j) := fun j hj y => by
      rw [ho]
      refine e0 _ fun z => ?_
      rw [z] at y; exact y h0
    refine ⟨fun y => ?_, fun y => ?_⟩
    · rw [hv _ (by omega) (by rw [a y]; omega)]; exact a y
    · rw [hv _ (by omega) (by rw [b y]; omega)]; exact b y
  · intro j hj y
    rw [e 6 (by omega)] at y
    rw [k0 j hj, e 5 (by omega)]
    exact p9 j hj y
