/-! the plain law (9): an entry goes -/
theorem mrem_e {μ : mS} {p h k0 : Nat} {n : Int} (hk : (k0 : Int) < μ 1 (15 + 15 * p + h)) (h3 : μ 3 (8 * (15 + 15 * p + h) + k0) = n) (hd : ndis μ (15 + 15 * p + h)) (h0 : μ 0 (15 + 15 * p + h) = 2) : mremove p h n μ = mup (mrmf (15 + 15 * p + h) k0 (μ 1 (15 + 15 * p + h)).toNat μ) 1 (15 + 15 * p + h) (μ 1 (15 + 15 * p + h) - 1) := by
  unfold mremove
  generalize 15 + 15 * p + h = c at *
  rw [mremk_1 (k0 := k0) (N := (μ 1 c).toNat) h3 (fun j hj hne q => hne (hd h0 j k0 (by omega) hk (q.trans h3.symm))) _ (Nat.le_refl _)]
  dsimp only
  rw [if_neg (by omega), show (((μ 1 c).toNat - 1 : Nat) : Int) = μ 1 c - 1 by omega]
/-- what is known of a removal -/
def mrm9 (μ ν : mS) (c k0 : Nat) : Prop := (∀ a, ¬ (a = 1 ∨ a = 3 ∨ a = 4) → ν a = μ a) ∧ (∀ c', c' ≠ c → csame μ ν c' c') ∧ ν 1 c = μ 1 c - 1 ∧ ∀ a k : Nat, a = 3 ∨ a = 4 → (k : Int) < μ 1 c - 1 → ν a (8 * c + k) = if k < k0 then μ a (8 * c + k) else μ a (8 * c + (k + 1))
theorem mrm9_of {μ : mS} {c k0 : Nat} (h8 : μ 1 c ≤ 8) (hk : (k0 : Int) < μ 1 c) : mrm9 μ (mup (mrmf c k0 (μ 1 c).toNat μ) 1 c (μ 1 c - 1)) c k0 := by
  refine ⟨fun a ha => ?_, fun c' hc => ⟨fun a ha => ?_, fun a k ha hk2 => ?_⟩, mup_ss _ _ _ _, fun a k ha hk2 => ?_⟩
  · rw [mup_other _ _ _ (by omega)]; funext j; exact if_neg (by omega)
  · simp only [mup]; rw [if_neg (by omega)]; exact if_neg (by omega)
  · simp only [mup]; rw [if_neg (by omega)]; exact if_neg (by omega)
  · simp only [mup]; rw [if_neg (by omega)]
    by_cases z : k < k0
    · rw [if_pos z]; exact if_neg (by omega)
    · rw [if_neg z]
      show (if _ then _ else _) = _
      rw [if_pos (by omega), show 8 * c + k + 1 = 8 * c + (k + 1) by omega]
theorem men_rem {μ ν : mS} {c k0 j : Nat} (h : mrm9 μ ν c k0) (h0 : μ 0 c = 2) (hk : (k0 : Int) < μ 1 c) : men ν c j = men μ c j - (if μ 4 (8 * c + k0) = (j : Int) then 1 else 0) := by
  obtain ⟨e, -, m1, m4⟩ := h
  unfold men
  rw [e 0 (by omega), if_pos h0, if_pos h0, m1]
  have : (μ 1 c).toNat = (μ 1 c - 1).toNat + 1 := by omega
  rw [this, cnt_ext (T := fun k => if k < k0 then decide (μ 4 (8 * c + k) = (j : Int)) else decide (μ 4 (8 * c + (k + 1)) = (j : Int))) _ (fun k hk2 => by rw [m4 4 k (by omega) (by omega)]; split <;> rfl)]
  rw [cnt_shift (S := fun k => decide (μ 4 (8 * c + k) = (j : Int))) (k0 := k0) _ (by omega)]
  by_cases z : μ 4 (8 * c + k0) = (j : Int)
  · rw [if_pos z, decide_eq_true z]; rfl
  · rw [if_neg z, decide_eq_false z]; rfl
theorem msE_rem {μ ν : mS} {p h k0 j : Nat} (hp : p < 6) (hh : h < 12) (hw : ¬ μ 5 (15 * p + h) = 0) (hm : mrm9 μ ν (15 + 15 * p + h) k0) (h0 : μ 0 (15 + 15 * p + h) = 2) (hk : (k0 : Int) < μ 1 (15 + 15 * p + h)) (r8 : mR8 μ) : msE ν (mof ν p) j = msE μ (mof μ p) j - (if μ 4 (8 * (15 + 15 * p + h) + k0) = (j : Int) then 1 else 0) := by
  have ho : ∀ d, mof ν p d = mof μ p d := fun d => mof_c (by rw [hm.1 5 (by omega)])
  have := sm_up (f := fun d => men μ (mof μ p d) j) (g := fun d => men ν (mof ν p d) j) (j := h) (v := - (if μ 4 (8 * (15 + 15 * p + h) + k0) = (j : Int) then 1 else 0)) 12 hh (fun k hk2 hkh => ?_) ?_
  · unfold msE; rw [this]; omega
  · rw [ho]
    exact men_c (hm.2.1 _ (by unfold mof; split <;> omega)) (r8 _ (mof_lt hp (by omega)))
  · rw [ho, mof_w hw, men_rem hm h0 hk]; omega
theorem iPr_rem {μ ν : mS} {p h k0 : Nat} (hp : p < 6) (hh : h < 12) (hw : ¬ μ 5 (15 * p + h) = 0) (hm : mrm9 μ ν (15 + 15 * p + h) k0) (h0 : μ 0 (15 + 15 * p + h) = 2) (hk : (k0 : Int) < μ 1 (15 + 15 * p + h)) (r8 : mR8 μ) (hP : iPr μ p) : iPr ν p := by
  obtain ⟨p2, p3, p4, p5, p6, p7, p8, p9⟩ := hP
  have em := fun j => men_rem (j := j) hm h0 hk
  obtain ⟨e, ec, m1, m3⟩ := hm
  have ho : ∀ d, mof ν p d = mof μ p d := fun d => mof_c (by rw [e 5 (by omega)])
  have hm : ∀ c j, c < 105 → c ≠ 15 + 15 * p + h → men ν c j = men μ c j := fun c j hc hn => men_c (ec c hn) (r8 c hc)
  have gm : ∀ j, j < 12 → mgr μ p j → mgr ν p j := fun j hj y => by
    unfold mgr at y ⊢
    rw [e 20 (by omega), e 6 (by omega), e 0 (by omega), e 5 (by omega)]
    rcases y with y | y | y | ⟨d, hd, y1, y2⟩
    · exact Or.inl y
    · exact Or.inr (Or.inl y)
    · exact Or.inr (Or.inr (Or.inl y))
    · exact Or.inr (Or.inr (Or.inr ⟨d, hd, y1, by rw [hm d j (by omega) (by omega)]; exact y2⟩))
  refine ⟨fun j hj hr => ?_, ?_, ?_, fun c hc => ?_, ?_, ?_, ?_, ?_⟩
  · rcases hr with ⟨d, hd, y⟩ | y | ⟨d, hd, y1, y2⟩
    · rw [e 18 (by omega)] at y; exact gm j hj (p2 j hj (Or.inl ⟨d, hd, y⟩))
    · rw [e 5 (by omega), e 6 (by omega)] at y; exact gm j hj (p2 j hj (Or.inr (Or.inl y)))
    · rw [e 5 (by omega)] at y1
      by_cases z : d = h
      · subst z
        rw [em j] at y2
        refine gm j hj (p2 j hj (Or.inr (Or.inr ⟨d, hd, y1, ?_⟩)))
        split at y2 <;> omega
      · rw [hm _ j (by omega) (by omega)] at y2
        exact gm j hj (p2 j hj (Or.inr (Or.inr ⟨d, hd, y1, y2⟩)))
  · rw [e 18 (by omega), e 20 (by omega), e 0 (by omega), e 5 (by omega)]; exact p3
  · unfold icp at p4 ⊢
    rw [e 0 (by omega), e 5 (by omega)]; exact p4
  · rw [ho]
    by_cases z : c = h
    · subst z
      rw [mof_w hw]
      intro _ k k' h1 h2 h3
      rw [m1] at h1 h2
      rw [m3 3 k (by omega) h1, m3 3 k' (by omega) h2] at h3
      have d9 := p5 c hc
      rw [mof_w hw] at d9
      by_cases z1 : k < k0
      · by_cases z2 : k' < k0
        · rw [if_pos z1, if_pos z2] at h3
          exact d9 h0 k k' (by omega) (by omega) h3
        · rw [if_pos z1, if_neg z2] at h3
          have := d9 h0 k (k' + 1) (by omega) (by omega) h3
          omega
      · by_cases z2 : k' < k0
        · rw [if_neg z1, if_pos z2] at h3
          have := d9 h0 (k + 1) k' (by omega) (by omega) h3
          omega
        · rw [if_neg z1, if_neg z2] at h3
          have := d9 h0 (k + 1) (k' + 1) (by omega) (by omega) h3
          omega
    · exact ndis_c (ec _ (by unfold mof; split <;> omega)) (r8 _ (mof_lt hp (by omega))) (p5 c hc)
  · rw [ho, e 0 (by omega)]; exact p6
  · intro d hd
    rw [e 20 (by omega)]
    have := p7 d hd
    unfold ids at this ⊢
    rw [e 0 (by omega)]; exact this
  · intro d hd
    rw [e 18 (by omega)]
    have := p8 d hd
    unfold ids at this ⊢
    rw [e 0 (by omega), ho, ho]; exact this
  · rw [e 6 (by omega), e 0 (by omega), e 5 (by omega)]; exact p9
/-- links, values, sizes of what is no directory; places -/
theorem iPr_c {μ ν : mS} {p : Nat} (hp : p < 6) (r8 : mR8 μ) (e : ∀ a, a = 0 ∨ a = 5 ∨ a = 6 ∨ a = 18 ∨ a = 20 → ν a = μ a) (es : ∀ c, c < 105 → μ 0 c = 2 → csame μ ν c c ∨ (ν 1 c = μ 1 c ∧ ∀ a k, a = 3 ∨ a = 4 → k < 8 → ν a (8 * c + k) = μ a (8 * c + k))) (hP : iPr μ p) : iPr ν p := by
  obtain ⟨p2, p3, p4, p5, p6, p7, p8, p9⟩ := hP
  have ho : ∀ d, mof ν p d = mof μ p d := fun d => mof_c (by rw [e 5 (by omega)])
  have es' : ∀ c, c < 105 → μ 0 c = 2 → ν 1 c = μ 1 c ∧ ∀ a k, a = 3 ∨ a = 4 → k < 8 → ν a (8 * c + k) = μ a (8 * c + k) := fun c hc h0 => by
    rcases es c hc h0 with y | y
    · exact ⟨y.1 1 (by omega), y.2⟩
    · exact y
  have hm : ∀ c j, c < 105 → men ν c j = men μ c j := fun c j hc => by
    unfold men
    rw [e 0 (by omega)]
    by_cases z : μ 0 c = 2
    · obtain ⟨y1, y2⟩ := es' c hc z
      have := r8 c hc
      rw [if_pos z, if_pos z, y1]
      exact cnt_ext _ fun k hk => by rw [y2 4 k (by omega) (by omega)]
    · rw [if_neg z, if_neg z]
  refine ⟨fun j hj hr => ?_, ?_, ?_, fun c hc => ?_, ?_, ?_, ?_, ?_⟩
  · have hr2 : mref μ p j := by
      rcases hr with ⟨d, hd, y⟩ | y | ⟨d, hd, y1, y2⟩
      · rw [e 18 (by omega)] at y; exact Or.inl ⟨d, hd, y⟩
      · rw [e 5 (by omega), e 6 (by omega)] at y; exact Or.inr (Or.inl y)
      · rw [e 5 (by omega)] at y1
        rw [hm _ j (by omega)] at y2
        exact Or.inr (Or.inr ⟨d, hd, y1, y2⟩)
    have := p2 j hj hr2
    unfold mgr at this ⊢
    rw [e 20 (by omega), e 6 (by omega), e 0 (by omega), e 5 (by omega)]
    rcases this with y | y | y | ⟨d, hd, y1, y2⟩
    · exact Or.inl y
    · exact Or.inr (Or.inl y)
    · exact Or.inr (Or.inr (Or.inl y))
    · exact Or.inr (Or.inr (Or.inr ⟨d, hd, y1, by rw [hm d j (by omega)]; exact y2⟩))
  · rw [e 18 (by omega), e 20 (by omega), e 0 (by omega), e 5 (by omega)]; exact p3
  · unfold icp at p4 ⊢
    rw [e 0 (by omega), e 5 (by omega)]; exact p4
  · rw [ho]
    intro h0 k k' h1 h2 h3
    rw [e 0 (by omega)] at h0
    have hl : mof μ p c < 105 := mof_lt hp (by omega)
    obtain ⟨y1, y2⟩ := es' _ hl h0
    have := r8 _ hl
    rw [y1] at h1 h2
    rw [y2 3 k (by omega) (by omega), y2 3 k' (by omega) (by omega)] at h3
    exact p5 c hc h0 k k' h1 h2 h3
  · rw [ho, e 0 (by omega)]; exact p6
  · intro d hd
    rw [e 20 (by omega)]
    have := p7 d hd
    unfold ids at this ⊢
    rw [e 0 (by omega)]; exact this
  · intro d hd
    rw [e 18 (by omega)]
    have := p8 d hd
    unfold ids at this ⊢
    rw [e 0 (by omega), ho, ho]; exact this
  · rw [e 6 (by omega), e 0 (by omega), e 5 (by omega)]; exact p9
