/-! the plain law (8): entries come and go -/
theorem cnt_shift {S : Nat → Bool} {k0 : Nat} : ∀ n : Nat, k0 ≤ n → cnt (fun k => if k < k0 then S k else S (k + 1)) n = cnt S (n + 1) - b2i (S k0) := by
  intro n
  induction n with
  | zero =>
    intro h
    have : k0 = 0 := by omega
    subst this
    show (0 : Int) = 0 + b2i (S 0) - b2i (S 0)
    omega
  | succ n ih =>
    intro h
    show cnt (fun k => if k < k0 then S k else S (k + 1)) n + b2i (if n < k0 then S n else S (n + 1)) = cnt S (n + 1) + b2i (S (n + 1)) - b2i (S k0)
    by_cases z : k0 ≤ n
    · rw [ih z, if_neg (by omega)]; omega
    · have : k0 = n + 1 := by omega
      subst this
      rw [if_pos (by omega), cnt_ext (T := S) n (fun k hk => if_pos (by omega))]
      show cnt S n + b2i (S n) = cnt S n + b2i (S n) + b2i (S (n + 1)) - b2i (S (n + 1))
      omega
theorem mapp_c {μ : mS} {p h : Nat} {n v : Int} {c : Nat} (hc : c ≠ 15 + 15 * p + h) (h8 : 0 ≤ μ 1 (15 + 15 * p + h) ∧ μ 1 (15 + 15 * p + h) < 8) : csame μ (mappend p h n v μ) c c := by
  refine ⟨fun a ha => ?_, fun a k ha hk => ?_⟩
  · simp only [mappend, mup]; rw [if_neg (by omega), if_neg (by omega), if_neg (by omega)]
  · simp only [mappend, mup]; rw [if_neg (by omega), if_neg (by omega), if_neg (by omega)]
theorem mapp_o {μ : mS} {p h a : Nat} {n v : Int} (ha : ¬ (a = 1 ∨ a = 3 ∨ a = 4)) : mappend p h n v μ a = μ a := by
  unfold mappend
  rw [mup_other _ _ _ (by omega), mup_other _ _ _ (by omega), mup_other _ _ _ (by omega)]
theorem men_app {μ : mS} {p h j : Nat} {n v : Int} (h0 : μ 0 (15 + 15 * p + h) = 2) (h8 : 0 ≤ μ 1 (15 + 15 * p + h) ∧ μ 1 (15 + 15 * p + h) < 8) : men (mappend p h n v μ) (15 + 15 * p + h) j = men μ (15 + 15 * p + h) j + (if v = (j : Int) then 1 else 0) := by
  generalize hc : 15 + 15 * p + h = c at *
  have m1 : mappend p h n v μ 1 c = μ 1 c + 1 := by simp [mappend, mup, hc]
  have m4 : ∀ k : Nat, k < 8 → mappend p h n v μ 4 (8 * c + k) = if k = (μ 1 c).toNat then v else μ 4 (8 * c + k) := fun k hk => by
    simp only [mappend, hc, mup]; grind
  unfold men
  rw [mapp_o (by omega), if_pos h0, if_pos h0, m1, show (μ 1 c + 1).toNat = (μ 1 c).toNat + 1 by omega]
  show cnt _ (μ 1 c).toNat + b2i (decide (mappend p h n v μ 4 (8 * c + (μ 1 c).toNat) = (j : Int))) = _
  rw [m4 _ (by omega), if_pos rfl, cnt_ext (T := fun k => decide (μ 4 (8 * c + k) = (j : Int))) _ (fun k hk => by rw [m4 k (by omega), if_neg (by omega)])]
  by_cases z : v = (j : Int)
  · rw [if_pos z, decide_eq_true z]; rfl
  · rw [if_neg z, decide_eq_false z]; rfl
/-- the sum of the names of j -/
def msE (μ : mS) (v : Nat → Nat) (j : Nat) : Int := sm (fun d => men μ (v d) j) 12
theorem msE_app {μ : mS} {p h j : Nat} {n v : Int} (hp : p < 6) (hh : h < 12) (hw : ¬ μ 5 (15 * p + h) = 0) (h0 : μ 0 (15 + 15 * p + h) = 2) (h8 : 0 ≤ μ 1 (15 + 15 * p + h) ∧ μ 1 (15 + 15 * p + h) < 8) (r8 : mR8 μ) : msE (mappend p h n v μ) (mof (mappend p h n v μ) p) j = msE μ (mof μ p) j + (if v = (j : Int) then 1 else 0) := by
  have ho : ∀ d, mof (mappend p h n v μ) p d = mof μ p d := fun d => mof_c (by rw [mapp_o (by omega)])
  refine sm_up (j := h) 12 hh (fun k hk hkh => ?_) ?_
  · rw [ho]
    exact men_c (mapp_c (by unfold mof; split <;> omega) h8) (r8 _ (mof_lt hp (by omega)))
  · rw [ho, mof_w hw]; exact men_app h0 h8
/-- one changes its own: all but the balance -/
theorem iPr_app {μ : mS} {p h i : Nat} {n : Int} (hp : p < 6) (hh : h < 12) (hi : i < 12) (hw : ¬ μ 5 (15 * p + h) = 0) (h0 : μ 0 (15 + 15 * p + h) = 2) (h8 : 0 ≤ μ 1 (15 + 15 * p + h) ∧ μ 1 (15 + 15 * p + h) < 8) (r8 : mR8 μ) (hn : ∀ k : Nat, (k : Int) < μ 1 (15 + 15 * p + h) → ¬ μ 3 (8 * (15 + 15 * p + h) + k) = n) (hg : mgr μ p i) (hP : iPr μ p) : iPr (mappend p h n i μ) p := by
  obtain ⟨p2, p3, p4, p5, p6, p7, p8, p9⟩ := hP
  have e := fun a (ha : ¬ (a = 1 ∨ a = 3 ∨ a = 4)) => mapp_o (μ := μ) (p := p) (h := h) (n := n) (v := (i : Int)) ha
  have ec := fun c (hc : c ≠ 15 + 15 * p + h) => mapp_c (n := n) (v := (i : Int)) hc h8
  have em := fun j => men_app (j := j) (n := n) (v := (i : Int)) h0 h8
  have m1 : mappend p h n i μ 1 (15 + 15 * p + h) = μ 1 (15 + 15 * p + h) + 1 := by simp [mappend, mup]
  have m3 : ∀ k : Nat, k < 8 → mappend p h n i μ 3 (8 * (15 + 15 * p + h) + k) = if k = (μ 1 (15 + 15 * p + h)).toNat then n else μ 3 (8 * (15 + 15 * p + h) + k) := fun k hk => by
    simp only [mappend, mup]; grind
  generalize mappend p h n i μ = ν at *
  have ho : ∀ d, mof ν p d = mof μ p d := fun d => mof_c (by rw [e 5 (by omega)])
  have hm : ∀ c j, c < 105 → c ≠ 15 + 15 * p + h → men ν c j = men μ c j := fun c j hc hn => men_c (ec c hn) (r8 c hc)
  have gm : ∀ j, j < 12 → mgr μ p j → mgr ν p j := fun j hj y => by
    unfold mgr at y ⊢
    rw [e 20 (by omega), e 6 (by omega), e 0 (by omega), e 5 (by omega)]
    rcases y with y | y | y | ⟨d, hd, y1, y2⟩
    · exact Or.inl y
    · exact Or.inr (Or.inl y)
    · exact Or.inr (Or.inr (Or.inl y))
    · exact Or.inr (Or.inr (Or.inr ⟨d, hd, y1, by rw [hm d j (by omega) (by omega)]; exact y2⟩))
  refine ⟨fun j hj hr => ?_, ?_, ?_, fun c hc => ?_, ?_, ?_, ?_, ?_⟩
  · rcases hr with ⟨d, hd, y⟩ | y | ⟨d, hd, y1, y2⟩
    · rw [e 18 (by omega)] at y; exact gm j hj (p2 j hj (Or.inl ⟨d, hd, y⟩))
    · rw [e 5 (by omega), e 6 (by omega)] at y; exact gm j hj (p2 j hj (Or.inr (Or.inl y)))
    · rw [e 5 (by omega)] at y1
      by_cases z : d = h
      · subst z
        rw [em j] at y2
        by_cases w : (i : Int) = (j : Int)
        · have : i = j := by omega
          subst this
          exact gm i hi hg
        · rw [if_neg w] at y2
          exact gm j hj (p2 j hj (Or.inr (Or.inr ⟨d, hd, y1, by omega⟩)))
      · rw [hm _ j (by omega) (by omega)] at y2
        exact gm j hj (p2 j hj (Or.inr (Or.inr ⟨d, hd, y1, y2⟩)))
  · rw [e 18 (by omega), e 20 (by omega), e 0 (by omega), e 5 (by omega)]; exact p3
  · unfold icp at p4 ⊢
    rw [e 0 (by omega), e 5 (by omega)]; exact p4
  · rw [ho]
    by_cases z : c = h
    · subst z
      rw [mof_w hw]
      intro _ k k' h1 h2 h3
      rw [m1] at h1 h2
      rw [m3 k (by omega), m3 k' (by omega)] at h3
      have d9 := p5 c hc
      rw [mof_w hw] at d9
      by_cases z1 : k = (μ 1 (15 + 15 * p + c)).toNat
      · by_cases z2 : k' = (μ 1 (15 + 15 * p + c)).toNat
        · omega
        · rw [if_pos z1, if_neg z2] at h3
          exact absurd h3.symm (hn k' (by omega))
      · by_cases z2 : k' = (μ 1 (15 + 15 * p + c)).toNat
        · rw [if_neg z1, if_pos z2] at h3
          exact absurd h3 (hn k (by omega))
        · rw [if_neg z1, if_neg z2] at h3
          exact d9 h0 k k' (by omega) (by omega) h3
    · exact ndis_c (ec _ (by unfold mof; split <;> omega)) (r8 _ (mof_lt hp (by omega))) (p5 c hc)
  · rw [ho, e 0 (by omega)]; exact p6
  · intro d hd
    rw [e 20 (by omega)]
    have := p7 d hd
    unfold ids at this ⊢
    rw [e 0 (by omega)]; exact this
  · intro d hd
    rw [e 18 (by omega)]
    have := p8 d hd
    unfold ids at this ⊢
    rw [e 0 (by omega), ho, ho]; exact this
  · rw [e 6 (by omega), e 0 (by omega), e 5 (by omega)]; exact p9
