/-! the plain law: meeting first, writing later -/
section KG
variable {G : gG} {n m n' m' fr rc rs : Nat} {A A' A0 : kA} {X X' : kX} {σ σ' σ0 σ2 : gS} {μ μ' ν : mS} {Q Q' Q0 : gO → gS → Prop}
theorem mabsk_id {S : Nat → Bool} (h : ∀ q, q < 6 → S q = false) : mabsk S 6 μ = μ := by
  have hc : cnt S 6 = 0 := cnt_no 6 h
  have hs : ∀ x, ¬ (x < 6 ∧ S x = true) := fun x y => by rw [h x y.1] at y; exact absurd y.2 (by decide)
  funext a j
  unfold mabsk
  rw [hc, Int.add_zero]
  by_cases z : a = 22 ∧ j = 3
  · rw [if_pos z, z.1, z.2]
  · rw [if_neg z, if_neg (fun y => hs _ y.2), if_neg (fun y => hs _ y.2), if_neg (fun y => hs _ y.2), if_neg (fun y => hs _ y.2), if_neg (fun y => hs _ y.2)]
/-- a copy is made -/
def cpw (p i : Nat) (μ : mS) : mS := mcopy i (15 + 15 * p + i) (mup (mup μ 5 (15 * p + i) 1) 7 i 1)
/-- a copy is made, if there is none -/
def mdw (p i : Nat) (μ : mS) : mS := if μ 5 (15 * p + i) = 0 then cpw p i μ else μ
theorem cpw_v {p i : Nat} : (∀ a, 5 < a → a ≠ 7 → cpw p i μ a = μ a) ∧ (∀ j, cpw p i μ 5 j = if j = 15 * p + i then 1 else μ 5 j) ∧ (∀ j, cpw p i μ 7 j = if j = i then 1 else μ 7 j) ∧ (∀ c, c ≠ 15 + 15 * p + i → csame μ (cpw p i μ) c c) ∧ (i ≠ 15 + 15 * p + i → csame μ (cpw p i μ) i (15 + 15 * p + i)) := by
  have e : ∀ a j, ¬ (a = 5 ∧ j = 15 * p + i) → ¬ (a = 7 ∧ j = i) → mup (mup μ 5 (15 * p + i) 1) 7 i 1 a j = μ a j := fun a j h1 h2 => by simp only [mup]; rw [if_neg h2, if_neg h1]
  have ce := mcopy_e (μ := mup (mup μ 5 (15 * p + i) 1) 7 i 1) (f := i) (t := 15 + 15 * p + i)
  refine ⟨fun a h1 h2 => ?_, fun j => ?_, fun j => ?_, fun c hc => ⟨fun a ha => ?_, fun a k ha hk => ?_⟩, fun hc => ⟨fun a ha => ?_, fun a k ha hk => ?_⟩⟩
  · funext j
    unfold cpw
    rw [ce a j (by omega) (by omega), e a j (by omega) (by omega)]
  · unfold cpw
    rw [ce 5 j (by omega) (by omega)]
    simp only [mup]; simp
  · unfold cpw
    rw [ce 7 j (by omega) (by omega)]
    simp only [mup]; simp
  · unfold cpw
    rw [ce a c (by omega) (by omega), e a c (by omega) (by omega)]
  · unfold cpw
    rw [ce a _ (by omega) (by omega), e a _ (by omega) (by omega)]
  · unfold cpw mcopy mcopyk
    rw [if_pos ⟨ha, rfl⟩, e a i (by omega) (by omega)]
  · unfold cpw
    rw [mcopy_v ha hk, e a _ (by omega) (by omega)]
theorem mdw_v {p i : Nat} : (∀ a, 5 < a → a ≠ 7 → mdw p i μ a = μ a) ∧ (∀ j, j ≠ 15 * p + i → mdw p i μ 5 j = μ 5 j) ∧ (∀ c, ¬ (c = 15 + 15 * p + i ∧ μ 5 (15 * p + i) = 0) → csame μ (mdw p i μ) c c) := by
  obtain ⟨v1, v2, v3, v4, v5⟩ := cpw_v (μ := μ) (p := p) (i := i)
  unfold mdw
  by_cases z : μ 5 (15 * p + i) = 0
  · rw [if_pos z]
    exact ⟨v1, fun j hj => by rw [v2, if_neg hj], fun c hc => v4 c (fun y => hc ⟨y, z⟩)⟩
  · rw [if_neg z]
    exact ⟨fun _ _ _ => rfl, fun _ _ => rfl, fun _ _ => csame_refl⟩
theorem mdw_5 {p i : Nat} (hB : kB μ) : mdw p i μ 5 (15 * p + i) = 1 := by
  obtain ⟨v1, v2, v3, v4, v5⟩ := cpw_v (μ := μ) (p := p) (i := i)
  unfold mdw
  rcases (hB (15 * p + i)).1 with z | z
  · rw [if_pos z, v2, if_pos rfl]
  · rw [if_neg (by omega)]; exact z
/-- others give way, copies are made: the order doesn't matter -/
theorem mabsk_dw {S : Nat → Bool} {p i : Nat} (hi : i < 15) (hS : S p = false) : mabsk S 6 (mdw p i μ) = mdw p i (mabsk S 6 μ) := by
  have e15 : (15 * p + i) / 15 = p := by omega
  have e5 : mabsk S 6 μ 5 (15 * p + i) = μ 5 (15 * p + i) := by simp [mabsk, e15, hS]
  unfold mdw
  rw [e5]
  by_cases z : μ 5 (15 * p + i) = 0
  · rw [if_pos z, if_pos z]
    obtain ⟨v1, v2, v3, v4, v5⟩ := cpw_v (μ := μ) (p := p) (i := i)
    funext a j
    by_cases a4 : a ≤ 4
    · have l : mabsk S 6 (cpw p i μ) a j = cpw p i μ a j := by
        unfold mabsk
        rw [if_neg (by omega), if_neg (by omega), if_neg (by omega), if_neg (by omega), if_neg (by omega), if_neg (by omega)]
      have r : ∀ b j, b ≤ 4 → mup (mup (mabsk S 6 μ) 5 (15 * p + i) 1) 7 i 1 b j = mup (mup μ 5 (15 * p + i) 1) 7 i 1 b j := fun b j hb => by
        rw [mup_other _ _ _ (show b ≠ 7 by omega), mup_other _ _ _ (show b ≠ 5 by omega), mup_other _ _ _ (show b ≠ 7 by omega), mup_other _ _ _ (show b ≠ 5 by omega)]
        unfold mabsk
        rw [if_neg (by omega), if_neg (by omega), if_neg (by omega), if_neg (by omega), if_neg (by omega), if_neg (by omega)]
      rw [l]
      unfold cpw mcopy mcopyk
      rw [r a j a4, r a i a4, r a (8 * i + (j - 8 * (15 + 15 * p + i))) a4]
    · obtain ⟨w1, w2, w3, w4, w5⟩ := cpw_v (μ := mabsk S 6 μ) (p := p) (i := i)
      have m5 : ∀ (x : mS) j, mabsk S 6 x 5 j = if j / 15 < 6 ∧ S (j / 15) = true then 0 else x 5 j := fun x j => by
        unfold mabsk
        rw [if_neg (by omega), if_neg (by omega), if_neg (by omega)]
        by_cases w : j / 15 < 6 ∧ S (j / 15) = true
        · rw [if_pos ⟨Or.inl rfl, w⟩, if_pos w]
        · rw [if_neg (fun t => w t.2), if_neg (by omega), if_neg (by omega), if_neg w]
      have m7 : ∀ (x : mS) j, mabsk S 6 x 7 j = x 7 j := fun x j => by
        unfold mabsk
        rw [if_neg (by omega), if_neg (by omega), if_neg (by omega), if_neg (by omega), if_neg (by omega), if_neg (by omega)]
      by_cases a5 : a = 5
      · subst a5
        rw [m5, w2, m5, v2]
        by_cases y : j = 15 * p + i
        · subst y
          rw [if_pos rfl, if_pos rfl, e15, hS]
          simp
        · rw [if_neg y, if_neg y]
      · by_cases a7 : a = 7
        · subst a7
          rw [m7, w3, m7, v3]
        · rw [w1 a (by omega) a7]
          unfold mabsk
          rw [v1 22 (by omega) (by omega), v1 20 (by omega) (by omega), v1 21 (by omega) (by omega), v1 a (by omega) a7]
  · rw [if_neg z, if_neg z]
theorem mcf_dw {p h i : Nat} {w : Int} (hh : h < 15) (hi : i < 15) : mcf (mdw p h μ) p i w = mcf μ p i w := by
  obtain ⟨v1, v2, v3⟩ := mdw_v (μ := μ) (p := p) (i := h)
  funext q
  by_cases z : q = p
  · rw [mcf_f (Or.inl z), mcf_f (Or.inl z)]
  · unfold mcf
    rw [v1 9 (by omega) (by omega), v1 6 (by omega) (by omega), v2 (15 * q + i) (by omega)]
theorem mold_dw {p h i : Nat} {w : Int} (hh : h < 15) (hi : i < 15) : mold (mdw p h μ) p i w = mold μ p i w := by
  unfold mold
  rw [mcf_dw hh hi, (mdw_v (μ := μ) (p := p) (i := h)).1 12 (by omega) (by omega)]
/-- once met, met -/
theorem mcf_3 {S : Nat → Bool} {p h : Nat} {w : Int} {q : Nat} (hh : h < 15) (h0 : mcf μ p h w q = false) : mcf (mabsk S 6 μ) p h w q = false := by
  have e15 : (15 * q + h) / 15 = q := by omega
  by_cases z : q < 6 ∧ S q = true
  · have : mabsk S 6 μ 9 q = 0 := by simp [mabsk, z.1, z.2]
    exact mcf_f (Or.inr (Or.inl (by rw [this]; decide)))
  · have e9 : mabsk S 6 μ 9 q = μ 9 q := by
      unfold mabsk
      rw [if_neg (by omega), if_neg (by omega), if_neg (by omega), if_neg (by omega), if_neg (fun y => z y.2), if_neg (by omega)]
    have e5 : ∀ a, a = 5 ∨ a = 6 → mabsk S 6 μ a (15 * q + h) = μ a (15 * q + h) := fun a ha => by
      unfold mabsk
      rw [if_neg (by omega), if_neg (by omega), if_neg (by omega), if_neg (fun y => z (by rw [e15] at y; exact y.2)), if_neg (by omega), if_neg (by omega)]
    unfold mcf at h0 ⊢
    rw [e9, e5 5 (Or.inl rfl), e5 6 (Or.inr rfl)]
    exact h0
theorem mold_no {p i : Nat} {w : Int} (h : ∀ q, q < 6 → mcf μ p i w q = false) : mold μ p i w = false := mold_f (fun q hq y => by rw [h q hq] at y; cases y)
/-- nobody to be met -/
theorem mwr_n {p i : Nat} (h : ∀ q, q < 6 → mcf μ p i 1 q = false) : mwrites p i μ = (true, mdw p i μ) := by
  unfold mwrites mdw cpw
  have e1 : mmeet p i 1 μ = (true, μ) := by
    unfold mmeet
    rw [mold_no h, if_neg (by decide), mabsk_id h]
  rw [e1]
  split
  · rw [if_pos rfl]
  · rfl
theorem mwr_f {p i : Nat} {c : Int} (hp : p < 6) (hi : i < 15) (h : kIn p c μ) (hc : c ≤ 800000) (ho : mold μ p i 1 = true) : mwrites p i μ = (false, mup (mabort p μ) 26 0 2) := by
  obtain ⟨d1, d2, d3, d4, d5, d6⟩ := kNeed_of hp h hc
  have z : μ 5 (15 * p + i) = 0 := by
    rcases (h.2.2.2.1 (15 * p + i)).1 with y | y
    · exact y
    · rw [mold_no (d5 i 1 hi (Or.inr rfl) y)] at ho; cases ho
  unfold mwrites mmeet
  rw [if_pos z, if_pos ho, if_neg (by simp)]
theorem mwr_t {p i : Nat} {c : Int} (hp : p < 6) (hi : i < 15) (h : kIn p c μ) (hc : c ≤ 800000) (ho : mold μ p i 1 = false) : mwrites p i μ = (true, mdw p i (mabsk (mcf μ p i 1) 6 μ)) := by
  obtain ⟨d1, d2, d3, d4, d5, d6⟩ := kNeed_of hp h hc
  have e15 : (15 * p + i) / 15 = p := by omega
  have sp : mcf μ p i 1 p = false := mcf_f (Or.inl rfl)
  have e5 : mabsk (mcf μ p i 1) 6 μ 5 (15 * p + i) = μ 5 (15 * p + i) := by simp [mabsk, e15, sp]
  unfold mwrites mdw
  rw [e5]
  rcases (h.2.2.2.1 (15 * p + i)).1 with y | y
  · have em : mmeet p i 1 μ = (true, mabsk (mcf μ p i 1) 6 μ) := by unfold mmeet; rw [if_neg (by rw [ho]; simp)]
    rw [if_pos y, if_pos y, em, if_pos rfl]
    rfl
  · rw [if_neg (by omega), if_neg (by omega), mabsk_id (d5 i 1 hi (Or.inr rfl) y)]
/-- copies for a call that fails -/
theorem wr9_dw {p i : Nat} (hi : i < 15) (h : wr9 p μ ν) : wr9 p μ (mdw p i ν) := by
  obtain ⟨w1, w2, w3, w4⟩ := h
  unfold mdw
  by_cases z : ν 5 (15 * p + i) = 0
  · rw [if_pos z]
    obtain ⟨v1, v2, v3, v4, v5⟩ := cpw_v (μ := ν) (p := p) (i := i)
    have h5 : ν 7 i = 1 ∨ μ 5 (15 * p + i) = 0 := by
      rcases w3 (15 * p + i) with y | ⟨i', y1, y2, y3⟩
      · exact Or.inr (by rw [← y]; exact z)
      · have : i' = i := by omega
        rw [this] at y3; exact Or.inl y3
    have h50 : μ 5 (15 * p + i) = 0 := by
      rcases h5 with y | y
      · exact (w4 i hi).2 y
      · exact y
    refine ⟨fun a h1 h2 => by rw [v1 a h1 h2]; exact w1 a h1 h2, fun c hc hd => ?_, fun j => ?_, fun i' hi' => ?_⟩
    · refine csame_trans (w2 c hc hd) (v4 c (fun y => hd ⟨by omega, by omega, ?_⟩))
      rw [y, show 15 + 15 * p + i - 15 = 15 * p + i by omega]; exact h50
    · rw [v2]
      by_cases y : j = 15 * p + i
      · exact Or.inr ⟨i, hi, y, by rw [v3, if_pos rfl]⟩
      · rw [if_neg y]
        rcases w3 j with t | ⟨i', y1, y2, y3⟩
        · exact Or.inl t
        · refine Or.inr ⟨i', y1, y2, ?_⟩
          rw [v3]; split
          · rfl
          · exact y3
    · rw [v3]
      by_cases y : i' = i
      · rw [if_pos y, y]; exact ⟨Or.inr rfl, fun _ => h50⟩
      · rw [if_neg y]; exact w4 i' hi'
  · rw [if_neg z]; exact ⟨w1, w2, w3, w4⟩
/-- the one that gave way had copies that the kernel hadn't made -/
theorem lq_dw {p i : Nat} (hi : i < 15) : lq p (mabort p μ) (mabort p (mdw p i μ)) := by
  obtain ⟨v1, v2, v3⟩ := mdw_v (μ := μ) (p := p) (i := i)
  refine ⟨fun a h1 h2 h7 => ?_, fun c hc hd => ?_⟩
  · funext j
    rw [mabort_2, mabort_2]
    rw [v1 22 (by omega) (by omega), v1 20 (by omega) (by omega), v1 21 (by omega) (by omega)]
    by_cases a5 : a = 5
    · subst a5
      by_cases y : 15 * p ≤ j ∧ j < 15 * p + 15
      · rw [if_pos ⟨Or.inl rfl, y⟩, if_pos ⟨Or.inl rfl, y⟩]
      · rw [if_neg (by omega), if_neg (by omega), if_neg (by omega), if_neg (by omega), if_neg (by omega), if_neg (by omega), if_neg (by omega), if_neg (by omega), if_neg (by omega), if_neg (by omega)]
        by_cases w : j = 15 * p + i
        · omega
        · rw [v2 j w]
    · rw [v1 a (by omega) h7]
  · have e : ∀ a j, a ≤ 4 → mabort p μ a j = μ a j := fun a j ha => by rw [mabort_2, if_neg (by omega), if_neg (by omega), if_neg (by omega), if_neg (by omega), if_neg (by omega)]
    have e2 : ∀ a j, a ≤ 4 → mabort p (mdw p i μ) a j = mdw p i μ a j := fun a j ha => by rw [mabort_2, if_neg (by omega), if_neg (by omega), if_neg (by omega), if_neg (by omega), if_neg (by omega)]
    have hd2 : ¬ (c = 15 + 15 * p + i ∧ μ 5 (15 * p + i) = 0) := fun y => by
      refine hd ⟨by omega, ?_, ?_⟩
      · omega
      · rw [mabort_2, if_pos ⟨Or.inl rfl, by omega, by omega⟩]
    obtain ⟨s1, s2⟩ := v3 c hd2
    exact ⟨fun a ha => by rw [e a c (by omega), e2 a c (by omega)]; exact s1 a ha, fun a k ha hk => by rw [e a _ (by omega), e2 a _ (by omega)]; exact s2 a k ha hk⟩
end KG
