/-! the kernel's members: ends (1) -/
section KG
variable {G : gG} {n m n' m' fr rc rs : Nat} {A A' : kA} {X X' : kX} {σ σ' σ0 σ2 : gS} {μ μ' : mS} {Q : gO → gS → Prop}
theorem msend_11 {q p : Nat} {v : Int} : msend q v (mup μ 11 p 0) = mup (msend q v μ) 11 p 0 := by
  have e8 : mup μ 11 p 0 8 = μ 8 := mup_other _ _ _ (by omega)
  have e14 : mup μ 11 p 0 14 = μ 14 := mup_other _ _ _ (by omega)
  unfold msend
  rw [e8, e14]
  split
  · funext a j; simp only [mup]; grind
  · rfl
theorem msendk_11 {p : Nat} : ∀ k, msendk p k (mup μ 11 p 0) = mup (msendk p k μ) 11 p 0 := by
  intro k
  induction k with
  | zero => rfl
  | succ k ih =>
    rw [msendk, msendk, mup_other _ _ _ (by omega), mup_other _ _ _ (by omega), ih, msend_11]
theorem mdrop_11 {p : Nat} : mdrop p (mup μ 11 p 0) = mdrop p μ := by
  funext a j; simp only [mdrop, mup]; grind
theorem kCon_end {A1 : kA} {p : Nat} (hC : kCon A μ) (hp : p < 6) (ht : μ 9 p = 1) (h9p : A1 9 p = 0) (h9 : ∀ q, q ≠ p → A1 9 q = A 9 q) (hA : ∀ k, ¬ (k = 3 ∨ k = 23 ∨ k = 17 ∨ k = 12 ∨ k = 10 ∨ k = 11 ∨ k = 18 ∨ k = 9 ∨ k = 13 ∨ k = 15) → A1 k = A k) (h23 : A1 23 = aputk A μ p 15 23) (hT : kTl A1 (fun q => q ≠ p ∧ 0 < μ 11 q) (μ 12)) : kCon (adead A1 p) (mend p (mput p μ)) := by
  obtain ⟨c1, c2, c3, c4, c5, c6⟩ := hC
  have sk : ∀ a, a ≠ 13 → a ≠ 14 → ∀ k ξ, msendk p k ξ a = ξ a := fun a h1 h2 k ξ => msendk_k h1 h2 k
  have v : ∀ a j, a ≠ 13 → a ≠ 14 → a ≠ 22 → mend p (mput p μ) a j = if (a = 5 ∨ a = 6) ∧ 15 * p ≤ j ∧ j < 15 * p + 15 then 0 else if (a = 9 ∨ a = 11 ∨ a = 17) ∧ j = p then 0 else mput p μ a j := fun a j h1 h2 h3 => by
    unfold mend mdrop
    rw [sk a h1 h2, mup_other _ _ _ h3]
  have v5 : ∀ a j, 7 ≤ a → a ≠ 13 → a ≠ 14 → a ≠ 22 → a ≠ 9 → a ≠ 11 → a ≠ 17 → mend p (mput p μ) a j = μ a j := fun a j h0 h1 h2 h3 h4 h5 h6 => by
    rw [v a j h1 h2 h3, if_neg (by omega), if_neg (by omega)]
    show mputk p 15 μ a j = μ a j
    rw [mputk_5 (by omega)]
  have v9 : ∀ a j, a = 9 ∨ a = 11 → mend p (mput p μ) a j = if j = p then 0 else μ a j := fun a j ha => by
    rw [v a j (by omega) (by omega) (by omega), if_neg (by omega)]
    by_cases z : j = p
    · rw [if_pos (by omega), if_pos z]
    · rw [if_neg (by omega), if_neg z]
      show mputk p 15 μ a j = μ a j
      rw [mputk_5 (by omega)]
  have v56 : ∀ a j, a = 5 ∨ a = 6 → mend p (mput p μ) a j = if 15 * p ≤ j ∧ j < 15 * p + 15 then 0 else μ a j := fun a j ha => by
    rw [v a j (by omega) (by omega) (by omega)]
    by_cases z : 15 * p ≤ j ∧ j < 15 * p + 15
    · rw [if_pos (by omega), if_pos z]
    · rw [if_neg (by omega), if_neg z, if_neg (by omega)]
      show mputk p 15 μ a j = μ a j
      rw [mputk_5 (by omega)]
  have v0 : ∀ s, mend p (mput p μ) 0 s = if s < 15 ∧ μ 5 (15 * p + s) = 1 then μ 0 (15 + 15 * p + s) else μ 0 s := fun s => by
    rw [v 0 s (by omega) (by omega) (by omega), if_neg (by omega), if_neg (by omega)]
    simp only [mput, mputk]
    grind
  have o : ∀ k, ¬ (k = 22 ∨ k = 23 ∨ k = 25 ∨ k = 19) → adead A1 p k = A1 k := fun k hk => by funext b; simp only [adead]; grind
  have d22 : ∀ j, adead A1 p 22 j = if j = p then 0 else A 22 j := fun j => by rw [← hA 22 (by omega)]; simp only [adead]; grind
  have d25 : ∀ j, adead A1 p 25 j = if j / 4 = p then 0 else A 25 j := fun j => by rw [← hA 25 (by omega)]; simp only [adead]; grind
  have d19 : ∀ j, adead A1 p 19 j = if j = p then 1 else A 19 j := fun j => by rw [← hA 19 (by omega)]; simp only [adead]; grind
  have d23 : ∀ j, adead A1 p 23 j = if 15 + 15 * p ≤ j ∧ j < 30 + 15 * p then 0 else if j < 15 ∧ μ 5 (15 * p + j) = 1 then A 23 (15 + 15 * p + j) else A 23 j := fun j => by
    have : adead A1 p 23 j = if 15 + 15 * p ≤ j ∧ j < 30 + 15 * p then 0 else A1 23 j := by simp only [adead]; grind
    rw [this, h23]
    by_cases z : 15 + 15 * p ≤ j ∧ j < 30 + 15 * p
    · rw [if_pos z, if_pos z]
    · rw [if_neg z, if_neg z]
      simp only [aputk]
      by_cases z2 : j < 15 ∧ μ 5 (15 * p + j) = 1
      · rw [if_pos z2, if_neg (by omega), if_pos ⟨True.intro, z2⟩]
      · rw [if_neg z2, if_neg (by omega), if_neg (fun q => z2 q.2), if_neg (by omega), if_neg (by omega), if_neg (by omega)]
  refine ⟨by rw [o 20 (by omega), hA 20 (by omega)]; exact c1, fun q hq => ?_, fun s hs => ?_, fun x hx => ?_, ?_, fun j => ?_⟩
  · have := c2 q hq
    rw [o 21 (by omega), hA 21 (by omega), d22, o 9 (by omega), d19, v5 8 q (by omega) (by omega) (by omega) (by omega) (by omega) (by omega) (by omega), v9 9 q (by omega), v9 11 q (by omega)]
    by_cases z : q = p
    · subst z
      rw [if_pos rfl, if_pos rfl, if_pos rfl, if_pos rfl, h9p]
      simp [this.1]
    · rw [if_neg z, if_neg z, if_neg z, if_neg z, h9 q z]
      exact this
  · rw [d23, v0, v9 9 _ (by omega), v56 5 _ (by omega)]
    by_cases z : 15 + 15 * p ≤ s ∧ s < 30 + 15 * p
    · rw [if_pos z, if_pos (show (s - 15) / 15 = p by omega)]
      simp
      omega
    · rw [if_neg z]
      by_cases z2 : s < 15 ∧ μ 5 (15 * p + s) = 1
      · rw [if_pos z2, if_pos z2]
        have := c3 (15 + 15 * p + s) (by omega)
        rw [show (15 + 15 * p + s - 15) / 15 = p by omega, show 15 + 15 * p + s - 15 = 15 * p + s by omega, ht] at this
        rw [this]
        exact ⟨fun h => ⟨h.1, fun q => by omega⟩, fun h => ⟨h.1, fun _ => ⟨rfl, z2.2⟩⟩⟩
      · rw [if_neg z2, if_neg z2]
        have := c3 s hs
        by_cases z3 : 15 ≤ s
        · rw [if_neg (show ¬ (s - 15) / 15 = p by omega), if_neg (by omega)]; exact this
        · rw [this]
          exact ⟨fun h => ⟨h.1, fun q => absurd q z3⟩, fun h => ⟨h.1, fun q => absurd q z3⟩⟩
  · have := c4 x hx
    rw [o 24 (by omega), hA 24 (by omega), d25, v5 8 _ (by omega) (by omega) (by omega) (by omega) (by omega) (by omega) (by omega), v5 18 _ (by omega) (by omega) (by omega) (by omega) (by omega) (by omega) (by omega), v5 20 _ (by omega) (by omega) (by omega) (by omega) (by omega) (by omega) (by omega), v9 9 _ (by omega)]
    by_cases z : x / 4 = p
    · rw [if_pos z, if_pos z]
      exact ⟨this.1, by simp⟩
    · rw [if_neg z, if_neg z]; exact this
  · obtain ⟨t1, t2, t3, t4, t5⟩ := hT
    rw [o 18 (by omega), o 26 (by omega), o 11 (by omega)]
    refine ⟨t1, t2, fun k hk => ?_, fun q hq h => ?_, fun k k' h1 h2 => ?_⟩
    · have := t3 k hk
      rw [v9 11 _ (by omega), if_neg this.2.1]
      exact ⟨this.1, this.2.2⟩
    · rw [v9 11 _ (by omega)] at h
      have e : q ≠ p := by intro e; rw [if_pos e] at h; omega
      rw [if_neg e] at h
      exact t4 q hq ⟨e, h⟩
    · rw [v5 12 _ (by omega) (by omega) (by omega) (by omega) (by omega) (by omega) (by omega), v5 12 _ (by omega) (by omega) (by omega) (by omega) (by omega) (by omega) (by omega)]
      exact t5 k k' h1 h2
  · have := c6 j
    rw [v56 5 j (by omega), v56 6 j (by omega), v5 8 j (by omega) (by omega) (by omega) (by omega) (by omega) (by omega) (by omega), v9 9 j (by omega), v5 10 j (by omega) (by omega) (by omega) (by omega) (by omega) (by omega) (by omega)]
    refine ⟨?_, ?_, this.2.2.1, ?_, this.2.2.2.2⟩ <;> split <;> first | omega | (first | exact this.1 | exact this.2.1 | exact this.2.2.2.1)
end KG
