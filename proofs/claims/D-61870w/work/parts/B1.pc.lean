/-! the plain law (12): the end of a call -/
theorem mI_sweep {n : Int} {μ : mS} (h : mI n μ) : mI n (msweep μ) := by
  have e : ∀ a, a ≠ 0 → msweep μ a = μ a := fun a ha => msweep_a ha
  have k0 : ∀ j, msweep μ 0 j = μ 0 j ∨ msweep μ 0 j = 0 := fun j => by rw [msweep_0]; split <;> first | exact Or.inr rfl | exact Or.inl rfl
  refine ⟨⟨fun s hs => ?_, by rw [e 4 (by omega)]; exact h.1.2⟩, mRq_c (e _ (by omega)) (e _ (by omega)) (e _ (by omega)) (e _ (by omega)) h.2.1, mRx_c (e _ (by omega)) (e _ (by omega)) (e _ (by omega)) (e _ (by omega)) h.2.2.1, mRc_c (e _ (by omega)) (e _ (by omega)) (e _ (by omega)) (e _ (by omega)) h.2.2.2⟩
  have := h.1.1 s hs
  rw [e 1 (by omega)]
  rcases k0 s with z | z <;> rw [z] <;> omega
theorem mput_v {μ : mS} {p a s : Nat} (ha : a ≤ 2) : mput p μ a s = if s < 15 ∧ μ 5 (15 * p + s) = 1 then μ a (15 + 15 * p + s) else μ a s := by
  simp only [mput, mputk]
  by_cases z : s < 15 ∧ μ 5 (15 * p + s) = 1
  · rw [if_pos ⟨ha, z⟩, if_pos z]
  · rw [if_neg (fun q => z q.2), if_neg (by omega), if_neg z]
theorem mput_w {μ : mS} {p a s k : Nat} (ha : a = 3 ∨ a = 4) (hk : k < 8) : mput p μ a (8 * s + k) = if s < 15 ∧ μ 5 (15 * p + s) = 1 then μ a (8 * (15 + 15 * p + s) + k) else μ a (8 * s + k) := by
  simp only [mput, mputk]
  have e8 : (8 * s + k) / 8 = s := by omega
  rw [if_neg (by omega), e8]
  by_cases z : s < 15 ∧ μ 5 (15 * p + s) = 1
  · rw [if_pos ⟨ha, z⟩, if_pos z, show 8 * (15 + 15 * p) + (8 * s + k) = 8 * (15 + 15 * p + s) + k by omega]
  · rw [if_neg (fun q => z q.2), if_neg z]
theorem mput_s {μ : mS} {p d : Nat} (hB : kB μ) (hd : d < 15) : csame μ (mput p μ) (mof μ p d) d := by
  refine ⟨fun a ha => ?_, fun a k ha hk => ?_⟩
  · rw [mput_v ha]
    rcases (hB (15 * p + d)).1 with z | z
    · rw [mof_n z, if_neg (by omega)]
    · rw [mof_w (by omega), if_pos ⟨hd, z⟩]
  · rw [mput_w ha hk]
    rcases (hB (15 * p + d)).1 with z | z
    · rw [mof_n z, if_neg (by omega)]
    · rw [mof_w (by omega), if_pos ⟨hd, z⟩]
theorem mput_t {μ : mS} {p c : Nat} (hc : 15 ≤ c) : csame μ (mput p μ) c c := by
  refine ⟨fun a ha => ?_, fun a k ha hk => ?_⟩
  · rw [mput_v ha, if_neg (by omega)]
  · rw [mput_w ha hk, if_neg (by omega)]
theorem mI_put {n : Int} {p : Nat} {μ : mS} (hp : p < 6) (h : mI n μ) : mI n (mput p μ) := by
  have e : ∀ a, 5 ≤ a → mput p μ a = μ a := fun a ha => mputk_5 ha
  refine ⟨⟨fun s hs => ?_, fun j hj => ?_⟩, mRq_c (e _ (by omega)) (e _ (by omega)) (e _ (by omega)) (e _ (by omega)) h.2.1, mRx_c (e _ (by omega)) (e _ (by omega)) (e _ (by omega)) (e _ (by omega)) h.2.2.1, mRc_c (e _ (by omega)) (e _ (by omega)) (e _ (by omega)) (e _ (by omega)) h.2.2.2⟩
  · rw [mput_v (by omega), mput_v (by omega)]
    by_cases z : s < 15 ∧ μ 5 (15 * p + s) = 1
    · rw [if_pos z, if_pos z]; exact h.1.1 _ (by omega)
    · rw [if_neg z, if_neg z]; exact h.1.1 s hs
  · have : j = 8 * (j / 8) + j % 8 := by omega
    rw [this, mput_w (by omega) (by omega)]
    split
    · exact h.1.2 _ (by omega)
    · exact h.1.2 _ (by omega)
theorem mfst_o {μ : mS} {d : Int} {a : Nat} (ha : a ≠ 22) (h2 : a ≠ 25) : mfst μ d a = μ a := by
  unfold mfst
  split
  · rw [mup_other _ _ _ (by omega), mup_other _ _ _ (by omega)]
  · rfl
theorem mI_fst {n : Int} {μ : mS} {d : Int} (hd : d ≤ 15) (h : mI n μ) : mI (n + 31) (mfst μ d) := by
  have e : ∀ a, a ≠ 22 → a ≠ 25 → mfst μ d a = μ a := fun a h1 h2 => mfst_o h1 h2
  refine ⟨mRs_c (e _ (by omega) (by omega)) (e _ (by omega) (by omega)) (e _ (by omega) (by omega)) h.1, mRq_c (e _ (by omega) (by omega)) (e _ (by omega) (by omega)) (e _ (by omega) (by omega)) (e _ (by omega) (by omega)) h.2.1, mRx_c (e _ (by omega) (by omega)) (e _ (by omega) (by omega)) (e _ (by omega) (by omega)) (e _ (by omega) (by omega)) h.2.2.1, ?_⟩
  obtain ⟨q1, q2, q3, q4⟩ := h.2.2.2
  unfold mRc
  rw [e 23 (by omega) (by omega), e 24 (by omega) (by omega)]
  refine ⟨fun j hj => ?_, by omega, q3, ?_⟩
  · have := q1 j hj
    unfold mfst
    split
    · rw [mup_other _ _ _ (by omega)]
      simp only [mup]
      split
      · rename_i z
        obtain ⟨-, rfl⟩ := z
        unfold mcrs
        split
        · rename_i w
          have := of_decide_eq_true w
          omega
        · omega
      · omega
    · omega
  · unfold mfst
    split
    · rw [mup_ss]; omega
    · exact q4
theorem mI_end {n : Int} {p : Nat} {μ : mS} (h : mI n μ) : mI (n + 1) (mend p μ) := by
  unfold mend
  have sk : ∀ a, a ≠ 13 → a ≠ 14 → ∀ k ξ, msendk p k ξ a = ξ a := fun a h1 h2 k ξ => msendk_k h1 h2 k
  have e : ∀ a, ¬ (a = 5 ∨ a = 6 ∨ a = 9 ∨ a = 11 ∨ a = 17 ∨ a = 13 ∨ a = 14 ∨ a = 22) → ∀ k, mdrop p (msendk p k (mup μ 22 2 (μ 22 2 + 1))) a = μ a := fun a ha k => by
    funext j
    unfold mdrop
    rw [if_neg (by omega), if_neg (by omega), sk a (by omega) (by omega), mup_other _ _ _ (by omega)]
  refine ⟨mRs_c (e 0 (by omega) _) (e 1 (by omega) _) (e 4 (by omega) _) h.1, ⟨fun q hq => ?_, by rw [e 16 (by omega)]; exact h.2.1.2⟩, mRx_c (e 18 (by omega) _) (e 19 (by omega) _) (e 20 (by omega) _) (e 21 (by omega) _) h.2.2.1, ?_⟩
  · have b14 := msendk_r (p := p) (μ := mup μ 22 2 (μ 22 2 + 1)) (fun x hx => by rw [mup_other _ _ _ (by omega)]; have := h.2.1.1 x hx; omega) (μ 17 p).toNat q hq
    have := h.2.1.1 q hq
    have v14 : ∀ k ξ, mdrop p (msendk p k ξ) 14 q = msendk p k ξ 14 q := fun k ξ => by unfold mdrop; rw [if_neg (by omega), if_neg (by omega)]
    have v : ∀ a, a = 11 ∨ a = 17 → ∀ k, mdrop p (msendk p k (mup μ 22 2 (μ 22 2 + 1))) a q = if q = p then 0 else μ a q := fun a ha k => by
      unfold mdrop
      rw [if_neg (by omega), sk a (by omega) (by omega), mup_other _ _ _ (by omega)]
      by_cases z : q = p
      · rw [if_pos (by omega), if_pos z]
      · rw [if_neg (by omega), if_neg z]
    rw [v 11 (by omega), v 17 (by omega), v14]
    refine ⟨?_, ?_, b14.1, b14.2, ?_, ?_⟩ <;> split <;> omega
  · obtain ⟨q1, q2, q3, q4⟩ := h.2.2.2
    unfold mRc
    rw [e 23 (by omega), e 24 (by omega), e 25 (by omega)]
    refine ⟨fun j hj => ?_, by omega, q3, q4⟩
    have := q1 j hj
    have := q1 2 (by omega)
    unfold mdrop
    rw [if_neg (by omega), if_neg (by omega), sk 22 (by omega) (by omega)]
    simp only [mup]
    split <;> omega
theorem mcrash_v {ν : mS} {a j : Nat} : mcrash ν a j = if a = 0 ∧ 12 ≤ j ∧ j < 15 then 0 else if a = 18 ∧ j < 24 then -1 else if a = 22 ∧ j = 4 then ν 22 4 + 1 else if (a = 5 ∨ a = 6) ∧ j / 15 < 6 then 0 else if (a = 9 ∨ a = 11 ∨ a = 17 ∨ a = 10 ∨ a = 14) ∧ j < 6 then 0 else if a = 8 ∧ j < 6 then (if j = 0 then 1 else 0) else ν a j := rfl
theorem mI_crash {n : Int} {μ : mS} (h : mI n μ) : mI (n + 1) (mcrash μ) := by
  have e : ∀ a, ¬ (a = 0 ∨ a = 18 ∨ a = 22 ∨ a = 5 ∨ a = 6 ∨ a = 9 ∨ a = 11 ∨ a = 17 ∨ a = 10 ∨ a = 14 ∨ a = 8) → mcrash μ a = μ a := fun a ha => by
    funext j
    rw [mcrash_v, if_neg (by omega), if_neg (by omega), if_neg (by omega), if_neg (by omega), if_neg (by omega), if_neg (by omega)]
  refine ⟨⟨fun s hs => ?_, by rw [e 4 (by omega)]; exact h.1.2⟩, ⟨fun q hq => ?_, by rw [e 16 (by omega)]; exact h.2.1.2⟩, fun x hx => ?_, ?_⟩
  · have := h.1.1 s hs
    rw [e 1 (by omega), mcrash_v]
    by_cases z : 12 ≤ s ∧ s < 15
    · rw [if_pos ⟨rfl, z⟩]; omega
    · rw [if_neg (by omega), if_neg (by omega), if_neg (by omega), if_neg (by omega), if_neg (by omega), if_neg (by omega)]; exact this
  · rw [mcrash_v, mcrash_v, mcrash_v]
    simp [hq]
  · have := h.2.2.1 x hx
    rw [e 19 (by omega), e 20 (by omega), e 21 (by omega), mcrash_v, if_neg (by omega), if_pos ⟨rfl, hx⟩]
    exact ⟨Or.inl rfl, this.2⟩
  · obtain ⟨q1, q2, q3, q4⟩ := h.2.2.2
    unfold mRc
    rw [e 23 (by omega), e 24 (by omega), e 25 (by omega)]
    refine ⟨fun j hj => ?_, by omega, q3, q4⟩
    have := q1 j hj
    have := q1 4 (by omega)
    rw [mcrash_v, if_neg (by omega), if_neg (by omega)]
    by_cases z : j = 4
    · rw [if_pos ⟨rfl, z⟩]; omega
    · rw [if_neg (by omega), if_neg (by omega), if_neg (by omega), if_neg (by omega)]; omega
theorem mL_d {n : Int} {μ ν : mS} (h : mL n μ) (e : ∀ s, s < 105 → ∃ t, t < 105 ∧ ν 2 s = μ 2 t) : mL n ν := fun s hs => by
  obtain ⟨t, ht, e⟩ := e s hs
  rw [e]; exact h t ht
/-- after a commit -/
theorem kInvS_commit {μ : mS} {p : Nat} (hp : p < 6) (g : μ 9 p = 1) (hB : kB μ) (hr : mRs μ) (hx : mRx μ) (h : kInvS μ) : kInvS (mend p (mput p μ)) := by
  have sk : ∀ a, a ≠ 13 → a ≠ 14 → ∀ k ξ, msendk p k ξ a = ξ a := fun a h1 h2 k ξ => msendk_k h1 h2 k
  have e : ∀ a, ¬ (a = 5 ∨ a = 6 ∨ a = 9 ∨ a = 11 ∨ a = 17 ∨ a = 13 ∨ a = 14 ∨ a = 22) → mend p (mput p μ) a = mput p μ a := fun a ha => by
    funext j
    unfold mend mdrop
    rw [if_neg (by omega), if_neg (by omega), sk a (by omega) (by omega), mup_other _ _ _ (by omega)]
  have e5 : ∀ a, 5 ≤ a → ¬ (a = 5 ∨ a = 6 ∨ a = 9 ∨ a = 11 ∨ a = 17 ∨ a = 13 ∨ a = 14 ∨ a = 22) → mend p (mput p μ) a = μ a := fun a h1 h2 => by rw [e a h2]; exact mputk_5 h1
  have cs : ∀ c, csame (mput p μ) (mend p (mput p μ)) c c := fun c => csame_e (fun a ha => e a (by omega))
  have w56 : ∀ a j, a = 5 ∨ a = 6 → mend p (mput p μ) a j = if 15 * p ≤ j ∧ j < 15 * p + 15 then 0 else μ a j := fun a j ha => by
    unfold mend mdrop
    by_cases z : 15 * p ≤ j ∧ j < 15 * p + 15
    · rw [if_pos (by omega), if_pos z]
    · rw [if_neg (by omega), if_neg (by omega), if_neg z, sk a (by omega) (by omega), mup_other _ _ _ (by omega)]
      show mputk p 15 μ a j = _
      rw [mputk_5 (by omega)]
  have w9 : ∀ a j, a = 9 ∨ a = 11 ∨ a = 17 → mend p (mput p μ) a j = if j = p then 0 else μ a j := fun a j ha => by
    unfold mend mdrop
    by_cases z : j = p
    · rw [if_neg (by omega), if_pos (by omega), if_pos z]
    · rw [if_neg (by omega), if_neg (by omega), if_neg z, sk a (by omega) (by omega), mup_other _ _ _ (by omega)]
      show mputk p 15 μ a j = _
      rw [mputk_5 (by omega)]
  have w14 : ∀ q, μ 8 q = 0 → ∀ k ξ, ξ 8 = μ 8 → msendk p k ξ 14 q = ξ 14 q := by
    intro q hq k
    induction k with
    | zero => intro ξ _; rfl
    | succ k ih =>
      intro ξ h8
      have i1 := ih ξ h8
      rw [msendk]
      unfold msend
      split
      · rename_i z
        rw [mup_other _ _ _ (by omega)]
        simp only [mup]
        rw [if_neg ?_]
        · exact i1
        · rintro ⟨-, y⟩
          have := z.1
          rw [sk 8 (by omega) (by omega), h8, ← y] at this
          omega
      · exact i1
  refine kInv_end hp g hB hr hx h (fun d hd => csame_trans (mput_s hB hd) (cs d)) (fun q hq hqp => ⟨fun i hi => ⟨csame_trans (mput_t (by omega)) (cs _), ?_, ?_⟩, ?_, ?_, ?_⟩) (fun a ha => e5 a (by omega) (by omega)) (fun q hq q8 => ?_) ⟨fun s hs => ⟨?_, ?_⟩, ?_⟩ ?_ ?_
  · rw [w56 5 _ (by omega), if_neg (by omega)]
  · rw [w56 6 _ (by omega), if_neg (by omega)]
  · rw [w9 9 _ (by omega), if_neg hqp]
  · rw [w9 11 _ (by omega), if_neg hqp]
  · rw [w9 17 _ (by omega), if_neg hqp]
  · unfold mend mdrop
    rw [if_neg (by omega), if_neg (by omega), w14 q q8 _ _ (by rw [mup_other _ _ _ (by omega)]; exact mputk_5 (by omega)), mup_other _ _ _ (by omega)]
    show mputk p 15 μ 14 q = _
    rw [mputk_5 (by omega)]
  · rw [w56 5 _ (by omega), if_pos (by omega)]
  · rw [w56 6 _ (by omega), if_pos (by omega)]
  · rw [w9 17 _ (by omega), if_pos rfl]
  · rw [w9 9 _ (by omega), if_pos rfl]
  · rw [w9 11 _ (by omega), if_pos rfl]
/-- after a crash -/
theorem kInvS_crash {μ : mS} (hr : mR8 μ) (hC : iC μ) : kInvS (mcrash μ) := by
  have e : ∀ a, a = 1 ∨ a = 2 ∨ a = 3 ∨ a = 4 → mcrash μ a = μ a := fun a ha => by
    funext j
    rw [mcrash_v, if_neg (by omega), if_neg (by omega), if_neg (by omega), if_neg (by omega), if_neg (by omega), if_neg (by omega)]
  have e0 : ∀ s, mcrash μ 0 s = if 12 ≤ s ∧ s < 15 then 0 else μ 0 s := fun s => by
    rw [mcrash_v]
    by_cases z : 12 ≤ s ∧ s < 15
    · rw [if_pos ⟨rfl, z⟩, if_pos z]
    · rw [if_neg (by omega), if_neg (by omega), if_neg (by omega), if_neg (by omega), if_neg (by omega), if_neg (by omega), if_neg z]
  have cs : ∀ c, c < 12 → csame μ (mcrash μ) c c := fun c hc => by
    refine ⟨fun a ha => ?_, fun a k ha hk => by rw [e a (by omega)]⟩
    by_cases z : a = 0
    · subst z; rw [e0, if_neg (by omega)]
    · rw [e a (by omega)]
  have z9 : ∀ a q, a = 9 ∨ a = 11 ∨ a = 17 ∨ a = 10 ∨ a = 14 → q < 6 → mcrash μ a q = 0 := fun a q ha hq => by
    rw [mcrash_v, if_neg (by omega), if_neg (by omega), if_neg (by omega), if_neg (by omega), if_pos ⟨ha, hq⟩]
  have z5 : ∀ a q i, a = 5 ∨ a = 6 → q < 6 → i < 15 → mcrash μ a (15 * q + i) = 0 := fun a q i ha hq hi => by
    rw [mcrash_v, if_neg (by omega), if_neg (by omega), if_neg (by omega), if_pos (by omega)]
  have z18 : ∀ x, x < 24 → mcrash μ 18 x = -1 := fun x hx => by rw [mcrash_v, if_neg (by omega), if_pos ⟨rfl, hx⟩]
  obtain ⟨c1, c2, c3, c4, c5⟩ := hC
  refine ⟨⟨mbal_c c1 (fun d hd => cs d hd) (fun d hd => hr d (by omega)), fun i hi => ?_, fun i h1 h2 => ?_, fun c hc => ndis_c (cs c hc) (hr c (by omega)) (c4 c hc), ?_⟩, fun q hq => ⟨fun y => ?_, fun y => ⟨⟨fun s hs => ⟨z5 5 q s (by omega) hq hs, z5 6 q s (by omega) hq hs⟩, z9 17 q (by omega) hq⟩, z9 11 q (by omega) hq, fun d hd y => ?_⟩⟩, fun a b ha hb hab ga gb => ?_, fun q hq y => ⟨z9 11 q (by omega) hq, z9 10 q (by omega) hq, z9 14 q (by omega) hq, fun d hd => z18 _ (by omega)⟩, fun q hq y => ?_⟩
  · rw [(cs i hi).1 0 (by omega)]; exact c2 i hi
  · rw [e0, if_pos ⟨h1, h2⟩]; exact Or.inl rfl
  · rw [(cs 0 (by omega)).1 0 (by omega)]; exact c5
  · rw [z9 9 q (by omega) hq] at y; omega
  · rw [z18 _ (by omega)] at y; omega
  · rw [z9 9 a (by omega) ha] at ga; omega
  · rw [z9 9 q (by omega) hq] at y; omega
