/-! the plain law (15): a call goes wrong (2) -/
/-- what a call begins with -/
def kCl (p : Nat) (μ : mS) : Prop := (∀ i, i < 15 → μ 7 i = 0) ∧ ((μ 11 p = 0 ∧ μ 30 0 = 1 ∧ (∀ d, d < 4 → μ 18 (4 * p + d) = μ 20 (4 * p + d)) ∧ ∀ i, i < 15 → μ 5 (15 * p + i) = 0) ∨ (0 < μ 11 p ∧ μ 30 0 = 0))
/-- copies made in this call, nothing else -/
def wr9 (p : Nat) (μ ν : mS) : Prop := (∀ a, 5 < a → a ≠ 7 → ν a = μ a) ∧ (∀ c, c < 105 → ¬ (15 + 15 * p ≤ c ∧ c < 30 + 15 * p ∧ μ 5 (c - 15) = 0) → csame μ ν c c) ∧ (∀ j, ν 5 j = μ 5 j ∨ ∃ i, i < 15 ∧ j = 15 * p + i ∧ ν 7 i = 1) ∧ (∀ i, i < 15 → (ν 7 i = 0 ∨ ν 7 i = 1) ∧ (ν 7 i = 1 → μ 5 (15 * p + i) = 0))
theorem wr9_refl {p : Nat} {μ : mS} (h : kCl p μ) : wr9 p μ μ := ⟨fun _ _ _ => rfl, fun _ _ _ => csame_refl, fun _ => Or.inl rfl, fun i hi => ⟨Or.inl (h.1 i hi), fun y => by have := h.1 i hi; omega⟩⟩
theorem kCl_k {p : Nat} {μ ν : mS} (h : kCl p μ) (e : ∀ a, a = 7 ∨ a = 20 ∨ a = 30 → ν a = μ a) (e11 : ν 11 p = μ 11 p) (e18 : ∀ d, d < 4 → ν 18 (4 * p + d) = μ 18 (4 * p + d)) (e5 : ∀ i, i < 15 → ν 5 (15 * p + i) = μ 5 (15 * p + i)) : kCl p ν := by
  obtain ⟨h1, h2⟩ := h
  refine ⟨by rw [e 7 (by omega)]; exact h1, ?_⟩
  rw [e 30 (by omega), e11, e 20 (by omega)]
  rcases h2 with ⟨a, b, c, c5⟩ | h2
  · exact Or.inl ⟨a, b, fun d hd => by rw [e18 d hd]; exact c d hd, fun i hi => by rw [e5 i hi]; exact c5 i hi⟩
  · exact Or.inr h2
theorem kCl_meet {p i : Nat} {w : Int} {μ : mS} (h : kCl p μ) : kCl p (mabsk (mcf μ p i w) 6 μ) := by
  have sp : mcf μ p i w p = false := mcf_f (Or.inl rfl)
  refine kCl_k h (fun a ha => mabsk_k (by rcases ha with rfl | rfl | rfl <;> rfl)) (by simp [mabsk, sp]) (fun d hd => ?_) (fun i hi => ?_)
  · have e4 : (4 * p + d) / 4 = p := by omega
    simp [mabsk, e4, sp]
  · have e15 : (15 * p + i) / 15 = p := by omega
    simp [mabsk, e15, sp]
theorem kCl_up {p : Nat} {μ : mS} {k j : Nat} {v : Int} (h : kCl p μ) (hk : k = 6 ∨ k = 26 ∨ k = 27 ∨ k = 28 ∨ k = 29) : kCl p (mup μ k j v) :=
  kCl_k h (fun a ha => mup_other _ _ _ (by omega)) (by rw [mup_other _ _ _ (by omega)]) (fun d _ => by rw [mup_other _ _ _ (by omega)]) (fun i _ => by rw [mup_other _ _ _ (by omega)])
theorem kCl_reads {p i : Nat} {μ : mS} (h : kCl p μ) (hm : (mreads p i μ).1 = true) : kCl p (mreads p i μ).2 := by
  unfold mreads at hm ⊢
  by_cases z : μ 5 (15 * p + i) = 0
  · rw [if_pos z] at hm ⊢
    by_cases y : (mmeet p i 0 μ).1 = true
    · rw [if_pos y]
      unfold mmeet at y ⊢
      by_cases x : mold μ p i 0 = true
      · rw [if_pos x] at y; cases y
      · rw [if_neg x]
        exact kCl_up (kCl_meet h) (by omega)
    · rw [if_neg y] at hm; cases hm
  · rw [if_neg z]
    exact kCl_up h (by omega)
theorem mmeet_t {p i : Nat} {w : Int} {μ : mS} (h : (mmeet p i w μ).1 = true) : (mmeet p i w μ).2 = mabsk (mcf μ p i w) 6 μ ∧ mold μ p i w = false := by
  unfold mmeet at h ⊢
  by_cases x : mold μ p i w = true
  · rw [if_pos x] at h; cases h
  · rw [if_neg x]
    exact ⟨rfl, by simpa using x⟩
theorem mreads_26 {p i : Nat} {μ : mS} (hm : (mreads p i μ).1 = true) : (mreads p i μ).2 26 = μ 26 := by
  unfold mreads at hm ⊢
  by_cases z : μ 5 (15 * p + i) = 0
  · rw [if_pos z] at hm ⊢
    by_cases y : (mmeet p i 0 μ).1 = true
    · rw [if_pos y]
      show mup (mmeet p i 0 μ).2 6 (15 * p + i) 1 26 = μ 26
      rw [mup_other _ _ _ (by omega), (mmeet_t y).1]
      funext j; simp [mabsk]
    · rw [if_neg y] at hm; cases hm
  · rw [if_neg z]
    show mup μ 6 (15 * p + i) 1 26 = μ 26
    rw [mup_other _ _ _ (by omega)]
/-- inside a call, before anything is changed -/
def kJc (p : Nat) (c : Int) (μ : mS) : Prop := kJn p c μ ∧ kCl p μ ∧ μ 26 0 = 0
theorem kJ_c {p : Nat} (hp : p < 6) : kJ p (kJc p) := by
  obtain ⟨j1, j2, j3⟩ := kJ_n hp
  refine ⟨fun c μ h hc => j1 c μ h.1 hc, fun c μ h h0 h1 hm => ⟨j2 c μ h.1 h0 h1 hm, kCl_reads h.2.1 hm, ?_⟩, fun c μ v h hv => ⟨j3 c μ v h.1 hv, kCl_up h.2.1 (by omega), by rw [mup_other _ _ _ (by omega)]; exact h.2.2⟩⟩
  have := mreads_26 hm
  rw [this]; exact h.2.2
theorem kJc_le {p : Nat} : ∀ c c' μ, kJc p c μ → c ≤ c' → kJc p c' μ := fun c c' μ h hc => ⟨⟨kIn_le h.1.1 hc, h.1.2⟩, h.2⟩
theorem kInv_drop {μ : mS} {p : Nat} (g : μ 9 p = 1) (hr : mRs μ) (hx : mRx μ) (h : kInv μ) (h18 : ∀ d, d < 4 → μ 18 (4 * p + d) = μ 20 (4 * p + d)) : kInv (mdrop p μ) := by
  have v : ∀ a j, mdrop p μ a j = if (a = 5 ∨ a = 6) ∧ 15 * p ≤ j ∧ j < 15 * p + 15 then 0 else if (a = 9 ∨ a = 11 ∨ a = 17) ∧ j = p then 0 else μ a j := fun a j => rfl
  refine kInv_abs (S := fun q => decide (q = p)) hr hx h (fun q hq y => by have := of_decide_eq_true y; subst this; exact g) (fun a ha => funext fun j => by rw [v, if_neg (by omega), if_neg (by omega)]) (fun q hq y => ?_) (fun q hq y => ?_)
  · have := of_decide_eq_true y
    subst this
    refine ⟨⟨fun s hs => ⟨by rw [v, if_pos (by omega)], by rw [v, if_pos (by omega)]⟩, by rw [v, if_neg (by omega), if_pos (by omega)]⟩, by rw [v, if_neg (by omega), if_pos (by omega)], by rw [v, if_neg (by omega), if_pos (by omega)], fun d hd => ?_⟩
    rw [v, if_neg (by omega), if_neg (by omega)]; exact h18 d hd
  · have n := of_decide_eq_false y
    refine ⟨fun i hi => ⟨?_, ?_⟩, ?_, ?_, ?_, ?_, fun d hd => ?_⟩ <;> rw [v, if_neg (by omega), if_neg (by omega)]
section KG
variable {G : gG} {n m n' m' fr rc rs : Nat} {A A' : kA} {X X' : kX} {σ σ' σ0 σ2 : gS} {μ μ' ν : mS} {Q : gO → gS → Prop}
theorem kFail {p : Nat} {c k : Int} (hp : p < 6) (hS : kSt G n m A X σ μ) (hI : kIn p c μ) (hcl : kCl p μ) (hw : wr9 p μ ν) (h26 : μ 26 0 = 0) (hIν : mI c ν) (hLν : mL c ν) : ∃ A', kSt G n m A' X σ (mfail p k ν) ∧ A' 0 = A 0 ∧ kAll c (mfail p k ν) ∧ mfail p k ν 26 0 = k := by
  obtain ⟨h1, h2, h3, h4, h5, h6, h7, -⟩ := hI
  obtain ⟨w1, w2, w3, w4⟩ := hw
  have n26 : ν 26 0 = 0 := by rw [w1 26 (by omega) (by omega)]; exact h26
  have n30 : ν 30 0 = μ 30 0 := by rw [w1 30 (by omega) (by omega)]
  have fin : ∀ (A' : kA) (ζ : mS), kInv ζ → mI c ζ → mL c ζ → (∀ q, q < 6 → ζ 9 q = 1 → 0 < ζ 11 q) → kSt G n m A' X σ ζ → kSt G n m A' X σ (msweep (mup ζ 26 0 k)) ∧ kAll c (msweep (mup ζ 26 0 k)) ∧ msweep (mup ζ 26 0 k) 26 0 = k := by
    intro A' ζ k1 k2 k3 k4 k5
    have e : ∀ a, a ≠ 26 → mup ζ 26 0 k a = ζ a := fun a ha => mup_other _ _ _ ha
    have i1 : kInv (mup ζ 26 0 k) := kInv_c k2.1 k2.2.2.1 k1 (fun a ha => e a (by omega)) (fun q _ _ => by rw [e 12 (by omega)]) (by rw [e 23 (by omega)]; exact Int.le_refl _)
    have i2 : ∀ q, q < 6 → mup ζ 26 0 k 9 q = 1 → 0 < mup ζ 26 0 k 11 q := by rw [e 9 (by omega), e 11 (by omega)]; exact k4
    rw [msweep_id i1.2.1 i2]
    exact ⟨kSt_29 k5 (by omega), ⟨⟨i1, i2⟩, mI_up (by omega) k2, by unfold mL; rw [e 2 (by omega)]; exact k3⟩, mup_ss _ _ _ _⟩
  have vd : ∀ ξ : mS, ∀ a j, mdrop p ξ a j = if (a = 5 ∨ a = 6) ∧ 15 * p ≤ j ∧ j < 15 * p + 15 then 0 else if (a = 9 ∨ a = 11 ∨ a = 17) ∧ j = p then 0 else ξ a j := fun ξ a j => rfl
  rcases hcl.2 with ⟨c1, c2, c3, -⟩ | ⟨c1, c2⟩
  · have em : mfail p k ν = msweep (mup (mdrop p ν) 26 0 k) := by
      unfold mfail
      rw [if_pos n26, if_pos n26, n30, if_neg (by omega)]
    rw [em]
    have hd := kSt_drop hS hp h5 c1
    have hk := kInv_drop h5 h2.1 h2.2.2.1 h1 c3
    have z5 : ∀ j, 15 * p ≤ j ∧ j < 15 * p + 15 → mdrop p μ 5 j = 0 := fun j hj => by rw [vd, if_pos ⟨Or.inl rfl, hj⟩]
    have vo : ∀ ξ : mS, ∀ a, ¬ (a = 5 ∨ a = 6 ∨ a = 9 ∨ a = 11 ∨ a = 17) → mdrop p ξ a = ξ a := fun ξ a ha => funext fun j => by rw [vd, if_neg (by omega), if_neg (by omega)]
    have hl : lq p (mdrop p μ) (mdrop p ν) := by
      refine ⟨fun a h1 h2 h3 => funext fun j => ?_, fun c hc hn => ?_⟩
      · rw [vd, vd]
        by_cases z : (a = 5 ∨ a = 6) ∧ 15 * p ≤ j ∧ j < 15 * p + 15
        · rw [if_pos z, if_pos z]
        · rw [if_neg z, if_neg z]
          by_cases z2 : (a = 9 ∨ a = 11 ∨ a = 17) ∧ j = p
          · rw [if_pos z2, if_pos z2]
          · rw [if_neg z2, if_neg z2]
            by_cases z3 : a = 5
            · subst z3
              rcases w3 j with y | ⟨i, y1, y2, -⟩
              · exact y
              · exact absurd ⟨Or.inl rfl, by omega⟩ z
            · rw [w1 a (by omega) h3]
      · have hn2 : ¬ (15 + 15 * p ≤ c ∧ c < 30 + 15 * p) := fun y => hn ⟨y.1, y.2, z5 _ (by omega)⟩
        have := w2 c hc (fun y => hn2 ⟨y.1, y.2.1⟩)
        exact ⟨fun a ha => by rw [vo ν a (by omega), vo μ a (by omega)]; exact this.1 a ha, fun a k ha hk => by rw [vo ν a (by omega), vo μ a (by omega)]; exact this.2 a k ha hk⟩
    have i2 : mRs (mdrop p μ) := mRs_c (vo μ 0 (by omega)) (vo μ 1 (by omega)) (vo μ 4 (by omega)) h2.1
    have i3 : mRx (mdrop p μ) := mRx_c (vo μ 18 (by omega)) (vo μ 19 (by omega)) (vo μ 20 (by omega)) (vo μ 21 (by omega)) h2.2.2.1
    have hkν := kInv_lq i2 i3 hk hl
    have hIν2 : mI c (mdrop p ν) := ⟨mRs_c (vo ν 0 (by omega)) (vo ν 1 (by omega)) (vo ν 4 (by omega)) hIν.1, mRq_z (fun q => by rw [vd]; grind) (fun q => by rw [vd]; grind) (fun q => by rw [vd]; grind) (vo ν 16 (by omega)) hIν.2.1, mRx_c (vo ν 18 (by omega)) (vo ν 19 (by omega)) (vo ν 20 (by omega)) (vo ν 21 (by omega)) hIν.2.2.1, mRc_c (vo ν 22 (by omega)) (vo ν 23 (by omega)) (vo ν 24 (by omega)) (vo ν 25 (by omega)) hIν.2.2.2⟩
    obtain ⟨f1, f2, f3⟩ := fin (arng (adead A p)) (mdrop p ν) hkν hIν2 (by unfold mL; rw [vo ν 2 (by omega)]; exact hLν) (fun q hq g => by
      rw [vd, if_neg (by omega)] at g
      rw [vd, if_neg (by omega)]
      by_cases z : q = p
      · rw [if_pos (by omega)] at g; omega
      · rw [if_neg (by omega), w1 9 (by omega) (by omega)] at g
        rw [if_neg (by omega), w1 11 (by omega) (by omega)]
        exact h6 q hq z g) (kSt_lq hd i2 hl)
    refine ⟨arng (adead A p), f1, ?_, f2, f3⟩
    rw [arng_o (by omega)]
    funext b; simp only [adead]; grind
  · have em : mfail p k ν = msweep (mup (mfailk p 15 ν) 26 0 k) := by
      unfold mfail
      rw [if_pos n26, if_pos n26, n30, if_pos c2]
    rw [em]
    have v : ∀ a j, mfailk p 15 ν a j = if a = 5 ∧ 15 * p ≤ j ∧ j < 15 * p + 15 ∧ ν 7 (j - 15 * p) = 1 then 0 else ν a j := fun a j => rfl
    have vo : ∀ a, a ≠ 5 → mfailk p 15 ν a = ν a := fun a ha => funext fun j => by rw [v, if_neg (by omega)]
    have hl : lq p μ (mfailk p 15 ν) := by
      refine ⟨fun a h1 h2 h3 => ?_, fun c hc hn => ?_⟩
      · by_cases z3 : a = 5
        · subst z3
          funext j
          rw [v]
          by_cases z : 15 * p ≤ j ∧ j < 15 * p + 15 ∧ ν 7 (j - 15 * p) = 1
          · rw [if_pos ⟨rfl, z⟩]
            have := (w4 (j - 15 * p) (by omega)).2 z.2.2
            rw [show 15 * p + (j - 15 * p) = j by omega] at this
            exact this.symm
          · rw [if_neg (fun y => z y.2)]
            rcases w3 j with y | ⟨i, y1, y2, y3⟩
            · exact y
            · subst y2
              exact absurd ⟨by omega, by omega, by rw [show 15 * p + i - 15 * p = i by omega]; exact y3⟩ z
        · rw [vo a z3, w1 a (by omega) h3]
      · have := w2 c hc hn
        exact ⟨fun a ha => by rw [vo a (by omega)]; exact this.1 a ha, fun a k ha hk => by rw [vo a (by omega)]; exact this.2 a k ha hk⟩
    have hkν := kInv_lq h2.1 h2.2.2.1 h1 hl
    obtain ⟨f1, f2, f3⟩ := fin (arng A) (mfailk p 15 ν) hkν (mI_c (fun a ha => vo a (by omega)) hIν) (by unfold mL; rw [vo 2 (by omega)]; exact hLν) (fun q hq g => by
      rw [vo 9 (by omega), w1 9 (by omega) (by omega)] at g
      rw [vo 11 (by omega), w1 11 (by omega) (by omega)]
      by_cases z : q = p
      · subst z; exact c1
      · exact h6 q hq z g) (kSt_lq hS h2.1 hl)
    exact ⟨arng A, f1, by rw [arng_o (by omega)], f2, f3⟩
end KG
