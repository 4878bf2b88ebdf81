/-! the kernel's heap: a transaction begins -/
section KG
variable {G : gG} {n m n' m' fr rc rs : Nat} {A A' : kA} {X X' : kX} {σ σ' σ0 σ2 : gS} {μ μ' : mS} {Q : gO → gS → Prop}
def anewT (A : kA) (μ : mS) (p a al : Nat) (y : Nat → Nat) : kA := fun b j => if b = 2 ∧ j = p then a else if b = 16 ∧ j = p then 0 else if b = 19 ∧ j = p then al else if b = 22 ∧ j = p then 1 else if b = 5 ∧ j / 4 = p then y (j % 4) else if b = 25 ∧ j / 4 = p then (if 0 ≤ μ 18 j then 1 else 0) else if b = 30 ∧ a ≤ j then (if j < a + 7 then a else j) else A b j
theorem anewT_o {p a al k : Nat} {y : Nat → Nat} (h : ¬ (k = 2 ∨ k = 16 ∨ k = 19 ∨ k = 22 ∨ k = 5 ∨ k = 25 ∨ k = 30)) : anewT A μ p a al y k = A k := by funext j; simp only [anewT]; grind
theorem kr_newT (h : kRep G n A X σ0 μ) {p a al : Nat} {y : Nat → Nat} (T : kTn A μ p a al σ0 4 y σ) (ha : a = σ0.2.1) (hd : A 22 p ≠ 1) (h9 : A 9 p ≠ 1) (hls : ∀ k, k < A 18 0 → A 11 k ≠ p) (hb3 : gBase G ≤ a) (hb : ∀ k i, k < 7 → A (20 + k) i = 1 → A k i < a) (hX : ∀ b, a ≤ b → X b = none)
    (e : ∀ b, b < 26 → ¬ (b = 7 ∨ b = 9 ∨ b = 12 ∨ b = 20 ∨ b = 21 ∨ b = 23) → μ' b = μ b) (e20 : ∀ j, μ' 20 j = if j / 4 = p then μ 18 j else μ 20 j) (e21 : ∀ j, μ' 21 j = if j / 4 = p then μ 19 j else μ 21 j) (z5 : ∀ s, s < 15 → μ 5 (15 * p + s) = 0 ∧ μ 6 (15 * p + s) = 0) (z17 : μ 17 p = 0) : kRep G n (anewT A μ p a al y) X σ μ' := by
  obtain ⟨t1, t2, t3, t4, t5, t6, t7, t8, t9, t10, t11⟩ := T
  have o := fun k (hk : ¬ (k = 2 ∨ k = 16 ∨ k = 19 ∨ k = 22 ∨ k = 5 ∨ k = 25 ∨ k = 30)) => anewT_o (A := A) (μ := μ) (p := p) (a := a) (al := al) (y := y) hk
  have a2 : ∀ s, s ≠ p → anewT A μ p a al y 2 s = A 2 s := fun s hs => by simp only [anewT]; grind
  have a2p : anewT A μ p a al y 2 p = a := by simp [anewT]
  have a16 : ∀ s, s ≠ p → anewT A μ p a al y 16 s = A 16 s := fun s hs => by simp only [anewT]; grind
  have a16p : anewT A μ p a al y 16 p = 0 := by simp [anewT]
  have a19 : ∀ s, s ≠ p → anewT A μ p a al y 19 s = A 19 s := fun s hs => by simp only [anewT]; grind
  have a19p : anewT A μ p a al y 19 p = al := by simp [anewT]
  have a5 : ∀ s, ¬ s / 4 = p → anewT A μ p a al y 5 s = A 5 s := fun s hs => by simp only [anewT]; grind
  have a5p : ∀ s, s / 4 = p → anewT A μ p a al y 5 s = y (s % 4) := fun s hs => by simp only [anewT]; grind
  have a30 : ∀ b, b < a → anewT A μ p a al y 30 b = A 30 b := fun b hb => by simp only [anewT]; grind
  have a30a : ∀ j, j < 7 → anewT A μ p a al y 30 (a + j) = a := fun j hj => by simp only [anewT]; grind
  have a30y : ∀ j, a + 7 ≤ j → anewT A μ p a al y 30 j = j := fun j hj => by simp only [anewT]; grind
  have lv : ∀ k i, k < 7 → anewT A μ p a al y (20 + k) i = 1 → ¬ ((k = 2 ∧ i = p) ∨ (k = 5 ∧ i / 4 = p ∧ 0 ≤ μ 18 i)) → A (20 + k) i = 1 ∧ ¬ (k = 2 ∧ i = p) ∧ ¬ (k = 5 ∧ i / 4 = p) := fun k i hk h1 h2 => by
    simp only [anewT] at h1; grind
  refine kgen h a (fun k i => (k = 2 ∧ i = p) ∨ (k = 5 ∧ i / 4 = p ∧ 0 ≤ μ 18 i)) (fun _ _ _ => none) t1.2.2 (fun k i j x h1 h2 => t1.1 _ _ (h.2.1 k i j x h1 h2).1) ?_ ?_ a30 (fun k i j x h1 h2 => by rw [ha]; exact klt h (h.2.1 k i j x h1 h2).1) hb hb3 ?_ (fun b x hx => t1.1 _ _ (h.2.2.2.2.2 b x hx)) ?_ ?_
  · intro k i h7 hli hn
    obtain ⟨l1, l2, l3⟩ := lv k i h7 hli hn
    refine ⟨l1, ?_, fun j x hx => ⟨x, ?_, rfl⟩⟩
    · by_cases z : k = 2
      · subst z; exact a2 i (by omega)
      · by_cases z5 : k = 5
        · subst z5; exact a5 i (by omega)
        · rw [o k (by omega)]
    · rw [← hx]
      rcases k with _ | _ | _ | _ | _ | _ | _ | k
      · rcases i with _ | i
        · rcases j with _ | _ | _ | _ | j
          · simp only [kcell, kc0, o 0 (by omega), e 24 (by omega) (by omega), e 25 (by omega) (by omega), e 22 (by omega) (by omega)]
          · simp only [kcell, kc0, o 3 (by omega), e 0 (by omega) (by omega)]
          · simp only [kcell, kc0, o 1 (by omega), e 8 (by omega) (by omega)]
          · simp only [kcell, kc0, o 10 (by omega), o 26 (by omega), o 6 (by omega), o 18 (by omega)]
          · rfl
        · rfl
      · have f2 : (if A 9 i = 1 then some (anewT A μ p a al y 2 i) else none) = (if A 9 i = 1 then some (A 2 i) else none) := by
          by_cases z : i = p
          · subst z; rw [if_neg h9, if_neg h9]
          · rw [a2 i z]
        simp only [kcell]; unfold kc1; rw [e 10 (by omega) (by omega), e 11 (by omega) (by omega), e 14 (by omega) (by omega), e 18 (by omega) (by omega), o 1 (by omega), o 9 (by omega), f2, o 4 (by omega), o 13 (by omega), o 15 (by omega)]
      · have w : i ≠ p := by omega
        have f20 : (fun d => if d < 4 ∧ 0 ≤ μ' 20 (4 * i + d) then some (anewT A μ p a al y 5 (4 * i + d)) else none) = fun d => if d < 4 ∧ 0 ≤ μ 20 (4 * i + d) then some (A 5 (4 * i + d)) else none := funext fun d => by
          by_cases z : d < 4
          · rw [a5 _ (by omega), e20, if_neg (show ¬ (4 * i + d) / 4 = p by omega)]
          · rw [if_neg (fun y => z y.1), if_neg (fun y => z y.1)]
        simp only [kcell]; unfold kc2; rw [e 0 (by omega) (by omega), e 5 (by omega) (by omega), e 6 (by omega) (by omega), e 17 (by omega) (by omega), o 1 (by omega), a2 i w, o 3 (by omega), f20, o 14 (by omega), a16 i w, a19 i w]
      · simp only [kcell]; unfold kslot kcF kcL; rw [e 0 (by omega) (by omega), e 1 (by omega) (by omega), e 2 (by omega) (by omega), e 3 (by omega) (by omega), o 3 (by omega), o 12 (by omega), o 17 (by omega)]
      · simp only [kcell, e 18 (by omega) (by omega), e 19 (by omega) (by omega)]
      · have w : ¬ i / 4 = p := by omega
        simp only [kcell, e20, e21, if_neg w]
      · have f2 : (fun k => if k < A 18 0 then some (anewT A μ p a al y 2 (A 11 k)) else none) = fun k => if k < A 18 0 then some (A 2 (A 11 k)) else none := funext fun k => by
          by_cases z : k < A 18 0
          · rw [if_pos z, if_pos z, a2 _ (hls k z)]
          · rw [if_neg z, if_neg z]
        simp only [kcell, o 11 (by omega), o 18 (by omega), f2]
      · omega
  · rintro k i h7 (⟨rfl, rfl⟩ | ⟨rfl, hi4, hi⟩)
    · rw [a2p]
      refine ⟨Nat.le_refl _, fun j x hx => ?_⟩
      have hj : j < 7 := by rcases j with _ | _ | _ | _ | _ | _ | _ | j <;> first | omega | cases hx
      refine ⟨?_, a30a j hj, hX _ (by omega)⟩
      rw [← hx]
      have f1 : (fun s => if s < 15 ∧ μ' 5 (15 * i + s) = 1 ∧ μ' 0 (15 + 15 * i + s) ≠ 0 then some (anewT A μ i a al y 3 (15 + 15 * i + s)) else none) = fun _ => none := funext fun s => by
        by_cases z : s < 15
        · rw [e 5 (by omega) (by omega), if_neg (by rw [(z5 s z).1]; omega)]
        · rw [if_neg (fun q => z q.1)]
      have f2 : (fun s => if s < 15 then μ' 6 (15 * i + s) else 0) = fun _ => 0 := funext fun s => by
        by_cases z : s < 15
        · rw [if_pos z, e 6 (by omega) (by omega), (z5 s z).2]
        · rw [if_neg z]
      have f3 : (fun s => if s < 15 ∧ μ' 5 (15 * i + s) = 1 ∧ μ' 0 (15 + 15 * i + s) = 0 then (1 : Int) else 0) = fun _ => 0 := funext fun s => by
        by_cases z : s < 15
        · rw [e 5 (by omega) (by omega), if_neg (by rw [(z5 s z).1]; omega)]
        · rw [if_neg (fun q => z q.1)]
      have f6 : (fun d => if d < 4 ∧ 0 ≤ μ' 20 (4 * i + d) then some (anewT A μ i a al y 5 (4 * i + d)) else none) = fun d => if d < 4 ∧ 0 ≤ μ 18 (4 * i + d) then some (y d) else none := funext fun d => by
        by_cases z : d < 4
        · rw [a5p _ (by omega), e20, if_pos (show (4 * i + d) / 4 = i by omega), show (4 * i + d) % 4 = d by omega]
        · rw [if_neg (fun y => z y.1), if_neg (fun y => z y.1)]
      have f5 : (fun k : Nat => if (k : Int) < 0 then some (anewT A μ i a al y 14 (4 * i + k)) else none) = fun _ => none := funext fun d => by
        rw [if_neg (by omega)]
      have e17 : μ' 17 i = 0 := by rw [e 17 (by omega) (by omega)]; exact z17
      rcases j with _ | _ | _ | _ | _ | _ | _ | j
      · simp only [kcell, kc2, a2p, a19p, o 1 (by omega)]; exact t3
      · simp only [kcell, kc2, f1]; exact t4
      · simp only [kcell, kc2, f2]; exact t5
      · simp only [kcell, kc2, f3]; exact t6
      · simp only [kcell, kc2, a2p, a16p, e17]; exact t7
      · simp only [kcell, kc2, e17, f5]; exact t8
      · simp only [kcell, kc2, f6]; exact t9
      · omega
    · have x4 : 4 * p + i % 4 = i := by omega
      obtain ⟨g1, g2, g3⟩ := t10 (i % 4) (by omega) (by rw [x4]; exact hi)
      rw [x4] at g3
      rw [a5p i hi4]
      refine ⟨by omega, fun j x hx => ?_⟩
      rcases j with _ | j
      · refine ⟨?_, a30y _ g1, hX _ (by omega)⟩
        rw [← hx]
        simp only [kcell, e20, e21, if_pos hi4]
        exact g3
      · cases hx
  · intro k i k' i' hn hn' he
    rcases hn with ⟨rfl, rfl⟩ | ⟨rfl, hi4, hi⟩
    · rcases hn' with ⟨rfl, rfl⟩ | ⟨rfl, hi4', hi'⟩
      · exact ⟨rfl, rfl⟩
      · rw [a2p, a5p i' hi4'] at he
        have := (t10 (i' % 4) (by omega) (by rw [show 4 * i + i' % 4 = i' by omega]; exact hi')).1
        omega
    · have x4 : 4 * p + i % 4 = i := by omega
      rcases hn' with ⟨rfl, rfl⟩ | ⟨rfl, hi4', hi'⟩
      · rw [a2p, a5p i hi4] at he
        have := (t10 (i % 4) (by omega) (by rw [x4]; exact hi)).1
        omega
      · have x4' : 4 * p + i' % 4 = i' := by omega
        rw [a5p i hi4, a5p i' hi4'] at he
        refine ⟨rfl, ?_⟩
        rcases Nat.lt_trichotomy (i % 4) (i' % 4) with q | q | q
        · have := t11 _ _ q (by omega) (by rw [x4]; exact hi) (by rw [x4']; exact hi')
          omega
        · omega
        · have := t11 _ _ q (by omega) (by rw [x4']; exact hi') (by rw [x4]; exact hi)
          omega
  · obtain ⟨x, w, z⟩ := h.2.2.2.1
    refine ⟨fun s k h1 h2 => ?_, fun q k h1 h2 => ?_, fun q k h1 h2 => ?_⟩
    · rw [o 23 (by omega)] at h1
      rw [e 1 (by omega) (by omega)] at h2
      rw [e 0 (by omega) (by omega), e 3 (by omega) (by omega), e 4 (by omega) (by omega), o 12 (by omega)]
      exact ⟨fun q => t1.1 _ _ ((x s k h1 h2).1 q), fun q => kext_bx t1 ((x s k h1 h2).2 q)⟩
    · rw [o 21 (by omega)] at h1
      rw [e 14 (by omega) (by omega)] at h2
      rw [e 13 (by omega) (by omega), o 13 (by omega)]
      exact kext_bx t1 (w q k h1 h2)
    · rw [e 17 (by omega) (by omega)] at h2
      by_cases u : q = p
      · subst u; rw [z17] at h2; omega
      · have h1 := (lv 2 q (by omega) h1 (by omega)).1
        rw [e 16 (by omega) (by omega), e 15 (by omega) (by omega), o 14 (by omega)]
        exact t1.1 _ _ (z q k h1 h2)
  · intro i
    have := h.2.2.2.2.1 i
    rw [o 10 (by omega), o 15 (by omega), o 17 (by omega)]
    refine ⟨by omega, by omega, ?_, by omega⟩
    by_cases w : i = p
    · subst w; rw [a16p]; omega
    · rw [a16 i w]; omega
end KG
