/-! the kernel's heap: an item is unlinked as a whole -/
section KG
variable {G : gG} {n m n' m' fr rc rs : Nat} {A A' A0 : kA} {X X' : kX} {σ σ' σ0 σ1 σ2 : gS} {μ μ' ν : mS} {Q Q' Q0 : gO → gS → Prop}
theorem kSt_fre (hS : kSt G n m A X σ μ) {p i t : Nat} (ht : t = 15 + 15 * p + i) (hp : p < 6) (hi : i < 15) (h9 : μ 9 p = 1) (hm8 : ∀ s, A 23 s = 1 → μ 1 s ≤ 8) (e : ∀ b j, ¬ (b ≤ 2 ∧ j = t) → ¬ ((b = 3 ∨ b = 4) ∧ 8 * t ≤ j ∧ j < 8 * t + 8) → ¬ (b = 5 ∧ j = 15 * p + i) → b ≠ 7 → μ' b j = μ b j) (h5 : μ' 5 (15 * p + i) = 1) (h0 : μ' 0 t = 0) {e1 e3 : gE} (he1 : e1 = .inr (4, 15, .inr (.inl (va_up (fun s => if s < 15 ∧ μ 5 (15 * p + s) = 1 ∧ μ 0 (15 + 15 * p + s) ≠ 0 then some (A 3 (15 + 15 * p + s)) else none) i none)))) (he3 : e3 = .inr (1, 15, .inl (va_up (fun s => if s < 15 ∧ μ 5 (15 * p + s) = 1 ∧ μ 0 (15 + 15 * p + s) = 0 then 1 else 0) i 1))) : kSt G n m (aup A 23 t 0) X (gset (gset σ.1 (A 2 p + 1) e1) (A 2 p + 3) e3, σ.2) μ' := by
  have o : ∀ k, k ≠ 23 → aup A 23 t 0 k = A k := fun k hk => by funext j; exact if_neg (fun y => hk y.1)
  have f23 : ∀ s, aup A 23 t 0 23 s = 1 → s ≠ t ∧ A 23 s = 1 := fun s h => by
    unfold aup at h
    by_cases z : s = t
    · rw [if_pos ⟨rfl, z⟩] at h; omega
    · rw [if_neg (fun y => z y.2)] at h; exact ⟨z, h⟩
  have u : ∀ b, 5 < b → b ≠ 7 → μ' b = μ b := fun b h1 h2 => by funext j; exact e b j (by omega) (by omega) (by omega) h2
  have u0 : ∀ b s, b ≤ 2 → s ≠ t → μ' b s = μ b s := fun b s h1 h2 => e b s (by omega) (by omega) (by omega) (by omega)
  have u3 : ∀ b s k, b = 3 ∨ b = 4 → s ≠ t → k < 8 → μ' b (8 * s + k) = μ b (8 * s + k) := fun b s k h1 h2 h3 => e b _ (by omega) (by omega) (by omega) (by omega)
  have u5 : ∀ j, j ≠ 15 * p + i → μ' 5 j = μ 5 j := fun j hj => e 5 j (by omega) (by omega) (by omega) (by omega)
  have l22 : A 22 p = 1 := (hS.2.1.2.1 p hp).2.1.mpr h9
  have hR1 : kRep G n (aup A 23 t 0) X σ μ := by
    refine ksub hS.1 (fun k q h7 hl => ?_) (o 30 (by omega)) ?_ (fun q => by rw [o 10 (by omega), o 15 (by omega), o 16 (by omega), o 17 (by omega)]; exact hS.1.2.2.2.2.1 q)
    · have lv : A (20 + k) q = 1 := by
        by_cases z : k = 3
        · subst z; exact (f23 q hl).2
        · rw [o _ (by omega)] at hl; exact hl
      refine ⟨lv, by rw [o k (by omega)], fun j => ?_⟩
      rcases k with _ | _ | _ | _ | _ | _ | _ | k
      · rcases q with _ | q
        · rcases j with _ | _ | _ | _ | j
          · simp only [kcell, kc0, o 0 (by omega)]
          · simp only [kcell, kc0, o 3 (by omega)]
          · simp only [kcell, kc0, o 1 (by omega)]
          · simp only [kcell, kc0, o 10 (by omega), o 26 (by omega), o 6 (by omega), o 18 (by omega)]
          · rfl
        · rfl
      · simp only [kcell]; unfold kc1; rw [o 1 (by omega), o 2 (by omega), o 4 (by omega), o 9 (by omega), o 13 (by omega), o 15 (by omega)]
      · simp only [kcell]; unfold kc2; rw [o 1 (by omega), o 2 (by omega), o 3 (by omega), o 5 (by omega), o 14 (by omega), o 16 (by omega), o 19 (by omega)]
      · simp only [kcell]; unfold kslot kcF kcL; rw [o 3 (by omega), o 12 (by omega), o 17 (by omega)]
      · rfl
      · rfl
      · simp only [kcell, o 2 (by omega), o 11 (by omega), o 18 (by omega)]
      · omega
    · obtain ⟨a, b, c⟩ := hS.1.2.2.2.1
      refine ⟨fun s k h1 h2 => ?_, fun q k h1 h2 => ?_, fun q k h1 h2 => ?_⟩
      · rw [o 12 (by omega)]; exact a s k (f23 s h1).2 h2
      · rw [o 21 (by omega)] at h1; rw [o 13 (by omega)]; exact b q k h1 h2
      · rw [o 22 (by omega)] at h1; rw [o 14 (by omega)]; exact c q k h1 h2
  have hR2 := kset2 (A' := aup A 23 t 0) (μ' := μ') (n' := n) (e' := e1) (e2 := e3) hR1 2 p 1 (by rw [show 20 + 2 = 22 from rfl, o 22 (by omega)]; exact l22) rfl 2 p 3 (by rw [show 20 + 2 = 22 from rfl, o 22 (by omega)]; exact l22) rfl (by omega) (fun _ _ => rfl) ?_ ?_ ?_ ?_ (fun q => by rw [o 10 (by omega), o 15 (by omega), o 16 (by omega), o 17 (by omega)]; exact hS.1.2.2.2.2.1 q)
  · rw [o 2 (by omega)] at hR2
    refine ⟨hR2, ?_, hS.2.2⟩
    obtain ⟨c1, c2, c3, c4, c5, c6⟩ := hS.2.1
    unfold kCon
    rw [o 20 (by omega), o 21 (by omega), o 22 (by omega), o 9 (by omega), o 19 (by omega), o 24 (by omega), o 25 (by omega), o 18 (by omega), o 26 (by omega), o 11 (by omega), u 8 (by omega) (by omega), u 9 (by omega) (by omega), u 11 (by omega) (by omega), u 18 (by omega) (by omega), u 20 (by omega) (by omega), u 12 (by omega) (by omega)]
    refine ⟨c1, c2, fun s hs => ?_, c4, c5, fun j => ?_⟩
    · by_cases z : s = t
      · have : aup A 23 t 0 23 s = 0 := if_pos ⟨rfl, z⟩
        rw [this, z, h0]
        constructor
        · intro y; omega
        · intro y; exact absurd rfl y.1
      · have : aup A 23 t 0 23 s = A 23 s := if_neg (fun y => z y.2)
        rw [this, u0 0 s (by omega) z]
        by_cases y : 15 ≤ s
        · rw [u5 (s - 15) (by omega)]; exact c3 s hs
        · have := c3 s hs
          constructor
          · intro w; exact ⟨(this.mp w).1, fun q => absurd q y⟩
          · intro w; exact this.mpr ⟨w.1, fun q => absurd q y⟩
    · have := c6 j
      rw [u 6 (by omega) (by omega), u 8 (by omega) (by omega), u 9 (by omega) (by omega), u 10 (by omega) (by omega)]
      refine ⟨?_, this.2⟩
      by_cases z : j = 15 * p + i
      · rw [z, h5]; exact Or.inr rfl
      · rw [u5 j z]; exact this.1
  · rw [he1]
    refine congrArg (fun f => some (Sum.inr (4, 15, Sum.inr (Sum.inl f)))) (funext fun s => ?_)
    rw [o 3 (by omega)]
    simp only [va_up]
    by_cases z : s = i
    · rw [if_pos z, z, if_neg (by rw [← ht, h0]; omega)]
    · rw [if_neg z]
      by_cases y : s < 15
      · rw [u5 _ (by omega), u0 0 _ (by omega) (by omega)]
      · rw [if_neg (fun w => y w.1), if_neg (fun w => y w.1)]
  · rw [he3]
    refine congrArg (fun f => some (Sum.inr (1, 15, Sum.inl f))) (funext fun s => ?_)
    simp only [va_up]
    by_cases z : s = i
    · rw [if_pos z, z, if_pos ⟨hi, h5, by rw [← ht]; exact h0⟩]
    · rw [if_neg z]
      by_cases y : s < 15
      · rw [u5 _ (by omega), u0 0 _ (by omega) (by omega)]
      · rw [if_neg (fun w => y w.1), if_neg (fun w => y w.1)]
  · intro k q j h7 hl hn1 hn2
    rcases k with _ | _ | _ | _ | _ | _ | _ | k
    · rcases q with _ | q
      · rcases j with _ | _ | _ | _ | j
        · simp only [kcell, kc0, u 24 (by omega) (by omega), u 25 (by omega) (by omega), u 22 (by omega) (by omega)]
        · refine congrArg (fun f => some (Sum.inr (4, 15, Sum.inr (Sum.inl f)))) (funext fun s => ?_)
          by_cases y : s < 15
          · rw [u0 0 s (by omega) (by omega)]
          · rw [if_neg (fun w => y w.1), if_neg (fun w => y w.1)]
        · simp only [kcell, kc0, u 8 (by omega) (by omega)]
        · rfl
        · rfl
      · rfl
    · simp only [kcell]; unfold kc1; rw [u 10 (by omega) (by omega), u 11 (by omega) (by omega), u 14 (by omega) (by omega), u 18 (by omega) (by omega)]
    · rcases j with _ | _ | _ | _ | _ | _ | _ | j
      · rfl
      · have w : q ≠ p := fun y => hn1 ⟨rfl, y, rfl⟩
        refine congrArg (fun f => some (Sum.inr (4, 15, Sum.inr (Sum.inl f)))) (funext fun s => ?_)
        by_cases y : s < 15
        · rw [u5 _ (by omega), u0 0 _ (by omega) (by omega)]
        · rw [if_neg (fun w => y w.1), if_neg (fun w => y w.1)]
      · simp only [kcell, kc2, u 6 (by omega) (by omega)]
      · have w : q ≠ p := fun y => hn2 ⟨rfl, y, rfl⟩
        refine congrArg (fun f => some (Sum.inr (1, 15, Sum.inl f))) (funext fun s => ?_)
        by_cases y : s < 15
        · rw [u5 _ (by omega), u0 0 _ (by omega) (by omega)]
        · rw [if_neg (fun w => y w.1), if_neg (fun w => y w.1)]
      · simp only [kcell, kc2, u 17 (by omega) (by omega)]
      · simp only [kcell, kc2, u 17 (by omega) (by omega)]
      · simp only [kcell, kc2, u 20 (by omega) (by omega)]
      · rfl
    · obtain ⟨z, lv⟩ := f23 q hl
      have ff : (fun k : Nat => if k < 8 ∧ (k : Int) < μ 1 q then μ' 3 (8 * q + k) else 0) = fun k : Nat => if k < 8 ∧ (k : Int) < μ 1 q then μ 3 (8 * q + k) else 0 := funext fun k => by
        by_cases y : k < 8
        · rw [u3 3 q k (by omega) z y]
        · rw [if_neg (fun w => y w.1), if_neg (fun w => y w.1)]
      simp only [kcell]; unfold kslot kcF kcL; rw [u0 0 q (by omega) z, u0 1 q (by omega) z, u0 2 q (by omega) z, ff]
    · simp only [kcell, u 18 (by omega) (by omega), u 19 (by omega) (by omega)]
    · simp only [kcell, u 20 (by omega) (by omega), u 21 (by omega) (by omega)]
    · rfl
    · omega
  · obtain ⟨a, b, c⟩ := hR1.2.2.2.1
    refine ⟨fun s k h1 h2 => ?_, fun q k h1 h2 => ?_, fun q k h1 h2 => ?_⟩
    · obtain ⟨z, lv⟩ := f23 s h1
      rw [u0 1 s (by omega) z] at h2
      have := hm8 s lv
      rw [u0 0 s (by omega) z, u3 3 s k (by omega) z (by omega), u3 4 s k (by omega) z (by omega)]
      exact a s k h1 h2
    · rw [u 14 (by omega) (by omega)] at h2
      rw [u 13 (by omega) (by omega)]; exact b q k h1 h2
    · rw [u 17 (by omega) (by omega)] at h2
      rw [u 15 (by omega) (by omega), u 16 (by omega) (by omega)]; exact c q k h1 h2
end KG
