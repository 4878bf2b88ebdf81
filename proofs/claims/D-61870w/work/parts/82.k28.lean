/-! the kernel's heap: a directory or a pipe changes -/
section KF
variable {G : gG} {n m n' m' fr rc rs : Nat} {A A' : kA} {X X' : kX} {σ σ' σ2 : gS} {μ μ' : mS} {Q : gO → gS → Prop}
theorem kslot_2 {s j : Nat} (h : μ 0 s = 2) : kcell G A μ 3 s j = kcL 1 5 A μ s j := by
  show kslot A μ s j = _; unfold kslot; rw [if_neg (by omega), if_pos h]
theorem kslot_p {s j : Nat} (h : μ 0 s = 3) : kcell G A μ 3 s j = kcL 7 6 A μ s j := by
  show kslot A μ s j = _; unfold kslot; rw [if_neg (by omega), if_neg (by omega), if_pos h]
theorem kr_lst2 (h : kRep G n A X σ μ) {s c l : Nat} (hl : A 23 s = 1) (hc1 : ∀ j, kcell G A μ 3 s j = kcL c l A μ s j) (hc2 : ∀ j, kcell G A' μ' 3 s j = kcL c l A' μ' s j) (e : ∀ b j, ¬ (b = 1 ∧ j = s) → ¬ ((b = 3 ∨ b = 4) ∧ 8 * s ≤ j ∧ j < 8 * s + 8) → μ' b j = μ b j) (eA : ∀ b j, ¬ (b = 17 ∧ j = s) → ¬ (b = 12 ∧ 8 * s ≤ j ∧ j < 8 * s + 8) → A' b j = A b j) (hm8 : ∀ t, A 23 t = 1 → μ 1 t ≤ 8)
    (hent : ∀ k : Nat, (k : Int) < μ' 1 s → (μ' 0 s = 2 → σ.1 (A' 12 (8 * s + k)) = some (.inl (8, [vi (μ' 3 (8 * s + k)), vi (μ' 4 (8 * s + k))]))) ∧ (μ' 0 s = 3 → gBx G σ (A' 12 (8 * s + k)) (μ' 3 (8 * s + k)))) (hn : n ≤ n') (hmc : A' 17 s ≤ n') {e1 e2 : gE} (he2 : kcL c l A' μ' s 2 = some e2) (he1 : kcL c l A' μ' s 1 = some e1) : kRep G n' A' X (gset (gset σ.1 (A 3 s + 2) e2) (A 3 s + 1) e1, σ.2) μ' := by
  have ea : ∀ b, ¬ (b = 1 ∨ b = 3 ∨ b = 4) → μ' b = μ b := fun b hb => by funext j; exact e b j (by omega) (by omega)
  have aa : ∀ b, ¬ (b = 17 ∨ b = 12) → A' b = A b := fun b hb => by funext j; exact eA b j (by omega) (by omega)
  have ks : ∀ t, t ≠ s → μ' 1 t = μ 1 t ∧ A' 17 t = A 17 t ∧ ∀ k, k < 8 → μ' 3 (8 * t + k) = μ 3 (8 * t + k) ∧ μ' 4 (8 * t + k) = μ 4 (8 * t + k) ∧ A' 12 (8 * t + k) = A 12 (8 * t + k) := fun t ht => ⟨e 1 t (by omega) (by omega), eA 17 t (by omega) (by omega), fun k hk => ⟨e 3 _ (by omega) (by omega), e 4 _ (by omega) (by omega), eA 12 _ (by omega) (by omega)⟩⟩
  refine kset2 h 3 s 2 hl (hc1 2) 3 s 1 hl (hc1 1) (by omega) (fun k hk => aa k (by omega)) ((hc2 2).trans he2) ((hc2 1).trans he1) ?_ ?_ ?_
  · intro k i j h7 hl2 hne hne2
    rcases k with _ | _ | _ | _ | _ | _ | _ | k
    · rcases i with _ | i
      · rcases j with _ | _ | _ | _ | j
        · simp only [kcell, kc0, ea 24 (by omega), ea 25 (by omega), ea 22 (by omega), aa 0 (by omega)]
        · simp only [kcell, kc0, ea 0 (by omega), aa 3 (by omega)]
        · simp only [kcell, kc0, ea 8 (by omega), aa 1 (by omega)]
        · simp only [kcell, kc0, aa 10 (by omega), aa 26 (by omega), aa 6 (by omega), aa 18 (by omega)]
        · rfl
      · rfl
    · simp only [kcell]; unfold kc1; rw [ea 10 (by omega), ea 11 (by omega), ea 14 (by omega), ea 18 (by omega), aa 1 (by omega), aa 2 (by omega), aa 4 (by omega), aa 9 (by omega), aa 13 (by omega), aa 15 (by omega)]
    · simp only [kcell]; unfold kc2; rw [ea 0 (by omega), ea 5 (by omega), ea 6 (by omega), ea 17 (by omega), ea 20 (by omega), aa 1 (by omega), aa 2 (by omega), aa 3 (by omega), aa 5 (by omega), aa 14 (by omega), aa 16 (by omega), aa 19 (by omega)]
    · by_cases z : i = s
      · subst z
        rw [show (0 + 1 + 1 + 1) = 3 from rfl, hc1, hc2]
        rcases j with _ | _ | _ | j
        · simp only [kcL, aa 3 (by omega)]
        · exact absurd ⟨rfl, rfl, rfl⟩ hne2
        · exact absurd ⟨rfl, rfl, rfl⟩ hne
        · rfl
      · obtain ⟨k1, k2, k3⟩ := ks i z
        have m8 := hm8 i hl2
        have f1 : (fun k : Nat => if (k : Int) < μ 1 i then some (A' 12 (8 * i + k)) else none) = fun k : Nat => if (k : Int) < μ 1 i then some (A 12 (8 * i + k)) else none := funext fun k => by
          by_cases w : (k : Int) < μ 1 i
          · rw [if_pos w, if_pos w, (k3 k (by omega)).2.2]
          · rw [if_neg w, if_neg w]
        have f2 : (fun k : Nat => if k < 8 ∧ (k : Int) < μ 1 i then μ' 3 (8 * i + k) else 0) = fun k : Nat => if k < 8 ∧ (k : Int) < μ 1 i then μ 3 (8 * i + k) else 0 := funext fun k => by
          by_cases w : k < 8
          · rw [(k3 k w).1]
          · rw [if_neg (fun q => w q.1), if_neg (fun q => w q.1)]
        simp only [kcell]; unfold kslot kcF kcL; rw [ea 0 (by omega), ea 2 (by omega), k1, k2, f1, f2, aa 3 (by omega)]
    · simp only [kcell, ea 18 (by omega), ea 19 (by omega)]
    · simp only [kcell, ea 20 (by omega), ea 21 (by omega)]
    · simp only [kcell, aa 2 (by omega), aa 11 (by omega), aa 18 (by omega)]
    · omega
  · obtain ⟨a, b, c⟩ := h.2.2.2.1
    refine ⟨fun t k h1 h2 => ?_, fun q k h1 h2 => ?_, fun q k h1 h2 => ?_⟩
    · by_cases z : t = s
      · subst z; exact hent k h2
      · obtain ⟨k1, k2, k3⟩ := ks t z
        rw [k1] at h2
        rw [aa 23 (by omega)] at h1
        have m8 := hm8 t h1
        have k8 := k3 k (by omega)
        rw [ea 0 (by omega), k8.1, k8.2.1, k8.2.2]
        exact a t k h1 h2
    · rw [aa 21 (by omega)] at h1
      rw [ea 13 (by omega), aa 13 (by omega)]; rw [ea 14 (by omega)] at h2; exact b q k h1 h2
    · rw [aa 22 (by omega)] at h1
      rw [ea 15 (by omega), ea 16 (by omega), aa 14 (by omega)]; rw [ea 17 (by omega)] at h2; exact c q k h1 h2
  · intro j
    have := h.2.2.2.2.1 j
    rw [aa 10 (by omega), aa 15 (by omega), aa 16 (by omega)]
    refine ⟨by omega, by omega, by omega, ?_⟩
    by_cases z : j = s
    · subst z; exact hmc
    · rw [(ks j z).2.1]; omega
end KF
