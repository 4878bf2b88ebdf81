/-! the kernel's heap: a file changes -/
section KF
variable {G : gG} {n m n' m' fr rc rs : Nat} {A A' : kA} {X X' : kX} {σ σ' σ2 : gS} {μ μ' : mS} {Q : gO → gS → Prop}
theorem kslot_1 {s j : Nat} (h : μ 0 s = 1) : kcell G A μ 3 s j = kcF A μ s j := by
  show kslot A μ s j = _; unfold kslot; rw [if_pos h]
theorem kr_fil2 (h : kRep G n A X σ μ) {s : Nat} (hl : A 23 s = 1) (hk : μ 0 s = 1) (e : ∀ b j, ¬ ((b = 1 ∨ b = 2) ∧ j = s) → ¬ (b = 3 ∧ 8 * s ≤ j ∧ j < 8 * s + 8) → μ' b j = μ b j) (hm8 : ∀ t, A 23 t = 1 → μ 1 t ≤ 8) {e1 e0 : gE} (he1 : e1 = .inr (0, 8, .inl (fun k => if k < 8 ∧ (k : Int) < μ' 1 s then μ' 3 (8 * s + k) else 0))) (he0 : e0 = .inl (6, [vr (A 3 s + 1), vi (μ' 1 s), vi (μ' 2 s)])) : kRep G n A X (gset (gset σ.1 (A 3 s + 1) e1) (A 3 s) e0, σ.2) μ' := by
  subst he1; subst he0
  have ea : ∀ b, b = 0 ∨ 4 ≤ b → μ' b = μ b := fun b hb => by funext j; exact e b j (by omega) (by omega)
  have hk' : μ' 0 s = 1 := by rw [ea 0 (by omega)]; exact hk
  have ks : ∀ t, t ≠ s → μ' 1 t = μ 1 t ∧ μ' 2 t = μ 2 t ∧ ∀ k, k < 8 → μ' 3 (8 * t + k) = μ 3 (8 * t + k) := fun t ht => ⟨e 1 t (by omega) (by omega), e 2 t (by omega) (by omega), fun k hk => e 3 _ (by omega) (by omega)⟩
  refine kset2 h 3 s 1 hl (kslot_1 hk) 3 s 0 hl (kslot_1 hk) (by omega) (fun _ _ => rfl) (kslot_1 hk') (kslot_1 hk') ?_ ?_ h.2.2.2.2.1
  · intro k i j h7 hl2 hne hne2
    rcases k with _ | _ | _ | _ | _ | _ | _ | k
    · rcases i with _ | i
      · rcases j with _ | _ | _ | _ | j
        · simp only [kcell, kc0, ea 24 (by omega), ea 25 (by omega), ea 22 (by omega)]
        · simp only [kcell, kc0, ea 0 (by omega)]
        · simp only [kcell, kc0, ea 8 (by omega)]
        · rfl
        · rfl
      · rfl
    · simp only [kcell]; unfold kc1; rw [ea 10 (by omega), ea 11 (by omega), ea 14 (by omega), ea 18 (by omega)]
    · simp only [kcell]; unfold kc2; rw [ea 0 (by omega), ea 5 (by omega), ea 6 (by omega), ea 17 (by omega), ea 20 (by omega)]
    · by_cases z : i = s
      · subst z
        rw [show (0 + 1 + 1 + 1) = 3 from rfl, kslot_1 hk, kslot_1 hk']
        rcases j with _ | _ | j
        · exact absurd ⟨rfl, rfl, rfl⟩ hne2
        · exact absurd ⟨rfl, rfl, rfl⟩ hne
        · rfl
      · obtain ⟨k1, k2, k3⟩ := ks i z
        have f2 : (fun k : Nat => if k < 8 ∧ (k : Int) < μ 1 i then μ' 3 (8 * i + k) else 0) = fun k : Nat => if k < 8 ∧ (k : Int) < μ 1 i then μ 3 (8 * i + k) else 0 := funext fun k => by
          by_cases w : k < 8
          · rw [k3 k w]
          · rw [if_neg (fun q => w q.1), if_neg (fun q => w q.1)]
        simp only [kcell]; unfold kslot kcF kcL; rw [ea 0 (by omega), k1, k2, f2]
    · simp only [kcell, ea 18 (by omega), ea 19 (by omega)]
    · simp only [kcell, ea 20 (by omega), ea 21 (by omega)]
    · rfl
    · omega
  · obtain ⟨a, b, c⟩ := h.2.2.2.1
    refine ⟨fun t k h1 h2 => ?_, fun q k h1 h2 => ?_, fun q k h1 h2 => ?_⟩
    · by_cases z : t = s
      · subst z
        exact ⟨fun q => by omega, fun q => by omega⟩
      · obtain ⟨k1, k2, k3⟩ := ks t z
        rw [k1] at h2
        have m8 := hm8 t h1
        rw [ea 0 (by omega), ea 4 (by omega), k3 k (by omega)]
        exact a t k h1 h2
    · rw [ea 13 (by omega)]; rw [ea 14 (by omega)] at h2; exact b q k h1 h2
    · rw [ea 15 (by omega), ea 16 (by omega)]; rw [ea 17 (by omega)] at h2; exact c q k h1 h2
end KF
