/-! removing a name that is there once -/
def mrmf (c k0 k : Nat) (μ : mS) : mS := fun a x => if (a = 3 ∨ a = 4) ∧ 8 * c + k0 ≤ x ∧ x + 1 < 8 * c + k then μ a (x + 1) else μ a x
theorem mremk_1 {c : Nat} {n : Int} {μ : mS} {k0 N : Nat} (h0 : μ 3 (8 * c + k0) = n) (hn : ∀ j, j < N → j ≠ k0 → ¬ μ 3 (8 * c + j) = n) : ∀ k, k ≤ N → mremk c n k μ = (if k ≤ k0 then k else k - 1, mrmf c k0 k μ) := by
  intro k
  induction k with
  | zero =>
    intro _
    rw [mremk, if_pos (by omega)]
    congr 1
    funext a x; simp only [mrmf]; grind
  | succ k ih =>
    intro hk
    rw [mremk, ih (by omega)]
    dsimp only
    have v : mrmf c k0 k μ 3 (8 * c + k) = μ 3 (8 * c + k) := by simp only [mrmf]; grind
    have v4 : mrmf c k0 k μ 4 (8 * c + k) = μ 4 (8 * c + k) := by simp only [mrmf]; grind
    by_cases e : k = k0
    · subst e
      rw [if_pos (v.trans h0), if_pos (by omega), if_neg (by omega)]
      refine Prod.ext (by dsimp only; omega) ?_
      funext a x; simp only [mrmf]; grind
    · rw [if_neg (by rw [v]; exact hn k (by omega) e), v, v4]
      by_cases l : k ≤ k0
      · rw [if_pos l, if_pos (by omega)]
        refine Prod.ext rfl ?_
        funext a x; simp only [mrmf, mup]; grind
      · rw [if_neg l, if_neg (by omega)]
        refine Prod.ext (by dsimp only; omega) ?_
        funext a x; simp only [mrmf, mup]; grind
theorem mremk_n {c : Nat} {n : Int} {μ : mS} {N : Nat} (hn : ∀ j, j < N → ¬ μ 3 (8 * c + j) = n) : ∀ k, k ≤ N → mremk c n k μ = (k, μ) := by
  intro k
  induction k with
  | zero => intro _; rfl
  | succ k ih =>
    intro hk
    rw [mremk, ih (by omega)]
    dsimp only
    rw [if_neg (hn k (by omega))]
    refine Prod.ext rfl ?_
    funext a x; simp only [mup]; grind
