/-! the kernel's heap: changes -/
section KU
variable {G : gG} {n m n' m' fr : Nat} {A A' : kA} {X X' : kX} {σ σ' : gS} {μ μ' : mS} {Q : gO → gS → Prop}
/-- the list of transactions: those of S by age -/
def kTl (A : kA) (S : Nat → Prop) (g : Nat → Int) : Prop := A 18 0 ≤ 6 ∧ (0 < A 18 0 → A 26 0 = 1) ∧ (∀ k, k < A 18 0 → A 11 k < 6 ∧ S (A 11 k)) ∧ (∀ q, q < 6 → S q → ∃ k, k < A 18 0 ∧ A 11 k = q) ∧ (∀ k k', k < k' → k' < A 18 0 → g (A 11 k) < g (A 11 k'))
theorem kCon_tl (h : kCon A μ) : kTl A (fun q => 0 < μ 11 q) (μ 12) := h.2.2.2.2.1
theorem kcell_c {k i j : Nat} (e : ∀ a, a = 0 ∨ a = 1 ∨ a = 2 ∨ a = 3 ∨ a = 5 ∨ a = 6 ∨ a = 8 ∨ a = 10 ∨ a = 11 ∨ a = 14 ∨ a = 17 ∨ a = 18 ∨ a = 19 ∨ a = 20 ∨ a = 21 → μ' a = μ a) (h0 : ¬ (k = 0 ∧ i = 0 ∧ j = 0)) : kcell G A μ' k i j = kcell G A μ k i j := by
  rcases k with _ | _ | _ | _ | _ | _ | _ | k
  · rcases i with _ | i
    · rcases j with _ | _ | _ | _ | j
      · exact absurd ⟨rfl, rfl, rfl⟩ h0
      · simp only [kcell, kc0, e 0 (by omega)]
      · simp only [kcell, kc0, e 8 (by omega)]
      · rfl
      · rfl
    · rfl
  · simp only [kcell]; unfold kc1; rw [e 10 (by omega), e 11 (by omega), e 14 (by omega), e 18 (by omega)]
  · simp only [kcell]; unfold kc2; rw [e 0 (by omega), e 5 (by omega), e 6 (by omega), e 17 (by omega), e 20 (by omega)]
  · simp only [kcell]; unfold kslot kcF kcL; rw [e 0 (by omega), e 1 (by omega), e 2 (by omega), e 3 (by omega)]
  · simp only [kcell, e 18 (by omega), e 19 (by omega)]
  · simp only [kcell, e 20 (by omega), e 21 (by omega)]
  · rfl
  · rfl
theorem kr_K0 (h : kRep G n A X σ μ) (hl : A 20 0 = 1) (e : ∀ a, ¬ (a = 22 ∨ a = 24 ∨ a = 25) → μ' a = μ a) {e' : gE} (he : e' = .inl (0, [vr (A 0 0 + 1), vr (A 0 0 + 2), vr (A 0 0 + 3), vi (μ' 24 0), vi (μ' 25 0), vi (μ' 22 2), vi (μ' 22 3), vi (μ' 22 4), vi (μ' 22 5)])) : kRep G n A X (gset σ.1 (A 0 0) e', σ.2) μ' := by
  subst he
  exact kset h 0 0 0 hl rfl (fun _ _ => rfl) rfl (fun k i j _ _ hne => kcell_c (fun a ha => e a (by omega)) hne) (kimm_c h.2.2.2.1 fun a ha => e a (by omega)) h.2.2.2.2.1
theorem kr_P0 (h : kRep G n A X σ μ) {p v : Nat} {d t : Int} (hl : A 21 p = 1) {e' : gE} (he : e' = .inl (2, [vr (A 1 p + 1), vr (A 1 p + 2), .inr (.inl (if v = 1 then some (A 2 p) else none)), vi d, vi t])) : kRep G n (aup A 9 p v) X (gset σ.1 (A 1 p) e', σ.2) (mup (mup μ 11 p d) 10 p t) := by
  subst he
  refine kset (A' := aup A 9 p v) h 1 p 0 hl rfl (fun k hk => ?_) ?_ ?_ ?_ ?_
  · funext b; exact if_neg (by omega)
  · simp [kcell, kc1, mup, aup]
  · intro k i j hk hl hne
    rcases k with _ | _ | _ | _ | _ | _ | _ | k <;> first | rfl | (exfalso; omega) | (rcases j with _ | _ | _ | _ | _ | _ | _ | j <;> first | rfl | (simp only [kcell, kc0, kc1, kc2, kslot, kcF, kcL, mup, aup]; grind))
  · exact kimm_up (kimm_up h.2.2.2.1 (by omega)) (by omega)
  · intro i; exact h.2.2.2.2.1 i
theorem kr_seen (h : kRep G n A X σ μ) {p i : Nat} {v : Int} (hl : A 22 p = 1) (hi : i < 15) {e' : gE} (he : e' = .inr (1, 15, .inl (va_up (fun s => if s < 15 then μ 6 (15 * p + s) else 0) i v))) : kRep G n A X (gset σ.1 (A 2 p + 2) e', σ.2) (mup μ 6 (15 * p + i) v) := by
  subst he
  refine kset h 2 p 2 hl rfl (fun _ _ => rfl) ?_ ?_ (kimm_up h.2.2.2.1 (by omega)) h.2.2.2.2.1
  · refine congrArg (fun f => some (Sum.inr (1, 15, Sum.inl f))) (funext fun s => ?_)
    simp only [mup, va_up]
    grind
  · intro k i' j hk hl hne
    rcases k with _ | _ | _ | _ | _ | _ | _ | k <;> first | rfl | (exfalso; omega) | (rcases j with _ | _ | _ | _ | _ | _ | _ | j <;> first | rfl | (simp only [kcell, kc0, kc1, kc2, kslot, kcF, kcL, mup]; grind))
def arem (A : kA) (i : Nat) : kA := fun k j => if k = 10 ∧ j = 0 then A 10 0 + 1 else if k = 18 ∧ j = 0 then A 18 0 - 1 else if k = 11 ∧ i ≤ j then A 11 (j + 1) else A k j
theorem kcell_A {k i j : Nat} (e : ∀ a, ¬ (a = 10 ∨ a = 11 ∨ a = 18) → A' a = A a) (h0 : ¬ (k = 0 ∧ i = 0 ∧ j = 3)) (h1 : ¬ (k = 6 ∧ i = 0 ∧ j = 0)) : kcell G A' μ k i j = kcell G A μ k i j := by
  rcases k with _ | _ | _ | _ | _ | _ | _ | k
  · rcases i with _ | i
    · rcases j with _ | _ | _ | _ | j
      · simp only [kcell, kc0, e 0 (by omega)]
      · simp only [kcell, kc0, e 3 (by omega)]
      · simp only [kcell, kc0, e 1 (by omega)]
      · exact absurd ⟨rfl, rfl, rfl⟩ h0
      · rfl
    · rfl
  · simp only [kcell]; unfold kc1; rw [e 1 (by omega), e 2 (by omega), e 4 (by omega), e 9 (by omega), e 13 (by omega), e 15 (by omega)]
  · simp only [kcell]; unfold kc2; rw [e 1 (by omega), e 2 (by omega), e 3 (by omega), e 5 (by omega), e 14 (by omega), e 16 (by omega), e 19 (by omega)]
  · simp only [kcell]; unfold kslot kcF kcL; rw [e 3 (by omega), e 12 (by omega), e 17 (by omega)]
  · rfl
  · rfl
  · rcases i with _ | i
    · rcases j with _ | j
      · exact absurd ⟨rfl, rfl, rfl⟩ h1
      · rfl
    · rfl
  · rfl
theorem kr_rem (h : kRep G n A X σ μ) (hl : A 20 0 = 1) (hl2 : A 26 0 = 1) {i : Nat} (hi : i < A 18 0) {e1 e2 : gE} (he1 : e1 = .inr (3, 10, .inr (.inl (va_up (va_cpy (fun k => if k < A 18 0 then some (A 2 (A 11 k)) else none) (fun k => if k < A 18 0 then some (A 2 (A 11 k)) else none) (i + 1) i (A 18 0 - 1 - i)) (A 18 0 - 1) none)))) (he2 : e2 = .inl (10, [vi ((A 10 0 : Nat) + 1 : Int), vr (A 6 0), vi ((A 18 0 : Nat) - 1 : Int)])) : kRep G (n + 1) (arem A i) X (gset (gset σ.1 (A 6 0) e1) (A 0 0 + 3) e2, σ.2) μ := by
  subst he1; subst he2
  refine kset2 (A' := arem A i) h 6 0 0 hl2 rfl 0 0 3 hl rfl (by omega) (fun k hk => ?_) ?_ ?_ ?_ ?_ ?_
  · funext b; simp only [arem]; grind
  · refine congrArg (fun f => some (Sum.inr (3, 10, Sum.inr (Sum.inl f)))) (funext fun k => ?_)
    simp only [arem, va_up, va_cpy]
    grind
  · simp only [kcell, kc0, arem]
    simp [hl2]
    omega
  · intro k i' j hk hl hne hne2
    exact kcell_A (fun a ha => by funext b; simp only [arem]; grind) hne2 hne
  · exact h.2.2.2.1
  · intro j
    have := h.2.2.2.2.1 j
    have := h.2.2.2.2.1 0
    simp only [arem]
    grind
end KU
