/-! the kernel's members: dropping -/
section KD
variable {G : gG} {n m n' m' fr : Nat} {A A' : kA} {X X' : kX} {σ σ' : gS} {μ μ' : mS} {Q : gO → gS → Prop}
theorem kimm_A (h : kimm G A σ μ) (e : ∀ a, a = 12 ∨ a = 13 ∨ a = 14 ∨ a = 21 ∨ a = 22 ∨ a = 23 → A' a = A a) : kimm G A' σ μ := by
  unfold kimm at h ⊢
  rw [e 12 (by omega), e 13 (by omega), e 14 (by omega), e 21 (by omega), e 22 (by omega), e 23 (by omega)]
  exact h
def aback (A : kA) (x : Nat) : kA := fun k j => if k = 4 ∧ j = x then A 5 x else if k = 24 ∧ j = x then A 25 x else if k = 25 ∧ j = x then 0 else A k j
theorem aback_o {x k : Nat} (h : ¬ (k = 4 ∨ k = 24 ∨ k = 25)) : aback A x k = A k := by funext b; simp only [aback]; grind
theorem aback_j {x k j : Nat} (h : j ≠ x) : aback A x k j = A k j := by simp only [aback]; grind
theorem kr_back (h : kRep G n A X σ μ) {p d : Nat} (hd : d < 4) (hl : A 21 p = 1) {e' : gE} (he : e' = .inr (6, 4, .inr (.inl (va_up (fun d => if d < 4 ∧ 0 ≤ μ 18 (4 * p + d) then some (A 4 (4 * p + d)) else none) d (if 0 ≤ μ 20 (4 * p + d) then some (A 5 (4 * p + d)) else none))))) : kRep G n (aback A (4 * p + d)) X (gset σ.1 (A 1 p + 1) e', σ.2) (mup (mup μ 18 (4 * p + d) (μ 20 (4 * p + d))) 19 (4 * p + d) (μ 21 (4 * p + d))) := by
  subst he
  have r := ch1_ok (e' := .inr (6, 4, .inr (.inl (va_up (fun d => if d < 4 ∧ 0 ≤ μ 18 (4 * p + d) then some (A 4 (4 * p + d)) else none) d (if 0 ≤ μ 20 (4 * p + d) then some (A 5 (4 * p + d)) else none))))) h (k0 := 1) (i0 := p) (j0 := 1) hl rfl
  have hh := h.2.1 1 p 1 _ hl rfl
  generalize hx : 4 * p + d = x at *
  have f1 : ∀ k i, aback A x (20 + k) i = 1 → ¬ (k = 5 ∧ i = x) := by
    intro k i q e
    obtain ⟨rfl, rfl⟩ := e
    simp [aback] at q
  refine kmv h (fun k i => if k = 4 ∧ i = x then (5, x) else (k, i)) _ r.1 r.2.2 ?_ ?_ ?_ ?_ r.2.1 ?_ ?_
  · exact aback_o (by omega)
  · intro k i g1 g2
    have := f1 k i g2
    by_cases q : k = 4 ∧ i = x
    · obtain ⟨rfl, rfl⟩ := q
      simp [aback] at g2 ⊢
      exact g2
    · rw [if_neg q]
      refine ⟨g1, ?_, ?_⟩
      · simp only [aback] at g2; grind
      · simp only [aback]; grind
  · intro k i k' i' g1 g2 g3 g4 g5
    have a1 := f1 k i g3
    have a2 := f1 k' i' g4
    split at g5 <;> split at g5 <;> simp only [Prod.mk.injEq] at g5 <;> omega
  · intro k i j e g1 g2 g3
    have a1 := f1 k i g2
    by_cases q : k = 4 ∧ i = x
    · obtain ⟨rfl, rfl⟩ := q
      refine ⟨e, ?_, ?_⟩
      · rw [if_pos (show 4 = 4 ∧ i = i from ⟨rfl, rfl⟩), ← g3]
        simp only [kcell, mup]; simp
      · rw [if_pos (show 4 = 4 ∧ i = i from ⟨rfl, rfl⟩)]
        unfold ch1
        rw [if_neg (by simp)]; rfl
    · rw [if_neg q]
      unfold ch1
      by_cases q2 : k = 1 ∧ i = p ∧ j = 1
      · obtain ⟨rfl, rfl, rfl⟩ := q2
        refine ⟨_, rfl, ?_⟩
        rw [if_pos ⟨rfl, rfl, rfl⟩]
        refine Option.some.inj (Eq.trans ?_ g3)
        refine congrArg (fun f => some (Sum.inr (6, 4, Sum.inr (Sum.inl f)))) (funext fun s => ?_)
        simp only [mup, va_up, aback]
        subst hx
        grind
      · refine ⟨e, ?_, by dsimp only; rw [if_neg q2]; rfl⟩
        rw [← g3]
        rcases k with _ | _ | _ | _ | _ | _ | _ | k
        · rcases i with _ | i
          · rcases j with _ | _ | _ | _ | j <;> rfl
          · rfl
        · rcases j with _ | _ | _ | _ | j
          · simp only [kcell, kc1, mup, aback]; grind
          · refine congrArg (fun f => some (Sum.inr (6, 4, Sum.inr (Sum.inl f)))) (funext fun s => ?_)
            simp only [mup, aback]
            subst hx
            grind
          · simp only [kcell, kc1, mup, aback]; grind
          · simp only [kcell, kc1, mup, aback]; grind
          · rfl
        · simp only [kcell]; unfold kc2; rw [aback_o (k := 1) (by omega), aback_o (k := 2) (by omega), aback_o (k := 3) (by omega), aback_o (k := 5) (by omega), aback_o (k := 14) (by omega), aback_o (k := 16) (by omega), aback_o (k := 19) (by omega)]; rfl
        · simp only [kcell]; unfold kslot kcF kcL; rw [aback_o (k := 3) (by omega), aback_o (k := 12) (by omega), aback_o (k := 17) (by omega)]; rfl
        · have : i ≠ x := by omega
          simp only [kcell, mup]; grind
        · simp only [kcell, mup]; grind
        · rcases i with _ | i
          · rcases j with _ | j <;> rfl
          · rfl
        · omega
  · exact kimm_A (kimm_up (kimm_up (kimm_set h.2.2.2.1 hh.1 rfl) (by omega)) (by omega)) (fun a ha => aback_o (by omega))
  · intro i
    rw [aback_o (by omega), aback_o (by omega), aback_o (by omega), aback_o (by omega)]
    exact h.2.2.2.2.1 i
theorem kinj (h : kRep G n A X σ μ) {k i k' i' : Nat} (h1 : k < 7) (h2 : k' < 7) (h3 : A (20 + k) i = 1) (h4 : A (20 + k') i' = 1) (e : A k i = A k' i') : k = k' ∧ i = i' := h.2.2.1 k i k' i' h1 h2 h3 h4 e
/-- a transaction leaves the list, if it is there -/
theorem sX1_tlrem (hG : gGood G) {p : Nat} (hS : kSt G n m A X σ μ) (hp : p < 6) (ht : μ 9 p = 1) (hN : n ≤ 1000000) (hQ : ∀ A' σ' b, kRep G (n + 1) A' X σ' μ → σ'.2 = σ.2 → (∀ k, ¬ (k = 10 ∨ k = 11 ∨ k = 18) → A' k = A k) → kTl A' (fun q => q ≠ p ∧ 0 < μ 11 q) (μ 12) → σ'.1 (A 0 0) = σ.1 (A 0 0) → (∀ k i j e, ¬ (k = 0 ∨ k = 6) → A (20 + k) i = 1 → kcell G A μ k i j = some e → σ'.1 (A k i + j) = σ.1 (A k i + j)) → Q (.inl (some (vi b))) σ') : bx 0 (gOKb G mJ2_remove (fr + 4) [vr (A 0 0 + 3), vr (A 2 p)] σ Q) := by
  obtain ⟨t1, t2, t3, t4, t5⟩ := kCon_tl hS.2.1
  have hh := kK3 hS
  have hhx := kT0 hS hp ht
  have b0 := kKb hS
  have m0 := (hS.1.2.2.2.2.1 0).1
  have lT : A 22 p = 1 := (hS.2.1.2.1 p hp).2.1.mpr ht
  have hlive : ∀ k, k < A 18 0 → A 22 (A 11 k) = 1 := fun k hk => (hS.2.1.2.1 _ (t3 k hk).1).2.1.mpr ((hS.2.1.2.1 _ (t3 k hk).1).2.2.2.1 (t3 k hk).2)
  by_cases h0 : A 18 0 = 0
  · rw [h0] at hh
    refine sJ2_remove0 hG hh ?_
    refine hQ A σ 0 (kRep_le hS.1 (by omega)) rfl (fun _ _ => rfl) ⟨t1, t2, fun k hk => by omega, fun q hq h => ?_, t5⟩ rfl (fun _ _ _ _ _ _ _ => rfl)
    obtain ⟨k, hk, -⟩ := t4 q hq h.2
    omega
  · have l6 : A 26 0 = 1 := t2 (by omega)
    rw [if_pos l6] at hh
    have hhb := (hS.1.2.1 6 0 0 _ l6 rfl).1
    have b6 := (hS.1.2.1 6 0 0 _ l6 rfl).2.2.1
    refine sJ2_remove hG hh hhb hhx (by omega) b6 (by omega) (by omega) (by omega) (bx_in fun j y hy => ?_) (fun hno => ?_) (fun i hi hfi hno => ?_)
    · have hj : j < A 18 0 := by
        rcases Nat.lt_or_ge j (A 18 0) with q | q
        · exact q
        · rw [if_neg (by omega)] at hy; cases hy
      rw [if_pos hj] at hy
      cases hy
      exact ⟨4, Or.inl ⟨_, kT0 hS (t3 j hj).1 ((hS.2.1.2.1 _ (t3 j hj).1).2.2.2.1 (t3 j hj).2)⟩, by decide, by decide⟩
    · refine hQ A σ 0 (kRep_le hS.1 (by omega)) rfl (fun _ _ => rfl) ⟨t1, t2, fun k hk => ⟨(t3 k hk).1, fun e => ?_, (t3 k hk).2⟩, fun q hq h => t4 q hq h.2, t5⟩ rfl (fun _ _ _ _ _ _ _ => rfl)
      have := hno k (by omega)
      rw [if_pos hk, e] at this
      exact this rfl
    · have hi : i < A 18 0 := by omega
      rw [if_pos hi] at hfi
      have ei : A 11 i = p := (kinj hS.1 (by omega) (by omega) (hlive i hi) lT (Option.some.inj hfi)).2
      have e8 : ((A 18 0 : Nat) - 1 - (i : Int)).toNat = A 18 0 - 1 - i := by omega
      have e9 : ((A 18 0 : Nat) - 1 : Int).toNat = A 18 0 - 1 := by omega
      rw [e8, e9]
      have nw : ∀ k j, k < j → j < A 18 0 → A 11 k ≠ A 11 j := fun k j h1 h2 e => by
        have := t5 k j h1 h2
        rw [e] at this
        omega
      refine hQ (arem A i) _ 1 (kr_rem hS.1 hS.2.1.1 l6 hi rfl rfl) rfl (fun k hk => by funext b; simp only [arem]; grind) ?_ ?_ ?_
      · have d18 : arem A i 18 0 = A 18 0 - 1 := by simp [arem]
        have d26 : arem A i 26 0 = A 26 0 := by simp [arem]
        have d11 : ∀ k, arem A i 11 k = if i ≤ k then A 11 (k + 1) else A 11 k := fun k => by simp [arem]
        refine ⟨by omega, fun _ => by rw [d26]; exact l6, fun k hk => ?_, fun q hq h => ?_, fun k k' h1 h2 => ?_⟩
        · rw [d18] at hk
          rw [d11]
          split
          · exact ⟨(t3 _ (by omega)).1, fun e => nw i (k + 1) (by omega) (by omega) (by rw [ei, e]), (t3 _ (by omega)).2⟩
          · exact ⟨(t3 _ (by omega)).1, fun e => nw k i (by omega) (by omega) (by rw [ei, e]), (t3 _ (by omega)).2⟩
        · obtain ⟨k, hk, ek⟩ := t4 q hq h.2
          have : k ≠ i := by intro e; subst e; exact h.1 (by rw [← ek, ei])
          by_cases q1 : k < i
          · exact ⟨k, by omega, by rw [d11, if_neg (by omega)]; exact ek⟩
          · exact ⟨k - 1, by omega, by rw [d11, if_pos (by omega), show k - 1 + 1 = k by omega]; exact ek⟩
        · rw [d18] at h2
          rw [d11, d11]
          split <;> split <;> exact t5 _ _ (by omega) (by omega)
      · show gset (gset σ.1 _ _) _ _ _ = _
        have n1 : A 0 0 ≠ A 0 0 + 3 := by omega
        have n2 : A 0 0 ≠ A 6 0 := kne hS.1 (j := 0) (j' := 0) hS.2.1.1 rfl l6 rfl (by omega)
        rw [gset_ne n1, gset_ne n2]
      · intro k i' j e hk hl hc
        show gset (gset σ.1 _ _) _ _ _ = _
        have n1 : A k i' + j ≠ A 0 0 + 3 := kne hS.1 hl hc hS.2.1.1 (j' := 3) rfl (by omega)
        have n2 : A k i' + j ≠ A 6 0 := kne hS.1 hl hc l6 (j' := 0) rfl (by omega)
        rw [gset_ne n1, gset_ne n2]
end KD
