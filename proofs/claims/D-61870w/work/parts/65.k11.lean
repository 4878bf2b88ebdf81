/-! the kernel's members: sweeping, the last loop -/
section KW
variable {G : gG} {n m n' m' fr rc rs : Nat} {A A' : kA} {X X' : kX} {σ σ' : gS} {μ μ' : mS} {Q : gO → gS → Prop}
theorem kr_item0 (h : kRep G n A X σ μ) {i : Nat} (hi : i < 15) (hl : A 20 0 = 1) {e' : gE} (he : e' = .inr (4, 15, .inr (.inl (va_up (fun s => if s < 15 ∧ μ 0 s ≠ 0 then some (A 3 s) else none) i none)))) : kRep G n (aup A 23 i 0) X (gset σ.1 (A 0 0 + 1) e', σ.2) (mup μ 0 i 0) := by
  subst he
  have r := ch1_ok (e' := .inr (4, 15, .inr (.inl (va_up (fun s => if s < 15 ∧ μ 0 s ≠ 0 then some (A 3 s) else none) i none)))) h (k0 := 0) (i0 := 0) (j0 := 1) hl rfl
  have hh := h.2.1 0 0 1 _ hl rfl
  have o : ∀ k, k ≠ 23 → aup A 23 i 0 k = A k := fun k hk => by funext b; simp only [aup]; grind
  refine kmv h (fun k i => (k, i)) _ r.1 r.2.2 (o _ (by omega)) (fun k i' g1 g2 => ⟨g1, by simp only [aup] at g2; grind, by rw [o k (by omega)]⟩) (fun k i k' i' _ _ _ _ g => ⟨congrArg Prod.fst g, congrArg Prod.snd g⟩) (fun k i' j e g1 g2 g3 => ?_) r.2.1 ?_ (fun j => by rw [o _ (by omega), o _ (by omega), o _ (by omega), o _ (by omega)]; exact h.2.2.2.2.1 j)
  · unfold ch1
    by_cases q : k = 0 ∧ i' = 0 ∧ j = 1
    · obtain ⟨rfl, rfl, rfl⟩ := q
      refine ⟨_, rfl, ?_⟩
      rw [if_pos ⟨rfl, rfl, rfl⟩]
      refine Option.some.inj (Eq.trans ?_ g3)
      refine congrArg (fun f => some (Sum.inr (4, 15, Sum.inr (Sum.inl f)))) (funext fun s => ?_)
      simp only [mup, va_up, o 3 (by omega)]
      grind
    · refine ⟨e, ?_, by rw [if_neg q]; rfl⟩
      rw [← g3]
      rcases k with _ | _ | _ | _ | _ | _ | _ | k
      · rcases i' with _ | i'
        · rcases j with _ | _ | _ | _ | j
          · rfl
          · exact absurd ⟨rfl, rfl, rfl⟩ q
          · rfl
          · rfl
          · rfl
        · rfl
      · rcases j with _ | _ | _ | _ | j <;> rfl
      · rcases j with _ | _ | _ | _ | _ | _ | _ | j
        · rfl
        · refine congrArg (fun f => some (Sum.inr (4, 15, Sum.inr (Sum.inl f)))) (funext fun s => ?_)
          simp only [mup, o 3 (by omega)]; grind
        · rfl
        · refine congrArg (fun f => some (Sum.inr (1, 15, Sum.inl f))) (funext fun s => ?_)
          simp only [mup]; grind
        · rfl
        · rfl
        · rfl
        · rfl
      · have : i' ≠ i := by intro e; subst e; simp [aup] at g2
        simp only [kcell]; unfold kslot kcF kcL; rw [o 3 (by omega), o 12 (by omega), o 17 (by omega)]
        simp only [mup]; grind
      · rfl
      · rfl
      · rcases i' with _ | i'
        · rcases j with _ | j <;> rfl
        · rfl
      · omega
  · obtain ⟨a, b, c⟩ := kimm_set (e' := .inr (4, 15, .inr (.inl (va_up (fun s => if s < 15 ∧ μ 0 s ≠ 0 then some (A 3 s) else none) i none)))) h.2.2.2.1 hh.1 rfl
    refine ⟨fun s k h1 h2 => ?_, fun q k h1 h2 => ?_, fun q k h1 h2 => ?_⟩
    · have : s ≠ i := by intro e; subst e; simp [aup] at h1
      rw [o 12 (by omega)]
      have := a s k (by simp only [aup] at h1; grind) h2
      simp only [mup]; simp only [mup] at *; grind
    · rw [o 13 (by omega)]
      exact b q k (by rw [o 21 (by omega)] at h1; exact h1) h2
    · rw [o 14 (by omega)]
      exact c q k (by rw [o 22 (by omega)] at h1; exact h1) h2
theorem kCon_item0 {i : Nat} (h : kCon A μ) (hi : i < 15) : kCon (aup A 23 i 0) (mup μ 0 i 0) := by
  have o : ∀ k, k ≠ 23 → aup A 23 i 0 k = A k := fun k hk => by funext b; simp only [aup]; grind
  have p : ∀ k, k ≠ 0 → mup μ 0 i 0 k = μ k := fun k hk => mup_other _ _ _ hk
  obtain ⟨c1, c2, c3, c4, c5, c6⟩ := h
  unfold kCon
  rw [o 20 (by omega), o 21 (by omega), o 22 (by omega), o 9 (by omega), o 19 (by omega), o 24 (by omega), o 25 (by omega), o 18 (by omega), o 26 (by omega), o 11 (by omega), p 8 (by omega), p 9 (by omega), p 11 (by omega), p 5 (by omega), p 18 (by omega), p 20 (by omega), p 12 (by omega)]
  refine ⟨c1, c2, fun s hs => ?_, c4, c5, fun j => ?_⟩
  · have := c3 s hs
    simp only [aup, mup]
    by_cases e : s = i
    · subst e; simp
    · simp only [e, and_false, if_false]; exact this
  · rw [p 5 (by omega), p 6 (by omega), p 8 (by omega), p 9 (by omega), p 10 (by omega)]; exact c6 j
end KW
