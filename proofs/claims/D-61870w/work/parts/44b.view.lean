/-! what a process sees of the items -/
def mview (p : Nat) (μ ν : mS) : Prop := ∀ h, h < 15 → (∀ a, a ≤ 2 → ν a (mof ν p h) = μ a (mof μ p h)) ∧ (∀ a k, a = 3 ∨ a = 4 → k < 8 → ν a (8 * mof ν p h + k) = μ a (8 * mof μ p h + k))
theorem mview_refl (p : Nat) (μ : mS) : mview p μ μ := fun h _ => ⟨fun _ _ => rfl, fun _ _ _ _ => rfl⟩
theorem mview_trans {p : Nat} {μ ν ξ : mS} (h1 : mview p μ ν) (h2 : mview p ν ξ) : mview p μ ξ := fun h hh => ⟨fun a ha => by rw [(h2 h hh).1 a ha, (h1 h hh).1 a ha], fun a k ha hk => by rw [(h2 h hh).2 a k ha hk, (h1 h hh).2 a k ha hk]⟩
theorem mview_kd {p : Nat} {μ ν : mS} (h1 : mview p μ ν) {h : Nat} (hh : h < 15) : mkd ν p h = mkd μ p h := (h1 h hh).1 0 (by omega)
theorem mfind_c {μ ν : mS} {c c' : Nat} {n : Int} : ∀ (m k : Nat), k + m ≤ 8 → (∀ a k, a = 3 ∨ a = 4 → k < 8 → ν a (8 * c' + k) = μ a (8 * c + k)) → mfind ν c' n k m = mfind μ c n k m := by
  intro m
  induction m with
  | zero => intro k _ _; rfl
  | succ m ih =>
    intro k hk h
    rw [mfind, mfind, h 3 k (by omega) (by omega), h 4 k (by omega) (by omega), ih (k + 1) (by omega) h]
theorem mview_look {p : Nat} {μ ν : mS} (h1 : mview p μ ν) {h : Nat} {n : Int} (hh : h < 15) (hm : μ 1 (mof μ p h) ≤ 8) : mlook ν p h n = mlook μ p h n := by
  unfold mlook
  rw [(h1 h hh).1 1 (by omega)]
  exact mfind_c _ 0 (by omega) (h1 h hh).2
/-- the same rows of copies, the same items -/
theorem mview_c {p : Nat} {μ ν : mS} (h5 : ∀ h, h < 15 → ν 5 (15 * p + h) = μ 5 (15 * p + h)) (he : ∀ a, a ≤ 4 → ν a = μ a) : mview p μ ν := by
  intro h hh
  have e : mof ν p h = mof μ p h := by unfold mof; rw [h5 h hh]
  refine ⟨fun a ha => by rw [he a (by omega), e], fun a k ha hk => by rw [he a (by omega), e]⟩
theorem mkeep_lo {a : Nat} (h : a ≤ 4) : mkeep a = true := by
  rcases (by omega : a = 0 ∨ a = 1 ∨ a = 2 ∨ a = 3 ∨ a = 4) with e | e | e | e | e <;> subst e <;> rfl
theorem mview_meet {p i : Nat} {w : Int} {μ : mS} (h : (mmeet p i w μ).1 = true) : mview p μ (mmeet p i w μ).2 :=
  mview_c (fun x hx => (mmeet_own h (15 * p + x) (by omega)).1) (fun a ha => mmeet_k (mkeep_lo ha))
theorem mview_up {p k j : Nat} {v : Int} {μ : mS} (h : 5 < k) : mview p μ (mup μ k j v) :=
  mview_c (fun _ _ => by rw [mup_other _ _ _ (by omega)]) (fun a ha => mup_other _ _ _ (by omega))
theorem mview_reads {p i : Nat} {μ : mS} (h : (mreads p i μ).1 = true) : mview p μ (mreads p i μ).2 := by
  unfold mreads at h ⊢
  by_cases h5 : μ 5 (15 * p + i) = 0
  · rw [if_pos h5] at h ⊢
    by_cases hm : (mmeet p i 0 μ).1 = true
    · rw [if_pos hm]
      exact mview_trans (mview_meet hm) (mview_up (by omega))
    · rw [if_neg hm] at h; cases h
  · rw [if_neg h5]
    exact mview_up (by omega)
theorem mview_writes {p i : Nat} {μ : mS} (hi : i < 15) (h : (mwrites p i μ).1 = true) : mview p μ (mwrites p i μ).2 := by
  unfold mwrites at h ⊢
  by_cases h5 : μ 5 (15 * p + i) = 0
  · rw [if_pos h5] at h ⊢
    by_cases hm : (mmeet p i 1 μ).1 = true
    · rw [if_pos hm]
      refine mview_trans (mview_meet hm) ?_
      have h5' : (mmeet p i 1 μ).2 5 (15 * p + i) = 0 := by rw [(mmeet_own hm (15 * p + i) (by omega)).1]; exact h5
      generalize (mmeet p i 1 μ).2 = ν at *
      show mview p ν (mcopy i (15 + 15 * p + i) (mup (mup ν 5 (15 * p + i) 1) 7 i 1))
      intro x hx
      have e5 : ∀ y, mcopy i (15 + 15 * p + i) (mup (mup ν 5 (15 * p + i) 1) 7 i 1) 5 y = if y = 15 * p + i then 1 else ν 5 y := by
        intro y; rw [mcopy_hi (by omega)]; simp [mup]
      have el : ∀ a, a ≤ 4 → mup (mup ν 5 (15 * p + i) 1) 7 i 1 a = ν a := fun a ha => by rw [mup_other _ _ _ (by omega), mup_other _ _ _ (by omega)]
      by_cases hxi : x = i
      · subst hxi
        have em : mof (mcopy x (15 + 15 * p + x) (mup (mup ν 5 (15 * p + x) 1) 7 x 1)) p x = 15 + 15 * p + x := by
          unfold mof; rw [e5]; rw [if_pos (show 15 * p + x = 15 * p + x from rfl)]; exact if_neg (by omega)
        have em2 : mof ν p x = x := by unfold mof; rw [if_pos h5']
        rw [em, em2]
        refine ⟨fun a ha => ?_, fun a k ha hk => ?_⟩
        · rw [mcopy_t ha, el a (by omega)]
        · simp only [mcopy, mcopyk]
          rw [if_neg (by omega), if_pos (by omega), el a (by omega)]
          congr 1; omega
      · have em : mof (mcopy i (15 + 15 * p + i) (mup (mup ν 5 (15 * p + i) 1) 7 i 1)) p x = mof ν p x := by
          unfold mof; rw [e5]; rw [if_neg (show ¬ 15 * p + x = 15 * p + i by omega)]
        have hne : mof ν p x ≠ 15 + 15 * p + i := by unfold mof; split <;> omega
        rw [em]
        refine ⟨fun a ha => ?_, fun a k ha hk => ?_⟩
        · simp only [mcopy, mcopyk]
          rw [if_neg (by omega), if_neg (by omega), el a (by omega)]
        · simp only [mcopy, mcopyk]
          rw [if_neg (by omega), if_neg (by omega), el a (by omega)]
    · rw [if_neg hm] at h; cases h
  · rw [if_neg h5]
    exact mview_refl p μ
theorem mview_walk {p : Nat} {z ms fl : Int} (hms : ms ≠ 0) (hfl : fl ≠ 0) : ∀ (n k : Nat) (μ : mS), (mwalk p z ms fl k n μ).1 = 0 → mview p μ (mwalk p z ms fl k n μ).2 := by
  intro n
  induction n with
  | zero => intro k μ _; exact mview_refl p μ
  | succ n ih =>
    intro k μ h
    rw [mwalk] at h ⊢
    split at h
    · cases h
    · rename_i h1
      rw [if_neg h1]
      have h1 : (mreads p (μ 29 0).toNat μ).1 = true := by cases hh : (mreads p (μ 29 0).toNat μ).1 <;> simp_all
      split at h
      · exact absurd h hfl
      · rename_i h2
        rw [if_neg h2]
        split at h
        · exact absurd h hms
        · rename_i h3
          rw [if_neg h3]
          exact mview_trans (mview_trans (mview_reads h1) (mview_up (by omega))) (ih _ _ h)
theorem mview_toh2 {p : Nat} {z fl : Int} {ν : mS} (hfl : fl ≠ 0) (h : (mtoh2 p z fl ν).1 = 0) : mview p ν (mtoh2 p z fl ν).2 := by
  unfold mtoh2 at h ⊢
  split at h
  · cases h
  · rename_i h3
    rw [if_neg h3]
    split at h
    · exact absurd h hfl
    · rename_i h4
      rw [if_neg h4]
      refine mview_trans (mview_reads ?_) (mview_up (by omega))
      cases hh : (mreads p (ν 27 0).toNat ν).1 with
      | true => rfl
      | false => exact absurd hh h3
theorem mview_toh {p : Nat} {z ms fl : Int} {μ : mS} (hms : ms ≠ 0) (hfl : fl ≠ 0) (h : (mtoh p z ms fl μ).1 = 0) : mview p μ (mtoh p z ms fl μ).2 := by
  unfold mtoh at h ⊢
  split at h
  · exact absurd h hfl
  · rename_i h1
    rw [if_neg h1]
    split at h
    · rename_i h2
      exact absurd h h2
    · rename_i h2
      rw [if_neg h2]
      have hw := mview_walk hms hfl _ _ _ (Decidable.not_not.mp h2)
      refine mview_trans ?_ (mview_toh2 hfl h)
      exact mview_trans (mview_trans (mview_trans (mview_up (by omega)) hw) (mview_up (by omega))) (mview_up (by omega))
/-- what was found is there -/
theorem mfind_ex {μ : mS} {c : Nat} {n : Int} : ∀ (m k : Nat), mfind μ c n k m ≠ -1 → ∃ j, k ≤ j ∧ j < k + m ∧ μ 3 (8 * c + j) = n := by
  intro m
  induction m with
  | zero => intro k h; exact absurd rfl h
  | succ m ih =>
    intro k h
    rw [mfind] at h
    split at h
    · rename_i q; exact ⟨k, by omega, by omega, q⟩
    · obtain ⟨j, h1, h2, h3⟩ := ih (k + 1) h
      exact ⟨j, by omega, by omega, h3⟩
theorem mremk_hi {c : Nat} {n : Int} {μ : mS} : ∀ k j, k ≤ j → (mremk c n k μ).2 3 (8 * c + j) = μ 3 (8 * c + j) := by
  intro k
  induction k with
  | zero => intro j _; rfl
  | succ k ih =>
    intro j hj
    have hl := (mremk_le c n μ k).1
    rw [mremk]
    split
    · exact ih j (by omega)
    · dsimp only
      rw [mup_other _ _ _ (by omega)]
      unfold mup
      rw [if_neg (by omega)]
      exact ih j (by omega)
theorem mremk_lt {c : Nat} {n : Int} {μ : mS} : ∀ k, (∃ j, j < k ∧ μ 3 (8 * c + j) = n) → (mremk c n k μ).1 < k := by
  intro k
  induction k with
  | zero => rintro ⟨j, h, _⟩; omega
  | succ k ih =>
    rintro ⟨j, h1, h2⟩
    have hl := (mremk_le c n μ k).1
    by_cases e : j = k
    · subst e
      rw [mremk, if_pos (by rw [mremk_hi j j (Nat.le_refl j)]; exact h2)]
      omega
    · have := ih ⟨j, by omega, h2⟩
      rw [mremk]
      split
      · omega
      · dsimp only; omega
