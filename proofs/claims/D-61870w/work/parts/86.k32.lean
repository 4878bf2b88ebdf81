/-! the kernel's heap: a copy becomes the item -/
section KG
variable {G : gG} {n m n' m' fr rc rs : Nat} {A A' : kA} {X X' : kX} {σ σ' σ2 : gS} {μ μ' : mS} {Q : gO → gS → Prop}
def aput (A : kA) (t i : Nat) : kA := fun b j => if b = 3 ∧ j = i then A 3 t else if b = 23 ∧ j = i then A 23 t else if b = 23 ∧ j = t then 0 else if b = 17 ∧ j = i then A 17 t else if b = 12 ∧ 8 * i ≤ j ∧ j < 8 * i + 8 then A 12 (8 * t + (j - 8 * i)) else A b j
theorem aput_o {t i k : Nat} (h : ¬ (k = 3 ∨ k = 23 ∨ k = 17 ∨ k = 12)) : aput A t i k = A k := by funext j; simp only [aput]; grind
theorem kr_put (h : kRep G n A X σ μ) {p i t : Nat} (hi : i < 15) (ht : t = 15 + 15 * p + i) (hl : A 20 0 = 1) (hm8 : ∀ s, A 23 s = 1 → μ 1 s ≤ 8) {e' : gE} (he : e' = .inr (4, 15, .inr (.inl (va_up (fun s => if s < 15 ∧ μ 0 s ≠ 0 then some (A 3 s) else none) i (if μ 0 t ≠ 0 then some (A 3 t) else none))))) : kRep G n (aput A t i) X (gset σ.1 (A 0 0 + 1) e', σ.2) (mcopy t i μ) := by
  have r := ch1_ok (e' := e') h (k0 := 0) (i0 := 0) (j0 := 1) hl rfl
  have hh := h.2.1 0 0 1 _ hl rfl
  have hti : t ≠ i := by omega
  have ea : ∀ b, 5 ≤ b → mcopy t i μ b = μ b := fun b hb => by funext j; exact mcopy_e b j (by omega) (by omega)
  have en : ∀ b s, b ≤ 2 → s ≠ i → mcopy t i μ b s = μ b s := fun b s hb hs => mcopy_e b s (by omega) (by omega)
  have ev : ∀ b s k, b = 3 ∨ b = 4 → s ≠ i → k < 8 → mcopy t i μ b (8 * s + k) = μ b (8 * s + k) := fun b s k hb hs hk => mcopy_e b _ (by omega) (by omega)
  have ei : ∀ b, b ≤ 2 → mcopy t i μ b i = μ b t := fun b hb => mcopy_a hb
  have ew : ∀ b k, b = 3 ∨ b = 4 → k < 8 → mcopy t i μ b (8 * i + k) = μ b (8 * t + k) := fun b k hb hk => mcopy_v hb hk
  have o := fun k (hk : ¬ (k = 3 ∨ k = 23 ∨ k = 17 ∨ k = 12)) => aput_o (A := A) (t := t) (i := i) hk
  have a3 : ∀ s, s ≠ i → aput A t i 3 s = A 3 s := fun s hs => by simp only [aput]; grind
  have a3i : aput A t i 3 i = A 3 t := by simp [aput]
  have a17 : ∀ s, s ≠ i → aput A t i 17 s = A 17 s := fun s hs => by simp only [aput]; grind
  have a17i : aput A t i 17 i = A 17 t := by simp [aput]
  have a12 : ∀ s k, s ≠ i → k < 8 → aput A t i 12 (8 * s + k) = A 12 (8 * s + k) := fun s k hs hk => by simp only [aput]; grind
  have a12i : ∀ k, k < 8 → aput A t i 12 (8 * i + k) = A 12 (8 * t + k) := fun k hk => by
    have e9 : 8 * i + k - 8 * i = k := by omega
    have : aput A t i 12 (8 * i + k) = A 12 (8 * t + (8 * i + k - 8 * i)) := by simp only [aput]; grind
    rw [this, e9]
  have f1 : ∀ k s, aput A t i (20 + k) s = 1 → ¬ (k = 3 ∧ s = t) := by
    intro k s q e
    obtain ⟨rfl, rfl⟩ := e
    simp [aput, hti] at q
  have f2 : ∀ k s, aput A t i (20 + k) s = 1 → ¬ (k = 3 ∧ s = i) → A (20 + k) s = 1 := by
    intro k s q e
    have := f1 k s q
    simp only [aput] at q
    grind
  have f3 : aput A t i 23 i = A 23 t := by simp [aput]
  refine kmv h (fun k s => if k = 3 ∧ s = i then (3, t) else (k, s)) _ r.1 r.2.2 (o _ (by omega)) ?_ ?_ ?_ r.2.1 ?_ ?_
  · intro k s g1 g2
    by_cases q : k = 3 ∧ s = i
    · rw [if_pos q]
      obtain ⟨rfl, rfl⟩ := q
      exact ⟨by show 3 < 7; omega, by show A 23 t = 1; rw [← f3]; exact g2, a3i⟩
    · rw [if_neg q]
      refine ⟨g1, f2 k s g2 q, ?_⟩
      by_cases q3 : k = 3
      · subst q3; exact a3 s (by omega)
      · rw [o k (by omega)]
  · intro k s k' s' g1 g2 g3 g4 g5
    have b1 := f1 k s g3
    have b2 := f1 k' s' g4
    split at g5 <;> split at g5 <;> simp only [Prod.mk.injEq] at g5 <;> omega
  · intro k s j e g1 g2 g3
    have b1 := f1 k s g2
    by_cases q : k = 3 ∧ s = i
    · rw [if_pos q]
      obtain ⟨rfl, rfl⟩ := q
      have lt : A 23 t = 1 := by rw [← f3]; exact g2
      have m8 := hm8 t lt
      refine ⟨e, ?_, by unfold ch1; rw [if_neg (by omega)]; rfl⟩
      rw [← g3]
      have e1 : (fun k : Nat => if (k : Int) < μ 1 t then some (aput A t s 12 (8 * s + k)) else none) = fun k : Nat => if (k : Int) < μ 1 t then some (A 12 (8 * t + k)) else none := funext fun k => by
        by_cases w : (k : Int) < μ 1 t
        · rw [if_pos w, if_pos w, a12i k (by omega)]
        · rw [if_neg w, if_neg w]
      have e2 : (fun k : Nat => if k < 8 ∧ (k : Int) < μ 1 t then mcopy t s μ 3 (8 * s + k) else 0) = fun k : Nat => if k < 8 ∧ (k : Int) < μ 1 t then μ 3 (8 * t + k) else 0 := funext fun k => by
        by_cases w : k < 8
        · rw [ew 3 k (by omega) w]
        · rw [if_neg (fun q => w q.1), if_neg (fun q => w q.1)]
      simp only [kcell]; unfold kslot kcF kcL; rw [ei 0 (by omega), ei 1 (by omega), ei 2 (by omega), a3i, a17i, e1, e2]
    · rw [if_neg q]
      unfold ch1
      by_cases q2 : k = 0 ∧ s = 0 ∧ j = 1
      · obtain ⟨rfl, rfl, rfl⟩ := q2
        refine ⟨_, rfl, ?_⟩
        rw [if_pos ⟨rfl, rfl, rfl⟩, he]
        refine Option.some.inj (Eq.trans ?_ g3)
        refine congrArg (fun f => some (Sum.inr (4, 15, Sum.inr (Sum.inl f)))) (funext fun s => ?_)
        simp only [va_up]
        by_cases w : s = i
        · subst w
          rw [ei 0 (by omega), a3i]
          simp [hi]
        · rw [en 0 s (by omega) w, a3 s w]
          simp [w]
      · refine ⟨e, ?_, by dsimp only; rw [if_neg q2]; rfl⟩
        rw [← g3]
        rcases k with _ | _ | _ | _ | _ | _ | _ | k
        · rcases s with _ | s
          · rcases j with _ | _ | _ | _ | j
            · simp only [kcell, kc0, o 0 (by omega), ea 24 (by omega), ea 25 (by omega), ea 22 (by omega)]
            · exact absurd ⟨rfl, rfl, rfl⟩ q2
            · simp only [kcell, kc0, o 1 (by omega), ea 8 (by omega)]
            · simp only [kcell, kc0, o 10 (by omega), o 26 (by omega), o 6 (by omega), o 18 (by omega)]
            · rfl
          · rfl
        · simp only [kcell]; unfold kc1; rw [ea 10 (by omega), ea 11 (by omega), ea 14 (by omega), ea 18 (by omega), o 1 (by omega), o 2 (by omega), o 4 (by omega), o 9 (by omega), o 13 (by omega), o 15 (by omega)]
        · have e1 : ∀ z, mcopy t i μ 0 (15 + 15 * s + z) = μ 0 (15 + 15 * s + z) := fun z => en 0 _ (by omega) (by omega)
          have e2 : ∀ z, aput A t i 3 (15 + 15 * s + z) = A 3 (15 + 15 * s + z) := fun z => a3 _ (by omega)
          simp only [kcell]; unfold kc2
          simp only [e1, e2, ea 5 (by omega), ea 6 (by omega), ea 17 (by omega), ea 20 (by omega), o 1 (by omega), o 2 (by omega), o 5 (by omega), o 14 (by omega), o 16 (by omega), o 19 (by omega)]
        · have w : s ≠ i := by omega
          have lt : A 23 s = 1 := f2 3 s g2 q
          have m8 := hm8 s lt
          have e1 : (fun k : Nat => if (k : Int) < μ 1 s then some (aput A t i 12 (8 * s + k)) else none) = fun k : Nat => if (k : Int) < μ 1 s then some (A 12 (8 * s + k)) else none := funext fun k => by
            by_cases w2 : (k : Int) < μ 1 s
            · rw [if_pos w2, if_pos w2, a12 s k w (by omega)]
            · rw [if_neg w2, if_neg w2]
          have e2 : (fun k : Nat => if k < 8 ∧ (k : Int) < μ 1 s then mcopy t i μ 3 (8 * s + k) else 0) = fun k : Nat => if k < 8 ∧ (k : Int) < μ 1 s then μ 3 (8 * s + k) else 0 := funext fun k => by
            by_cases w2 : k < 8
            · rw [ev 3 s k (by omega) w w2]
            · rw [if_neg (fun q => w2 q.1), if_neg (fun q => w2 q.1)]
          simp only [kcell]; unfold kslot kcF kcL; rw [en 0 s (by omega) w, en 1 s (by omega) w, en 2 s (by omega) w, a3 s w, a17 s w, e1, e2]
        · simp only [kcell, ea 18 (by omega), ea 19 (by omega)]
        · simp only [kcell, ea 20 (by omega), ea 21 (by omega)]
        · simp only [kcell, o 2 (by omega), o 11 (by omega), o 18 (by omega)]
        · omega
  · obtain ⟨a, b, c⟩ := kimm_set (e' := e') h.2.2.2.1 hh.1 rfl
    refine ⟨fun s k h1 h2 => ?_, fun q k h1 h2 => ?_, fun q k h1 h2 => ?_⟩
    · by_cases w : s = i
      · subst w
        rw [f3] at h1
        rw [ei 1 (by omega)] at h2
        have m8 := hm8 t h1
        rw [ei 0 (by omega), a12i k (by omega), ew 3 k (by omega) (by omega), ew 4 k (by omega) (by omega)]
        exact a t k h1 h2
      · have lt : A 23 s = 1 := f2 3 s h1 (by omega)
        have m8 := hm8 s lt
        rw [en 1 s (by omega) w] at h2
        rw [en 0 s (by omega) w, a12 s k w (by omega), ev 3 s k (by omega) w (by omega), ev 4 s k (by omega) w (by omega)]
        exact a s k lt h2
    · rw [o 21 (by omega)] at h1
      rw [ea 13 (by omega), o 13 (by omega)]; rw [ea 14 (by omega)] at h2; exact b q k h1 h2
    · rw [o 22 (by omega)] at h1
      rw [ea 15 (by omega), ea 16 (by omega), o 14 (by omega)]; rw [ea 17 (by omega)] at h2; exact c q k h1 h2
  · intro j
    have := h.2.2.2.2.1 j
    rw [o 10 (by omega), o 15 (by omega), o 16 (by omega)]
    refine ⟨by omega, by omega, by omega, ?_⟩
    by_cases z : j = i
    · subst z; rw [a17i]; exact (h.2.2.2.2.1 t).2.2.2
    · rw [a17 j z]; omega
def aputk (A : kA) (μ : mS) (p k : Nat) : kA := fun b j => if b = 3 ∧ j < k ∧ μ 5 (15 * p + j) = 1 then A 3 (15 + 15 * p + j) else if b = 23 ∧ j < k ∧ μ 5 (15 * p + j) = 1 then A 23 (15 + 15 * p + j) else if b = 23 ∧ 15 + 15 * p ≤ j ∧ j < 15 + 15 * p + k ∧ μ 5 (j - 15) = 1 then 0 else if b = 17 ∧ j < k ∧ μ 5 (15 * p + j) = 1 then A 17 (15 + 15 * p + j) else if b = 12 ∧ j / 8 < k ∧ μ 5 (15 * p + j / 8) = 1 then A 12 (8 * (15 + 15 * p) + j) else A b j
theorem aputk_0 {p : Nat} : aputk A μ p 0 = A := by
  funext b j
  simp only [aputk]; grind
theorem aputk_n {p k : Nat} (hk : k < 15) (h : ¬ μ 5 (15 * p + k) = 1) : aputk A μ p (k + 1) = aputk A μ p k := by
  have e1 : ∀ x, (x < k + 1) ↔ (x < k ∨ x = k) := by intro x; omega
  have e2 : ∀ x, (x < 15 + 15 * p + (k + 1)) ↔ (x < 15 + 15 * p + k ∨ x = 15 + 15 * p + k) := by intro x; omega
  have e3 : 15 + 15 * p + k - 15 = 15 * p + k := by omega
  funext b j
  simp only [aputk, e1, e2]; grind (splits := 30)
theorem aputk_s {p k : Nat} (hk : k < 15) (h : μ 5 (15 * p + k) = 1) : aputk A μ p (k + 1) = aput (aputk A μ p k) (15 + 15 * p + k) k := by
  have e1 : ∀ x, (x < k + 1) ↔ (x < k ∨ x = k) := by intro x; omega
  have e2 : ∀ x, (x < 15 + 15 * p + (k + 1)) ↔ (x < 15 + 15 * p + k ∨ x = 15 + 15 * p + k) := by intro x; omega
  have e3 : 15 + 15 * p + k - 15 = 15 * p + k := by omega
  have e8 : ∀ x, (8 * k ≤ x ∧ x < 8 * k + 8) ↔ x / 8 = k := by intro x; omega
  funext b j
  simp only [aputk, aput, e1, e2, e8]; grind (splits := 40)
end KG
