/-! the kernel's heap: new blocks -/
section KG
variable {G : gG} {n m n' m' fr rc rs : Nat} {A A' : kA} {X X' : kX} {σ σ' σ2 : gS} {μ μ' : mS} {Q : gO → gS → Prop}
/-- cells change, new blocks are named -/
theorem kgen (h : kRep G n A X σ μ) (a0 : Nat) (N : Nat → Nat → Prop) (ch : Nat → Nat → Nat → Option gE) (hf : ∀ a, σ'.2.1 ≤ a → σ'.1 a = none)
    (hg : ∀ k i j e, A (20 + k) i = 1 → kcell G A μ k i j = some e → σ'.1 (A k i + j) = some ((ch k i j).getD e))
    (hold : ∀ k i, k < 7 → A' (20 + k) i = 1 → ¬ N k i → A (20 + k) i = 1 ∧ A' k i = A k i ∧ ∀ j e, kcell G A' μ' k i j = some e → ∃ e0, kcell G A μ k i j = some e0 ∧ (ch k i j).getD e0 = e)
    (hnew : ∀ k i, k < 7 → N k i → a0 ≤ A' k i ∧ ∀ j e, kcell G A' μ' k i j = some e → σ'.1 (A' k i + j) = some e ∧ A' 30 (A' k i + j) = A' k i ∧ X (A' k i + j) = none)
    (h30 : ∀ b, b < a0 → A' 30 b = A 30 b) (hb : ∀ k i j e, A (20 + k) i = 1 → kcell G A μ k i j = some e → A k i + j < a0) (hb2 : ∀ k i, k < 7 → A (20 + k) i = 1 → A k i < a0) (hb3 : gBase G ≤ a0)
    (hNi : ∀ k i k' i', N k i → N k' i' → A' k i = A' k' i' → k = k' ∧ i = i') (hX : ∀ a e, X a = some e → σ'.1 a = some e) (him : kimm G A' σ' μ') (hmc : ∀ i, A' 10 i ≤ n' ∧ A' 15 i ≤ n' ∧ A' 16 i ≤ n' ∧ A' 17 i ≤ n') : kRep G n' A' X σ' μ' := by
  refine ⟨hf, fun k i j e h2 h3 => ?_, fun k i k' i' g1 g2 g3 g4 g5 => ?_, him, hmc, hX⟩
  · have k9 := kcell_9 h3
    by_cases q : N k i
    · obtain ⟨a1, a2⟩ := hnew k i k9 q
      obtain ⟨b1, b2, b3⟩ := a2 j e h3
      exact ⟨b1, b2, by omega, b3⟩
    · obtain ⟨a1, a2, a3⟩ := hold k i k9 h2 q
      obtain ⟨e0, b1, b2⟩ := a3 j e h3
      have c1 := h.2.1 _ _ j e0 a1 b1
      rw [a2, h30 _ (hb _ _ _ _ a1 b1)]
      refine ⟨?_, c1.2⟩
      rw [hg _ _ j e0 a1 b1, b2]
  · by_cases q : N k i
    · by_cases q' : N k' i'
      · exact hNi k i k' i' q q' g5
      · obtain ⟨b1, b2, -⟩ := hold k' i' g2 g4 q'
        have := hb2 k' i' g2 b1
        have := (hnew k i g1 q).1
        omega
    · obtain ⟨a1, a2, -⟩ := hold k i g1 g3 q
      by_cases q' : N k' i'
      · have := hb2 k i g1 a1
        have := (hnew k' i' g2 q').1
        omega
      · obtain ⟨b1, b2, -⟩ := hold k' i' g2 g4 q'
        rw [a2, b2] at g5
        exact h.2.2.1 _ _ _ _ g1 g2 a1 b1 g5
def anewP (A : kA) (q a : Nat) : kA := fun b j => if b = 1 ∧ j = q then a else if (b = 9 ∨ b = 15) ∧ j = q then 0 else if b = 21 ∧ j = q then 1 else if b = 24 ∧ j / 4 = q then 0 else if b = 30 ∧ a ≤ j ∧ j < a + 4 then a else A b j
theorem anewP_o {q a k : Nat} (h : ¬ (k = 1 ∨ k = 9 ∨ k = 15 ∨ k = 21 ∨ k = 24 ∨ k = 30)) : anewP A q a k = A k := by funext j; simp only [anewP]; grind
/-- a process is made -/
theorem kr_newP (h : kRep G n A X σ μ) {q a : Nat} (hq : q < 6) (hl : A 20 0 = 1) (hd : A 21 q ≠ 1) (hd2 : A 22 q ≠ 1) (ha : gBase G ≤ a) (hb : ∀ k i, k < 7 → A (20 + k) i = 1 → A k i < a) (hc0 : ∀ k i j e, A (20 + k) i = 1 → kcell G A μ k i j = some e → A k i + j < a)
    (hX : ∀ b, a ≤ b → X b = none) (e : ∀ b j, ¬ ((b = 8 ∨ b = 10 ∨ b = 11 ∨ b = 14) ∧ j = q) → ¬ ((b = 18 ∨ b = 19) ∧ j / 4 = q) → μ' b j = μ b j) (h8 : μ' 8 q = 1) (h10 : μ' 10 q = 0) (h11 : μ' 11 q = 0) (h14 : μ' 14 q = 0) (h18 : ∀ x, x / 4 = q → μ' 18 x < 0)
    (g0 : σ.1 a = some (.inl (2, [vr (a + 1), vr (a + 2), vn, vi 0, vi 0]))) (g1 : σ.1 (a + 1) = some (.inr (6, 4, .inr (.inl (fun _ => none))))) (g2 : σ.1 (a + 2) = some (.inl (10, [vi 0, vr (a + 3), vi 0]))) (g3 : σ.1 (a + 3) = some (.inr (3, 4, .inr (.inl (fun _ => none)))))
    {e' : gE} (he : e' = .inr (5, 6, .inr (.inl (va_up (fun p => if p < 6 ∧ μ 8 p = 1 then some (A 1 p) else none) q (some a))))) : kRep G n (anewP A q a) X (gset σ.1 (A 0 0 + 2) e', σ.2) μ' := by
  have r := ch1_ok (e' := e') h (k0 := 0) (i0 := 0) (j0 := 2) hl rfl
  have hh := h.2.1 0 0 2 _ hl rfl
  have o := fun k (hk : ¬ (k = 1 ∨ k = 9 ∨ k = 15 ∨ k = 21 ∨ k = 24 ∨ k = 30)) => anewP_o (A := A) (q := q) (a := a) hk
  have ea : ∀ b, ¬ (b = 8 ∨ b = 10 ∨ b = 11 ∨ b = 14 ∨ b = 18 ∨ b = 19) → μ' b = μ b := fun b hb => by funext j; exact e b j (by omega) (by omega)
  have c02 := hc0 0 0 2 _ hl rfl
  have a1 : ∀ s, s ≠ q → anewP A q a 1 s = A 1 s := fun s hs => by simp only [anewP]; grind
  have a1q : anewP A q a 1 q = a := by simp [anewP]
  have a9 : ∀ s, s ≠ q → anewP A q a 9 s = A 9 s := fun s hs => by simp only [anewP]; grind
  have a9q : anewP A q a 9 q = 0 := by simp [anewP]
  have a15 : ∀ s, s ≠ q → anewP A q a 15 s = A 15 s := fun s hs => by simp only [anewP]; grind
  have a15q : anewP A q a 15 q = 0 := by simp [anewP]
  have a30 : ∀ b, b < a → anewP A q a 30 b = A 30 b := fun b hb => by simp only [anewP]; grind
  have a30a : ∀ j, j < 4 → anewP A q a 30 (a + j) = a := fun j hj => by simp only [anewP]; grind
  have lv : ∀ k i, k < 7 → anewP A q a (20 + k) i = 1 → ¬ (k = 1 ∧ i = q) → A (20 + k) i = 1 ∧ ¬ (k = 4 ∧ i / 4 = q) := fun k i hk h1 h2 => by
    simp only [anewP] at h1; grind
  refine kgen h a (fun k i => k = 1 ∧ i = q) _ r.1 r.2.2 ?_ ?_ a30 hc0 hb ha ?_ r.2.1 ?_ ?_
  · intro k i h7 hli hn
    obtain ⟨l1, l2⟩ := lv k i h7 hli hn
    have hne : ¬ (k = 2 ∧ i = q) := by rintro ⟨rfl, rfl⟩; exact hd2 l1
    refine ⟨l1, ?_, fun j x hx => ?_⟩
    · by_cases z : k = 1
      · subst z; exact a1 i (by omega)
      · rw [o k (by omega)]
    · unfold ch1
      by_cases q2 : k = 0 ∧ i = 0 ∧ j = 2
      · obtain ⟨rfl, rfl, rfl⟩ := q2
        refine ⟨_, rfl, ?_⟩
        rw [if_pos ⟨rfl, rfl, rfl⟩, he]
        refine Option.some.inj (Eq.trans ?_ hx)
        refine congrArg (fun f => some (Sum.inr (5, 6, Sum.inr (Sum.inl f)))) (funext fun s => ?_)
        simp only [va_up]
        by_cases w : s = q
        · subst w
          rw [a1q, h8]
          simp [hq]
        · rw [a1 s w, e 8 s (by omega) (by omega)]
          simp [w]
      · refine ⟨x, ?_, by rw [if_neg q2]; rfl⟩
        rw [← hx]
        rcases k with _ | _ | _ | _ | _ | _ | _ | k
        · rcases i with _ | i
          · rcases j with _ | _ | _ | _ | j
            · simp only [kcell, kc0, o 0 (by omega), ea 24 (by omega), ea 25 (by omega), ea 22 (by omega)]
            · simp only [kcell, kc0, o 3 (by omega), ea 0 (by omega)]
            · exact absurd ⟨rfl, rfl, rfl⟩ q2
            · simp only [kcell, kc0, o 10 (by omega), o 26 (by omega), o 6 (by omega), o 18 (by omega)]
            · rfl
          · rfl
        · have w : i ≠ q := by omega
          have e18 : ∀ d, d < 4 → μ' 18 (4 * i + d) = μ 18 (4 * i + d) := fun d hd => e 18 _ (by omega) (by omega)
          have f18 : (fun d => if d < 4 ∧ 0 ≤ μ' 18 (4 * i + d) then some (A 4 (4 * i + d)) else none) = fun d => if d < 4 ∧ 0 ≤ μ 18 (4 * i + d) then some (A 4 (4 * i + d)) else none := funext fun d => by
            by_cases z : d < 4
            · rw [e18 d z]
            · rw [if_neg (fun y => z y.1), if_neg (fun y => z y.1)]
          simp only [kcell]; unfold kc1; rw [e 10 i (by omega) (by omega), e 11 i (by omega) (by omega), e 14 i (by omega) (by omega), a1 i w, o 2 (by omega), o 4 (by omega), a9 i w, o 13 (by omega), a15 i w, f18]
        · have w : i ≠ q := by omega
          simp only [kcell]; unfold kc2; rw [ea 0 (by omega), ea 5 (by omega), ea 6 (by omega), ea 17 (by omega), ea 20 (by omega), a1 i w, o 2 (by omega), o 3 (by omega), o 5 (by omega), o 14 (by omega), o 16 (by omega), o 19 (by omega)]
        · simp only [kcell]; unfold kslot kcF kcL; rw [ea 0 (by omega), ea 1 (by omega), ea 2 (by omega), ea 3 (by omega), o 3 (by omega), o 12 (by omega), o 17 (by omega)]
        · simp only [kcell, e 18 i (by omega) (by omega), e 19 i (by omega) (by omega)]
        · simp only [kcell, ea 20 (by omega), ea 21 (by omega)]
        · simp only [kcell, o 2 (by omega), o 11 (by omega), o 18 (by omega)]
        · omega
  · rintro k i h7 ⟨rfl, rfl⟩
    rw [a1q]
    have nz : ∀ j, j < 4 → a + j ≠ A 0 0 + 2 := fun j hj => by omega
    refine ⟨Nat.le_refl _, fun j x hx => ?_⟩
    have f18 : (fun d => if d < 4 ∧ 0 ≤ μ' 18 (4 * i + d) then some (anewP A i a 4 (4 * i + d)) else none) = fun _ => none := funext fun d => by
      by_cases z : d < 4
      · have := h18 (4 * i + d) (by omega)
        rw [if_neg (by omega)]
      · rw [if_neg (fun y => z y.1)]
    have f14 : (fun k : Nat => if (k : Int) < 0 then some (anewP A i a 13 (4 * i + k)) else none) = fun _ => none := funext fun d => by
      rw [if_neg (by omega)]
    have key : ∀ j, j < 4 → gset σ.1 (A 0 0 + 2) e' (a + j) = σ.1 (a + j) ∧ anewP A i a 30 (a + j) = a ∧ X (a + j) = none := fun j hj => ⟨gset_ne (nz j hj), a30a j hj, hX _ (by omega)⟩
    have hj : j < 4 := by rcases j with _ | _ | _ | _ | j <;> first | omega | cases hx
    obtain ⟨k1, k2, k3⟩ := key j hj
    refine ⟨?_, k2, k3⟩
    show gset σ.1 (A 0 0 + 2) e' (a + j) = _
    rw [k1, ← hx]
    rcases j with _ | _ | _ | _ | j
    · simp only [kcell, kc1, a1q, a9q, h10, h11]; exact g0
    · simp only [kcell, kc1, f18]; exact g1
    · simp only [kcell, kc1, a1q, a15q, h14]; exact g2
    · simp only [kcell, kc1, h14, f14]; exact g3
    · omega
  · rintro k i k' i' ⟨rfl, rfl⟩ ⟨rfl, rfl⟩ -
    exact ⟨rfl, rfl⟩
  · obtain ⟨x, y, z⟩ := kimm_set (e' := e') h.2.2.2.1 hh.1 rfl
    refine ⟨fun s k h1 h2 => ?_, fun p k h1 h2 => ?_, fun p k h1 h2 => ?_⟩
    · rw [o 23 (by omega)] at h1
      rw [ea 1 (by omega)] at h2
      rw [ea 0 (by omega), ea 3 (by omega), ea 4 (by omega), o 12 (by omega)]
      exact x s k h1 h2
    · by_cases w : p = q
      · subst w; rw [h14] at h2; omega
      · have h1 := (lv 1 p (by omega) h1 (by omega)).1
        rw [e 14 p (by omega) (by omega)] at h2
        rw [ea 13 (by omega), o 13 (by omega)]
        exact y p k h1 h2
    · rw [o 22 (by omega)] at h1
      rw [ea 17 (by omega)] at h2
      rw [ea 16 (by omega), ea 15 (by omega), o 14 (by omega)]
      exact z p k h1 h2
  · intro i
    have := h.2.2.2.2.1 i
    rw [o 10 (by omega), o 16 (by omega), o 17 (by omega)]
    refine ⟨by omega, ?_, by omega, by omega⟩
    by_cases w : i = q
    · subst w; rw [a15q]; omega
    · rw [a15 i w]; omega
end KG
