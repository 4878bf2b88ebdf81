/-! new cells only -/
def kext (σ σ' : gS) : Prop := (∀ a e, σ.1 a = some e → σ'.1 a = some e) ∧ σ.2.1 ≤ σ'.2.1 ∧ (∀ a, σ'.2.1 ≤ a → σ'.1 a = none)
section KE
variable {G : gG} {n m n' m' fr : Nat} {A A' : kA} {X X' : kX} {σ σ' σ2 : gS} {μ μ' : mS} {Q : gO → gS → Prop}
theorem kext_refl (h : kRep G n A X σ μ) : kext σ σ := ⟨fun _ _ h => h, Nat.le_refl _, h.1⟩
theorem kext_new (h : kext σ σ') {e : gE} {c s : Nat} : kext σ (gset σ'.1 σ'.2.1 e, σ'.2.1 + 1, c, s) := by
  refine ⟨fun a x hx => ?_, by have := h.2.1; show σ.2.1 ≤ σ'.2.1 + 1; omega, fun a ha => ?_⟩
  · have h1 := h.1 a x hx
    have : a ≠ σ'.2.1 := by intro q; rw [h.2.2 a (by omega)] at h1; cases h1
    show gset σ'.1 σ'.2.1 e a = _
    rw [gset_ne this]; exact h1
  · have ha : σ'.2.1 + 1 ≤ a := ha
    show gset σ'.1 σ'.2.1 e a = _
    rw [gset_ne (by omega)]; exact h.2.2 a (by omega)
theorem kext_set (h : kext σ σ') {a : Nat} {e : gE} (ha : σ.1 a = none) (hb : a < σ'.2.1) : kext σ (gset σ'.1 a e, σ'.2) := by
  refine ⟨fun b x hx => ?_, h.2.1, fun b hb2 => ?_⟩
  · have : b ≠ a := by intro q; subst q; rw [ha] at hx; cases hx
    show gset σ'.1 a e b = _
    rw [gset_ne this]; exact h.1 b x hx
  · have hb2 : σ'.2.1 ≤ b := hb2
    show gset σ'.1 a e b = _
    rw [gset_ne (by omega)]; exact h.2.2 b hb2
theorem kext_trans (h : kext σ σ') (h2 : kext σ' σ2) : kext σ σ2 := ⟨fun a e q => h2.1 a e (h.1 a e q), Nat.le_trans h.2.1 h2.2.1, h2.2.2⟩
theorem kext_bx (h : kext σ σ') {a : Nat} {z : Int} (hx : gBx G σ a z) : gBx G σ' a z := by
  rcases hx with hx | hx
  · exact Or.inl (h.1 _ _ hx)
  · exact Or.inr hx
theorem kRep_ext (h : kRep G n A X σ μ) (he : kext σ σ') : kRep G n A X σ' μ := by
  refine ⟨he.2.2, fun k i j e h2 h3 => ?_, h.2.2.1, ?_, h.2.2.2.2.1, fun a x hx => he.1 _ _ (h.2.2.2.2.2 a x hx)⟩
  · obtain ⟨a1, a2⟩ := h.2.1 k i j e h2 h3
    exact ⟨he.1 _ _ a1, a2⟩
  · obtain ⟨a, b, d⟩ := h.2.2.2.1
    exact ⟨fun s k h1 h2 => ⟨fun h3 => he.1 _ _ ((a s k h1 h2).1 h3), fun h3 => kext_bx he ((a s k h1 h2).2 h3)⟩, fun p k h1 h2 => kext_bx he (b p k h1 h2), fun p k h1 h2 => he.1 _ _ (d p k h1 h2)⟩
theorem kSt_ext (h : kSt G n m A X σ μ) (he : kext σ σ') (h1 : m' ≤ σ'.2.2.1) (h2 : 16 * m' ≤ σ'.2.2.2) : kSt G n m' A X σ' μ := ⟨kRep_ext h.1 he, h.2.1, h1, h2, Nat.le_trans h.2.2.2.2 he.2.1⟩
/-- the cells of an item -/
theorem kdir (h : kRep G n A X σ μ) {s : Nat} (hl : A 23 s = 1) (hk : μ 0 s = 2) : σ.1 (A 3 s) = some (.inl (1, [vr (A 3 s + 1)])) ∧ σ.1 (A 3 s + 1) = some (.inl (10, [vi (A 17 s), vr (A 3 s + 2), vi (μ 1 s)])) ∧ σ.1 (A 3 s + 2) = some (.inr (3, 5, .inr (.inl (fun k => if (k : Int) < μ 1 s then some (A 12 (8 * s + k)) else none)))) := by
  have e2 : ∀ j, kcell G A μ 3 s j = kcL 1 5 A μ s j := fun j => by show kslot A μ s j = _; unfold kslot; rw [if_neg (by omega), if_pos hk]
  exact ⟨(h.2.1 3 s 0 _ hl (e2 0)).1, (h.2.1 3 s 1 _ hl (e2 1)).1, (h.2.1 3 s 2 _ hl (e2 2)).1⟩
theorem kpip (h : kRep G n A X σ μ) {s : Nat} (hl : A 23 s = 1) (hk : μ 0 s = 3) : σ.1 (A 3 s) = some (.inl (7, [vr (A 3 s + 1)])) ∧ σ.1 (A 3 s + 1) = some (.inl (10, [vi (A 17 s), vr (A 3 s + 2), vi (μ 1 s)])) ∧ σ.1 (A 3 s + 2) = some (.inr (3, 6, .inr (.inl (fun k => if (k : Int) < μ 1 s then some (A 12 (8 * s + k)) else none)))) := by
  have e2 : ∀ j, kcell G A μ 3 s j = kcL 7 6 A μ s j := fun j => by show kslot A μ s j = _; unfold kslot; rw [if_neg (by omega), if_neg (by omega), if_pos hk]
  exact ⟨(h.2.1 3 s 0 _ hl (e2 0)).1, (h.2.1 3 s 1 _ hl (e2 1)).1, (h.2.1 3 s 2 _ hl (e2 2)).1⟩
theorem kfil (h : kRep G n A X σ μ) {s : Nat} (hl : A 23 s = 1) (hk : μ 0 s = 1) : σ.1 (A 3 s) = some (.inl (6, [vr (A 3 s + 1), vi (μ 1 s), vi (μ 2 s)])) ∧ σ.1 (A 3 s + 1) = some (.inr (0, 8, .inl (fun k => if k < 8 ∧ (k : Int) < μ 1 s then μ 3 (8 * s + k) else 0))) := by
  have e2 : ∀ j, kcell G A μ 3 s j = kcF A μ s j := fun j => by show kslot A μ s j = _; unfold kslot; rw [if_pos hk]
  exact ⟨(h.2.1 3 s 0 _ hl (e2 0)).1, (h.2.1 3 s 1 _ hl (e2 1)).1⟩
end KE
