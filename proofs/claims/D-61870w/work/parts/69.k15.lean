/-! the kernel's members: meet -/
section KM
variable {G : gG} {n m n' m' fr rc rs : Nat} {A A' : kA} {X X' : kX} {σ σ' : gS} {μ μ' : mS} {Q : gO → gS → Prop}
theorem mabsk_nil {S : Nat → Bool} (h : ∀ q, S q = false) : mabsk S 6 μ = μ := by
  have e0 : ∀ k, cnt S k = 0 := by
    intro k
    induction k with
    | zero => rfl
    | succ k ih => simp only [cnt, ih, h]; rfl
  funext a j; simp only [mabsk, e0, h]; grind
/-- the list of those that are met -/
def kML (G : gG) (A : kA) (X X2 : kX) (ml b c : Nat) (mt : Nat → Nat) : Prop := X2 ml = some (.inl (10, [vi c, vr b, vi c])) ∧ ((c = 0 ∧ b = gDE G) ∨ (0 < c ∧ b ≠ ml ∧ gBase G ≤ b ∧ X b = none ∧ X2 b = some (.inr (3, 10, .inr (.inl (fun e => if e < c then some (A 2 (mt e)) else none)))))) ∧ gBase G ≤ ml ∧ X ml = none ∧ (∀ a e, X a = some e → X2 a = some e)
theorem sX1_metadd (hG : gGood G) {ml b c q : Nat} {mt : Nat → Nat} {X2 : kX} (hS : kSt G n (m + 1) A X2 σ μ) (hM : bx 0 (kML G A X X2 ml b c mt)) (hc : c < 6) (hq : q < 6) (ht : μ 9 q = 1) (hQ : ∀ σ' X' b', kSt G n m A X' σ' μ → bx 0 (kML G A X X' ml b' (c + 1) (fun e => if e = c then q else mt e)) → Q (.inl (some (vi 1))) σ') : bx 0 (gOKb G mJ2_add (fr + 5) [vr ml, vr (A 2 q)] σ Q) := by
  obtain ⟨h1, h2, h3, h4, h5⟩ := bx_out hM
  have hhm := hS.1.2.2.2.2.2 _ _ h1
  have lm := klt hS.1 hhm
  have hht := kT0 hS hq ht
  have r1 := hS.2.2.1
  have r2 := hS.2.2.2.1
  have r3 := hS.2.2.2.2
  have hf := hS.1.1 σ.2.1 (Nat.le_refl _)
  have nX : ∀ a e, X a = some e → a ≠ σ.2.1 := fun a e q z => by
    have := hS.1.2.2.2.2.2 _ _ (h5 a e q)
    rw [z, hf] at this; cases this
  have hv : bx 0 (∀ y, some (A 2 q) = some y → ∃ ci, gObj G σ y ci ∧ ci < 18 ∧ gcst 3 ci = true) := bx_in fun y hy => by
    cases hy
    exact ⟨4, Or.inl ⟨_, hht⟩, by decide, by decide⟩
  rcases h2 with ⟨rfl, rfl⟩ | ⟨c1, c2, c3, c4, c5⟩
  · refine sJ2_add0 hG hhm h3 lm hf ⟨by omega, by omega⟩ ⟨by omega, by omega⟩ hv ?_
    have k1 := kSt_newF hS (e := .inr (3, 10, .inr (.inl (va_up (fun _ => none) 0 (some (A 2 q)))))) (s := 10) (by omega)
    have k2 := kSt_setF k1 (a := ml) (e := .inl (10, [vi 1, vr σ.2.1, vi 1])) ((gset_ne (by omega)).trans h1) rfl
    refine hQ _ _ σ.2.1 k2 (bx_in ⟨gset_self _ _ _, Or.inr ⟨by omega, by omega, r3, ?_, ?_⟩, h3, h4, fun a e q => ?_⟩)
    · cases z : X σ.2.1 with
      | none => rfl
      | some e => exact absurd rfl (nX _ _ z)
    · rw [gset_ne (by omega), gset_self]
      refine congrArg (fun f => some (Sum.inr (3, 10, Sum.inr (Sum.inl f)))) (funext fun e => ?_)
      simp only [va_up]
      grind
    · have n1 : a ≠ ml := by intro z; subst z; rw [h4] at q; cases q
      rw [gset_ne n1, gset_ne (nX a e q)]
      exact h5 a e q
  · have hhb := hS.1.2.2.2.2.2 _ _ c5
    refine sJ2_add hG hhm hhb h3 c3 ⟨by omega, by omega⟩ (by omega) ⟨by omega, by omega⟩ hv ?_
    have k1 := kSt_setF hS (a := b) (e := .inr (3, 10, .inr (.inl (va_up (fun e => if e < c then some (A 2 (mt e)) else none) c (some (A 2 q)))))) c5 rfl
    have k2 := kSt_setF k1 (a := ml) (e := .inl (10, [vi ((c : Int) + 1), vr b, vi ((c : Int) + 1)])) ((gset_ne (by omega)).trans h1) rfl
    refine hQ _ _ b (kSt_le k2 (by omega) (by omega)) (bx_in ⟨gset_self _ _ _, Or.inr ⟨by omega, c2, c3, c4, ?_⟩, h3, h4, fun a e q => ?_⟩)
    · rw [gset_ne c2, gset_self]
      refine congrArg (fun f => some (Sum.inr (3, 10, Sum.inr (Sum.inl f)))) (funext fun e => ?_)
      simp only [va_up]
      grind
    · have n1 : a ≠ ml := by intro z; subst z; rw [h4] at q; cases q
      have n2 : a ≠ b := by intro z; subst z; rw [c4] at q; cases q
      rw [gset_ne n1, gset_ne n2]
      exact h5 a e q
end KM
