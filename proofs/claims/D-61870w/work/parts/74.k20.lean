/-! the kernel's heap: a copy is kept by its transaction -/
section KB
variable {G : gG} {n m n' m' fr rc rs : Nat} {A A' : kA} {X X' : kX} {σ σ' σ2 : gS} {μ μ' : mS} {Q : gO → gS → Prop}
theorem kr_wr (h : kRep G n A X σ μ) {p i : Nat} (hl : A 22 p = 1) (hi : i < 15) (hk : ¬ μ 0 (15 + 15 * p + i) = 0) (h5 : μ 5 (15 * p + i) = 0) {e' : gE} (he : e' = .inr (4, 15, .inr (.inl (va_up (fun s => if s < 15 ∧ μ 5 (15 * p + s) = 1 ∧ μ 0 (15 + 15 * p + s) ≠ 0 then some (A 3 (15 + 15 * p + s)) else none) i (some (A 3 (15 + 15 * p + i))))))) : kRep G n A X (gset σ.1 (A 2 p + 1) e', σ.2) (mup μ 5 (15 * p + i) 1) := by
  subst he
  refine kset h 2 p 1 hl rfl (fun _ _ => rfl) ?_ ?_ (kimm_up h.2.2.2.1 (by omega)) h.2.2.2.2.1
  · refine congrArg (fun f => some (Sum.inr (4, 15, Sum.inr (Sum.inl f)))) (funext fun s => ?_)
    simp only [mup, va_up]
    grind
  · intro k i' j h7 hl hne
    rcases k with _ | _ | _ | _ | _ | _ | _ | k
    · rcases i' with _ | i'
      · rcases j with _ | _ | _ | _ | j <;> rfl
      · rfl
    · rcases j with _ | _ | _ | _ | j <;> rfl
    · rcases j with _ | _ | _ | _ | _ | _ | _ | j
      · rfl
      · refine congrArg (fun f => some (Sum.inr (4, 15, Sum.inr (Sum.inl f)))) (funext fun s => ?_)
        simp only [mup]
        grind
      · rfl
      · refine congrArg (fun f => some (Sum.inr (1, 15, Sum.inl f))) (funext fun s => ?_)
        simp only [mup]
        by_cases z : 15 * i' + s = 15 * p + i
        · by_cases h15 : s < 15
          · have e1 : 15 + 15 * i' + s = 15 + 15 * p + i := by omega
            rw [e1, if_neg (fun q => hk q.2.2), if_neg (fun q => hk q.2.2)]
          · rw [if_neg (fun q => h15 q.1), if_neg (fun q => h15 q.1)]
        · grind
      · rfl
      · rfl
      · rfl
      · rfl
    · rfl
    · rfl
    · rfl
    · rcases i' with _ | i'
      · rcases j with _ | j <;> rfl
      · rfl
    · omega
theorem kCon_slot {t a mc p i : Nat} {y : Nat → Nat} (hC : kCon A μ) (ht : t = 15 + 15 * p + i) (hp : p < 6) (hi : i < 15) (h9 : μ 9 p = 1) (e : ∀ b j, ¬ (b ≤ 2 ∧ j = t) → ¬ ((b = 3 ∨ b = 4) ∧ 8 * t ≤ j ∧ j < 8 * t + 8) → μ' b j = μ b j) (hk : ¬ μ' 0 t = 0) : kCon (aslot A t a mc y) (mup μ' 5 (15 * p + i) 1) := by
  have o := fun k (hk : ¬ (k = 3 ∨ k = 23 ∨ k = 17 ∨ k = 12 ∨ k = 30)) => aslot_o (A := A) (t := t) (a := a) (mc := mc) (y := y) hk
  have ea : ∀ b, 6 ≤ b → mup μ' 5 (15 * p + i) 1 b = μ b := fun b hb => by rw [mup_other _ _ _ (by omega)]; funext j; exact e b j (by omega) (by omega)
  have e0 : ∀ s, s ≠ t → mup μ' 5 (15 * p + i) 1 0 s = μ 0 s := fun s hs => by rw [mup_other _ _ _ (by omega)]; exact e 0 s (by omega) (by omega)
  have e5 : ∀ j, mup μ' 5 (15 * p + i) 1 5 j = if j = 15 * p + i then 1 else μ 5 j := fun j => by
    have := e 5 j (by omega) (by omega)
    simp only [mup]; grind
  obtain ⟨c1, c2, c3, c4, c5, c6⟩ := hC
  refine ⟨by rw [o 20 (by omega)]; exact c1, fun q hq => ?_, fun s hs => ?_, fun x hx => ?_, ?_, fun j => ?_⟩
  · rw [o 21 (by omega), o 22 (by omega), o 9 (by omega), o 19 (by omega), ea 8 (by omega), ea 9 (by omega), ea 11 (by omega)]; exact c2 q hq
  · by_cases z : s = t
    · subst z
      have f1 : aslot A s a mc y 23 s = 1 := by simp [aslot]
      rw [f1, mup_other _ _ _ (by omega), ea 9 (by omega), e5]
      refine ⟨fun _ => ⟨hk, fun _ => ⟨?_, ?_⟩⟩, fun _ => rfl⟩
      · rw [show (s - 15) / 15 = p by omega]; exact h9
      · rw [if_pos (by omega)]
    · have f1 : aslot A t a mc y 23 s = A 23 s := by simp only [aslot]; grind
      rw [f1, e0 s z, ea 9 (by omega), e5]
      have := c3 s hs
      by_cases z2 : 15 ≤ s
      · rw [if_neg (by omega)]; exact this
      · constructor
        · intro h; exact ⟨(this.mp h).1, fun q => absurd q z2⟩
        · intro h; exact this.mpr ⟨h.1, fun q => absurd q z2⟩
  · rw [o 24 (by omega), o 25 (by omega), ea 8 (by omega), ea 9 (by omega), ea 18 (by omega), ea 20 (by omega)]; exact c4 x hx
  · rw [o 18 (by omega), o 26 (by omega), o 11 (by omega), ea 11 (by omega), ea 12 (by omega)]; exact c5
  · have := c6 j
    rw [ea 6 (by omega), ea 8 (by omega), ea 9 (by omega), ea 10 (by omega), e5]
    refine ⟨?_, this.2⟩
    split
    · exact Or.inr rfl
    · exact this.1
theorem kSt_wr (hS : kSt G n m A X σ μ) {p i t mc : Nat} {y : Nat → Nat} (ht : t = 15 + 15 * p + i) (hp : p < 6) (hi : i < 15) (h9 : μ 9 p = 1) (h5 : μ 5 (15 * p + i) = 0) (hr : mRs μ) (hext : kext σ σ2) (hX : ∀ a, σ.2.1 ≤ a → X a = none) (r1 : m' ≤ σ2.2.2.1) (r2 : 16 * m' ≤ σ2.2.2.2)
    (e : ∀ b j, ¬ (b ≤ 2 ∧ j = t) → ¬ ((b = 3 ∨ b = 4) ∧ 8 * t ≤ j ∧ j < 8 * t + 8) → μ' b j = μ b j) (hm : 0 ≤ μ' 1 t ∧ μ' 1 t ≤ 8) (hk : ¬ μ' 0 t = 0)
    (hcell : ∀ j e, kslot (aslot (arng A) t σ.2.1 mc y) μ' t j = some e → σ2.1 (σ.2.1 + j) = some e)
    (hent : ∀ k : Nat, (k : Int) < μ' 1 t → (μ' 0 t = 2 → σ2.1 (y k) = some (.inl (8, [vi (μ' 3 (8 * t + k)), vi (μ' 4 (8 * t + k))]))) ∧ (μ' 0 t = 3 → gBx G σ2 (y k) (μ' 3 (8 * t + k)))) (hn : n ≤ n') (hmc : mc ≤ n') {e' : gE}
    (he : e' = .inr (4, 15, .inr (.inl (va_up (fun s => if s < 15 ∧ μ 5 (15 * p + s) = 1 ∧ μ 0 (15 + 15 * p + s) ≠ 0 then some (A 3 (15 + 15 * p + s)) else none) i (some σ.2.1))))) : kSt G n' m' (aslot (arng A) t σ.2.1 mc y) X (gset σ2.1 (A 2 p + 1) e', σ2.2) (mup μ' 5 (15 * p + i) 1) := by
  have hS0 := kSt_rg hS
  have kb : ∀ k i, k < 7 → arng A (20 + k) i = 1 → arng A k i < σ.2.1 := fun k i h7 hl => kbase hS0 kRg_arng (fun s hs => ⟨(hr.1 s hs).1, (hr.1 s hs).2.1⟩) h7 hl
  have m8 : ∀ s, arng A 23 s = 1 → μ 1 s ≤ 8 := fun s hl => by
    have hs : s < 105 := by
      rcases Nat.lt_or_ge s 105 with q | q
      · exact q
      · exact absurd hl (kRg_arng.2.2.1 s q)
    exact (hr.1 s hs).2.2.2.1
  have h1 := kr_slot (kRep_ext hS0.1 hext) (mc := mc) (y := y) (n' := n') ht hi (by omega) hS.2.2.2.2 kb (fun k i j e hl hc => klt hS0.1 (hS0.1.2.1 k i j e hl hc).1) e hm (fun j e hj => ⟨hcell j e hj, hX _ (by omega)⟩) hent hn hmc m8
  have h2 := kCon_slot (a := σ.2.1) (mc := mc) (y := y) hS0.2.1 ht hp hi h9 e hk
  have l22 : aslot (arng A) t σ.2.1 mc y 22 p = 1 := by rw [aslot_o (by omega)]; exact (hS0.2.1.2.1 p hp).2.1.mpr h9
  have e5 : μ' 5 (15 * p + i) = 0 := by rw [e 5 _ (by omega) (by omega)]; exact h5
  have h3 := kr_wr h1 (p := p) (i := i) l22 hi (by rw [← ht]; exact hk) e5 rfl
  have o2 : aslot (arng A) t σ.2.1 mc y 2 = A 2 := by rw [aslot_o (by omega), arng_o (by omega)]
  have o3 : aslot (arng A) t σ.2.1 mc y 3 (15 + 15 * p + i) = σ.2.1 := by rw [← ht]; simp [aslot]
  have ef : va_up (fun s => if s < 15 ∧ μ' 5 (15 * p + s) = 1 ∧ μ' 0 (15 + 15 * p + s) ≠ 0 then some (aslot (arng A) t σ.2.1 mc y 3 (15 + 15 * p + s)) else none) i (some σ.2.1) = va_up (fun s => if s < 15 ∧ μ 5 (15 * p + s) = 1 ∧ μ 0 (15 + 15 * p + s) ≠ 0 then some (A 3 (15 + 15 * p + s)) else none) i (some σ.2.1) := by
    funext s
    unfold va_up
    by_cases z : s = i
    · rw [if_pos z, if_pos z]
    · rw [if_neg z, if_neg z]
      dsimp only
      rw [e 5 _ (by omega) (by omega), e 0 _ (by omega) (by omega)]
      have : aslot (arng A) t σ.2.1 mc y 3 (15 + 15 * p + s) = A 3 (15 + 15 * p + s) := by
        have : ¬ 15 + 15 * p + s = t := by omega
        rw [← arng_o (A := A) (k := 3) (by omega)]
        simp only [aslot]; grind
      rw [this]
  rw [o2, o3, ef] at h3
  subst he
  exact ⟨h3, h2, r1, r2, Nat.le_trans hS.2.2.2.2 hext.2.1⟩
end KB
