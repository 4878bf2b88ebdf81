/-! the kernel's heap: an item in the making gets its place -/
section KG
variable {G : gG} {n m n' m' fr rc rs : Nat} {A A' : kA} {X X' : kX} {σ σ' σ0 σ2 : gS} {μ μ' : mS} {Q : gO → gS → Prop}
def asl (A : kA) (t a mc L : Nat) (y : Nat → Nat) : kA := fun k j => if k = 3 ∧ j = t then a else if k = 23 ∧ j = t then 1 else if k = 17 ∧ j = t then mc else if k = 12 ∧ 8 * t ≤ j ∧ j < 8 * t + 8 then y (j - 8 * t) else if k = 30 ∧ a ≤ j ∧ j < a + L then a else A k j
theorem asl_o {t a mc L k : Nat} {y : Nat → Nat} (h : ¬ (k = 3 ∨ k = 23 ∨ k = 17 ∨ k = 12 ∨ k = 30)) : asl A t a mc L y k = A k := by funext j; simp only [asl]; grind
theorem kr_slotX (h : kRep G n A X σ' μ) {t a mc L p i : Nat} {y : Nat → Nat} (ht : t = 15 + 15 * p + i) (hi : i < 15) (hnw : ¬ μ 5 (15 * p + i) = 1) (ha : gBase G ≤ a) (hb : ∀ k i, k < 7 → A (20 + k) i = 1 → A k i ≠ a) (hc0 : ∀ k i j e, A (20 + k) i = 1 → kcell G A μ k i j = some e → ¬ (a ≤ A k i + j ∧ A k i + j < a + L))
    (e : ∀ b j, ¬ (b ≤ 2 ∧ j = t) → ¬ ((b = 3 ∨ b = 4) ∧ 8 * t ≤ j ∧ j < 8 * t + 8) → μ' b j = μ b j) (hm : 0 ≤ μ' 1 t ∧ μ' 1 t ≤ 8)
    (hL : ∀ j e, kslot (asl A t a mc L y) μ' t j = some e → j < L) (hcell : ∀ j e, kslot (asl A t a mc L y) μ' t j = some e → σ'.1 (a + j) = some e ∧ X (a + j) = none)
    (hent : ∀ k : Nat, (k : Int) < μ' 1 t → (μ' 0 t = 2 → σ'.1 (y k) = some (.inl (8, [vi (μ' 3 (8 * t + k)), vi (μ' 4 (8 * t + k))]))) ∧ (μ' 0 t = 3 → gBx G σ' (y k) (μ' 3 (8 * t + k)))) (hn : n ≤ n') (hmc : mc ≤ n') (hm8 : ∀ s, A 23 s = 1 → μ 1 s ≤ 8) : kRep G n' (asl A t a mc L y) X σ' μ' := by
  have o := fun k (hk : ¬ (k = 3 ∨ k = 23 ∨ k = 17 ∨ k = 12 ∨ k = 30)) => asl_o (A := A) (t := t) (a := a) (mc := mc) (L := L) (y := y) hk
  have ea : ∀ b, 5 ≤ b → μ' b = μ b := fun b hb => by funext j; exact e b j (by omega) (by omega)
  have a3 : ∀ s, s ≠ t → asl A t a mc L y 3 s = A 3 s := fun s hs => by simp only [asl]; grind
  have a17 : ∀ s, s ≠ t → asl A t a mc L y 17 s = A 17 s := fun s hs => by simp only [asl]; grind
  have a12 : ∀ s k, s ≠ t → k < 8 → asl A t a mc L y 12 (8 * s + k) = A 12 (8 * s + k) := fun s k hs hk => by simp only [asl]; grind
  have a3t : asl A t a mc L y 3 t = a := by simp [asl]
  have fl : ∀ k i', ¬ (k = 3 ∧ i' = t) → asl A t a mc L y (20 + k) i' = 1 → k < 7 → A (20 + k) i' = 1 := fun k i' q h2 h7 => by simp only [asl] at h2; grind
  have bs : ∀ k i', ¬ (k = 3 ∧ i' = t) → k < 7 → asl A t a mc L y k i' = A k i' := fun k i' q h7 => by simp only [asl]; grind
  have ks : ∀ s, s ≠ t → μ' 0 s = μ 0 s ∧ μ' 1 s = μ 1 s ∧ μ' 2 s = μ 2 s ∧ ∀ k, k < 8 → μ' 3 (8 * s + k) = μ 3 (8 * s + k) ∧ μ' 4 (8 * s + k) = μ 4 (8 * s + k) := fun s hs => ⟨e 0 s (by omega) (by omega), e 1 s (by omega) (by omega), e 2 s (by omega) (by omega), fun k hk => ⟨e 3 _ (by omega) (by omega), e 4 _ (by omega) (by omega)⟩⟩
  have hs : ∀ k i' j, k < 7 → A (20 + k) i' = 1 → ¬ (k = 3 ∧ i' = t) → kcell G (asl A t a mc L y) μ' k i' j = kcell G A μ k i' j := by
    intro k i' j h7 hl q
    rcases k with _ | _ | _ | _ | _ | _ | _ | k
    · rcases i' with _ | i'
      · rcases j with _ | _ | _ | _ | j
        · simp only [kcell, kc0, o 0 (by omega), ea 24 (by omega), ea 25 (by omega), ea 22 (by omega)]
        · refine congrArg (fun f => some (Sum.inr (4, 15, Sum.inr (Sum.inl f)))) (funext fun s => ?_)
          by_cases hs : s < 15
          · rw [a3 s (by omega), (ks s (by omega)).1]
          · rw [if_neg (fun z => hs z.1), if_neg (fun z => hs z.1)]
        · simp only [kcell, kc0, o 1 (by omega), ea 8 (by omega)]
        · simp only [kcell, kc0, o 10 (by omega), o 26 (by omega), o 6 (by omega), o 18 (by omega)]
        · rfl
      · rfl
    · simp only [kcell]; unfold kc1; rw [o 1 (by omega), o 2 (by omega), o 4 (by omega), o 9 (by omega), o 13 (by omega), o 15 (by omega), ea 10 (by omega), ea 11 (by omega), ea 14 (by omega), ea 18 (by omega)]
    · rcases j with _ | _ | _ | _ | _ | _ | _ | j
      · simp only [kcell, kc2, o 1 (by omega), o 2 (by omega), o 19 (by omega)]
      · refine congrArg (fun f => some (Sum.inr (4, 15, Sum.inr (Sum.inl f)))) (funext fun s => ?_)
        rw [ea 5 (by omega)]
        by_cases hs : 15 + 15 * i' + s = t
        · by_cases h15 : s < 15
          · have : 15 * i' + s = 15 * p + i := by omega
            rw [this, if_neg (fun z => hnw z.2.1), if_neg (fun z => hnw z.2.1)]
          · rw [if_neg (fun z => h15 z.1), if_neg (fun z => h15 z.1)]
        · rw [a3 _ hs, (ks _ hs).1]
      · simp only [kcell, kc2, ea 6 (by omega)]
      · refine congrArg (fun f => some (Sum.inr (1, 15, Sum.inl f))) (funext fun s => ?_)
        rw [ea 5 (by omega)]
        by_cases hs : 15 + 15 * i' + s = t
        · by_cases h15 : s < 15
          · have : 15 * i' + s = 15 * p + i := by omega
            rw [this, if_neg (fun z => hnw z.2.1), if_neg (fun z => hnw z.2.1)]
          · rw [if_neg (fun z => h15 z.1), if_neg (fun z => h15 z.1)]
        · rw [(ks _ hs).1]
      · simp only [kcell, kc2, o 2 (by omega), o 16 (by omega), ea 17 (by omega)]
      · simp only [kcell, kc2, o 14 (by omega), ea 17 (by omega)]
      · simp only [kcell, kc2, o 5 (by omega), ea 20 (by omega)]
      · rfl
    · have hst : i' ≠ t := fun z => q ⟨rfl, z⟩
      have m8 := hm8 i' hl
      obtain ⟨k0, k1, k2, k3⟩ := ks i' hst
      have f1 : (fun k : Nat => if (k : Int) < μ 1 i' then some (asl A t a mc L y 12 (8 * i' + k)) else none) = fun k : Nat => if (k : Int) < μ 1 i' then some (A 12 (8 * i' + k)) else none := funext fun k => by
        by_cases z : (k : Int) < μ 1 i'
        · rw [if_pos z, if_pos z, a12 i' k hst (by omega)]
        · rw [if_neg z, if_neg z]
      have f2 : (fun k : Nat => if k < 8 ∧ (k : Int) < μ 1 i' then μ' 3 (8 * i' + k) else 0) = fun k : Nat => if k < 8 ∧ (k : Int) < μ 1 i' then μ 3 (8 * i' + k) else 0 := funext fun k => by
        by_cases z : k < 8
        · rw [(k3 k z).1]
        · rw [if_neg (fun w => z w.1), if_neg (fun w => z w.1)]
      simp only [kcell]; unfold kslot kcF kcL; rw [k0, k1, k2, a3 i' hst, a17 i' hst, f1, f2]
    · simp only [kcell, ea 18 (by omega), ea 19 (by omega)]
    · simp only [kcell, ea 20 (by omega), ea 21 (by omega)]
    · simp only [kcell, o 2 (by omega), o 11 (by omega), o 18 (by omega)]
    · omega
  refine ⟨h.1, fun k i' j e9 h2 h3 => ?_, fun k i' k' j' g1 g2 g3 g4 g5 => ?_, ⟨fun s k h1 h2 => ?_, fun q k h1 h2 => ?_, fun q k h1 h2 => ?_⟩, fun j => ?_, h.2.2.2.2.2⟩
  · have k7 := kcell_9 h3
    by_cases q : k = 3 ∧ i' = t
    · obtain ⟨rfl, rfl⟩ := q
      have hk3 := hL j e9 h3
      rw [a3t]
      refine ⟨(hcell j e9 h3).1, ?_, ha, (hcell j e9 h3).2⟩
      simp only [asl]; grind
    · have hl := fl k i' q h2 k7
      rw [hs k i' j k7 hl q] at h3
      have old := h.2.1 k i' j e9 hl h3
      have lt := hc0 k i' j e9 hl h3
      rw [bs k i' q k7]
      refine ⟨old.1, ?_, old.2.2⟩
      rw [← old.2.1]
      simp only [asl]; grind
  · by_cases q1 : k = 3 ∧ i' = t
    · by_cases q2 : k' = 3 ∧ j' = t
      · omega
      · exfalso
        have := hb k' j' g2 (fl k' j' q2 g4 g2)
        rw [bs k' j' q2 g2, q1.1, q1.2, a3t] at g5
        omega
    · by_cases q2 : k' = 3 ∧ j' = t
      · exfalso
        have := hb k i' g1 (fl k i' q1 g3 g1)
        rw [bs k i' q1 g1, q2.1, q2.2, a3t] at g5
        omega
      · rw [bs k i' q1 g1, bs k' j' q2 g2] at g5
        exact h.2.2.1 k i' k' j' g1 g2 (fl k i' q1 g3 g1) (fl k' j' q2 g4 g2) g5
  · by_cases q : s = t
    · subst q
      have k8 : k < 8 := by omega
      have e12 : asl A s a mc L y 12 (8 * s + k) = y (8 * s + k - 8 * s) := by simp only [asl]; grind
      rw [show 8 * s + k - 8 * s = k by omega] at e12
      rw [e12]
      exact hent k h2
    · have hl := fl 3 s (fun z => q z.2) h1 (by omega)
      obtain ⟨k0, k1, k2, k3⟩ := ks s q
      rw [k1] at h2
      have m8 := hm8 s hl
      have k8 : k < 8 := by omega
      rw [k0, a12 s k q k8, (k3 k k8).1, (k3 k k8).2]
      exact h.2.2.2.1.1 s k hl h2
  · rw [o 21 (by omega)] at h1
    rw [o 13 (by omega), ea 13 (by omega)]
    rw [ea 14 (by omega)] at h2
    exact h.2.2.2.1.2.1 q k h1 h2
  · rw [o 22 (by omega)] at h1
    rw [o 14 (by omega), ea 15 (by omega), ea 16 (by omega)]
    rw [ea 17 (by omega)] at h2
    exact h.2.2.2.1.2.2 q k h1 h2
  · have := h.2.2.2.2.1 j
    rw [o 10 (by omega), o 15 (by omega), o 16 (by omega)]
    refine ⟨by omega, by omega, by omega, ?_⟩
    by_cases q : j = t
    · subst q; simp only [asl]; grind
    · rw [a17 j q]; omega
theorem asl_as {t a mc L b : Nat} {y : Nat → Nat} (h : b ≠ 30) : asl A t a mc L y b = aslot A t a mc y b := by
  funext j
  have e1 : ¬ (b = 30 ∧ a ≤ j ∧ j < a + L) := fun q => h q.1
  have e2 : ¬ (b = 30 ∧ a ≤ j ∧ j < a + 3) := fun q => h q.1
  unfold asl aslot
  rw [if_neg e1, if_neg e2]
theorem kCon_A2 (h : kCon A μ) (e : ∀ b, b = 9 ∨ b = 11 ∨ b = 18 ∨ b = 19 ∨ (20 ≤ b ∧ b ≤ 26) → A' b = A b) : kCon A' μ := by
  unfold kCon at h ⊢
  rw [e 20 (by omega), e 21 (by omega), e 22 (by omega), e 9 (by omega), e 19 (by omega), e 23 (by omega), e 24 (by omega), e 25 (by omega), e 18 (by omega), e 26 (by omega), e 11 (by omega)]
  exact h
/-- a transaction keeps what it has made -/
theorem kSt_mk (hS : kSt G n m A X σ μ) {p i t mc a L : Nat} {y : Nat → Nat} (ht : t = 15 + 15 * p + i) (hp : p < 6) (hi : i < 15) (h9 : μ 9 p = 1) (h5 : μ 5 (15 * p + i) = 0) (hr : mRs μ) (hba : gBase G ≤ a) (hL : 0 < L) (hX : ∀ j, j < L → X (a + j) ≠ none) (hX' : ∀ b e, X' b = some e → X b = some e) (hX0 : ∀ j, j < L → X' (a + j) = none)
    (e : ∀ b j, ¬ (b ≤ 2 ∧ j = t) → ¬ ((b = 3 ∨ b = 4) ∧ 8 * t ≤ j ∧ j < 8 * t + 8) → μ' b j = μ b j) (hm : 0 ≤ μ' 1 t ∧ μ' 1 t ≤ 8) (hk : ¬ μ' 0 t = 0)
    (hcell : ∀ j e, kslot (asl (arng A) t a mc L y) μ' t j = some e → j < L ∧ X (a + j) = some e)
    (hent : ∀ k : Nat, (k : Int) < μ' 1 t → (μ' 0 t = 2 → σ.1 (y k) = some (.inl (8, [vi (μ' 3 (8 * t + k)), vi (μ' 4 (8 * t + k))]))) ∧ (μ' 0 t = 3 → gBx G σ (y k) (μ' 3 (8 * t + k)))) (hn : n ≤ n') (hmc : mc ≤ n') {e' : gE}
    (he : e' = .inr (4, 15, .inr (.inl (va_up (fun s => if s < 15 ∧ μ 5 (15 * p + s) = 1 ∧ μ 0 (15 + 15 * p + s) ≠ 0 then some (A 3 (15 + 15 * p + s)) else none) i (some a))))) : kSt G n' m (asl (arng A) t a mc L y) X' (gset σ.1 (A 2 p + 1) e', σ.2) (mup μ' 5 (15 * p + i) 1) := by
  have hS0 := kSt_rg hS
  have hk3 : ∀ s, arng A 23 s = 1 → s < 105 := fun s hl => by
    rcases Nat.lt_or_ge s 105 with q | q
    · exact q
    · exact absurd hl (kRg_arng.2.2.1 s q)
  have m8 : ∀ s, arng A 23 s = 1 → μ 1 s ≤ 8 := fun s hl => (hr.1 s (hk3 s hl)).2.2.2.1
  -- what is put by is nobody's
  have dj : ∀ k i j e, arng A (20 + k) i = 1 → kcell G (arng A) μ k i j = some e → ¬ (a ≤ arng A k i + j ∧ arng A k i + j < a + L) := fun k i j e hl hc q => by
    have := (hS0.1.2.1 k i j e hl hc).2.2.2
    have h2 := hX (arng A k i + j - a) (by omega)
    rw [show a + (arng A k i + j - a) = arng A k i + j by omega] at h2
    exact h2 this
  have kb : ∀ k i, k < 7 → arng A (20 + k) i = 1 → arng A k i ≠ a := fun k i h7 hl q => by
    have key : ∀ e, kcell G (arng A) μ k i 0 = some e → False := fun e hc => dj k i 0 e hl hc (by omega)
    rcases k with _ | _ | _ | _ | _ | _ | _ | k
    · rcases i with _ | i
      · exact key _ rfl
      · exact absurd hl (kRg_arng.1 _ (by omega)).1
    · exact key _ rfl
    · exact key _ rfl
    · have k0 := ((hS0.2.1.2.2.1 i (hk3 i hl)).mp hl).1
      have := hr.1 i (hk3 i hl)
      rcases (by omega : μ 0 i = 1 ∨ μ 0 i = 2 ∨ μ 0 i = 3) with z | z | z
      · exact key _ (kslot_1 z)
      · exact key _ (kslot_2 z)
      · exact key _ (kslot_p z)
    · exact key _ rfl
    · exact key _ rfl
    · rcases i with _ | i
      · exact key _ rfl
      · exact absurd hl (kRg_arng.1 _ (by omega)).2
    · omega
  have h0 := kfrz_le hS0.1 hX'
  have h1 := kr_slotX h0 (mc := mc) (y := y) (L := L) (n' := n') ht hi (by omega) hba kb dj e hm (fun j e hj => (hcell j e hj).1) (fun j e hj => ⟨hS.1.2.2.2.2.2 _ _ (hcell j e hj).2, hX0 j (hcell j e hj).1⟩) hent hn hmc m8
  have h2 : kCon (asl (arng A) t a mc L y) (mup μ' 5 (15 * p + i) 1) := kCon_A2 (kCon_slot (a := a) (mc := mc) (y := y) hS0.2.1 ht hp hi h9 e hk) (fun b hb => asl_as (by omega))
  have l22 : asl (arng A) t a mc L y 22 p = 1 := by rw [asl_o (by omega)]; exact (hS0.2.1.2.1 p hp).2.1.mpr h9
  have e5 : μ' 5 (15 * p + i) = 0 := by rw [e 5 _ (by omega) (by omega)]; exact h5
  have h3 := kr_wr h1 (p := p) (i := i) l22 hi (by rw [← ht]; exact hk) e5 rfl
  have o2 : asl (arng A) t a mc L y 2 = A 2 := by rw [asl_o (by omega), arng_o (by omega)]
  have o3 : asl (arng A) t a mc L y 3 (15 + 15 * p + i) = a := by rw [← ht]; simp [asl]
  have ef : va_up (fun s => if s < 15 ∧ μ' 5 (15 * p + s) = 1 ∧ μ' 0 (15 + 15 * p + s) ≠ 0 then some (asl (arng A) t a mc L y 3 (15 + 15 * p + s)) else none) i (some a) = va_up (fun s => if s < 15 ∧ μ 5 (15 * p + s) = 1 ∧ μ 0 (15 + 15 * p + s) ≠ 0 then some (A 3 (15 + 15 * p + s)) else none) i (some a) := by
    funext s
    unfold va_up
    by_cases z : s = i
    · rw [if_pos z, if_pos z]
    · rw [if_neg z, if_neg z]
      dsimp only
      rw [e 5 _ (by omega) (by omega), e 0 _ (by omega) (by omega)]
      have : asl (arng A) t a mc L y 3 (15 + 15 * p + s) = A 3 (15 + 15 * p + s) := by
        have : ¬ 15 + 15 * p + s = t := by omega
        rw [← arng_o (A := A) (k := 3) (by omega)]
        simp only [asl]; grind
      rw [this]
  rw [o2, o3, ef] at h3
  subst he
  exact ⟨h3, h2, hS.2.2.1, hS.2.2.2.1, hS.2.2.2.2⟩
end KG
