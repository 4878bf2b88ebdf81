/-! the kernel's heap: a new item is named -/
section KA
variable {G : gG} {n m n' m' fr rc rs : Nat} {A A' : kA} {X X' : kX} {σ σ' : gS} {μ μ' : mS} {Q : gO → gS → Prop}
/-- nothing out of range is live -/
def kRg (A : kA) : Prop := (∀ i, 0 < i → A 20 i ≠ 1 ∧ A 26 i ≠ 1) ∧ (∀ i, 6 ≤ i → A 21 i ≠ 1 ∧ A 22 i ≠ 1) ∧ (∀ i, 105 ≤ i → A 23 i ≠ 1) ∧ (∀ i, 24 ≤ i → A 24 i ≠ 1 ∧ A 25 i ≠ 1)
def arng (A : kA) : kA := fun k j => if ((k = 20 ∨ k = 26) ∧ 0 < j) ∨ ((k = 21 ∨ k = 22) ∧ 6 ≤ j) ∨ (k = 23 ∧ 105 ≤ j) ∨ ((k = 24 ∨ k = 25) ∧ 24 ≤ j) then 0 else A k j
theorem arng_o {k : Nat} (h : k < 20 ∨ 27 ≤ k) : arng A k = A k := by funext j; simp only [arng]; grind
theorem arng_f {k j : Nat} (h : arng A (20 + k) j = 1) : A (20 + k) j = 1 := by simp only [arng] at h; grind
theorem kRg_arng : kRg (arng A) := by
  refine ⟨fun i hi => ?_, fun i hi => ?_, fun i hi => ?_, fun i hi => ?_⟩ <;> simp only [arng] <;> grind
theorem kSt_rg (h : kSt G n m A X σ μ) : kSt G n m (arng A) X σ μ := by
  have h26 : arng A 26 0 = A 26 0 := by simp [arng]
  refine ⟨ksub h.1 (fun k i h1 h2 => ⟨arng_f h2, by rw [arng_o (by omega)], fun j => ?_⟩) (arng_o (by omega)) ?_ (fun i => by rw [arng_o (by omega), arng_o (by omega), arng_o (by omega), arng_o (by omega)]; exact h.1.2.2.2.2.1 i), ?_, h.2.2⟩
  · rcases k with _ | _ | _ | _ | _ | _ | _ | k
    · rcases i with _ | i
      · rcases j with _ | _ | _ | _ | j
        · simp only [kcell, kc0, arng_o (A := A) (k := 0) (by omega)]
        · simp only [kcell, kc0, arng_o (A := A) (k := 3) (by omega)]
        · simp only [kcell, kc0, arng_o (A := A) (k := 1) (by omega)]
        · simp only [kcell, kc0, arng_o (A := A) (k := 10) (by omega), arng_o (A := A) (k := 6) (by omega), arng_o (A := A) (k := 18) (by omega), h26]
        · rfl
      · rfl
    · simp only [kcell]; unfold kc1; rw [arng_o (k := 1) (by omega), arng_o (k := 2) (by omega), arng_o (k := 4) (by omega), arng_o (k := 9) (by omega), arng_o (k := 13) (by omega), arng_o (k := 15) (by omega)]
    · simp only [kcell]; unfold kc2; rw [arng_o (k := 1) (by omega), arng_o (k := 2) (by omega), arng_o (k := 3) (by omega), arng_o (k := 5) (by omega), arng_o (k := 14) (by omega), arng_o (k := 16) (by omega), arng_o (k := 19) (by omega)]
    · simp only [kcell]; unfold kslot kcF kcL; rw [arng_o (k := 3) (by omega), arng_o (k := 12) (by omega), arng_o (k := 17) (by omega)]
    · rfl
    · rfl
    · simp only [kcell, arng_o (A := A) (k := 2) (by omega), arng_o (A := A) (k := 11) (by omega), arng_o (A := A) (k := 18) (by omega)]
    · rfl
  · obtain ⟨a, b, c⟩ := h.1.2.2.2.1
    refine ⟨fun s k h1 h2 => ?_, fun q k h1 h2 => ?_, fun q k h1 h2 => ?_⟩
    · rw [arng_o (by omega)]; exact a s k (arng_f (k := 3) h1) h2
    · rw [arng_o (by omega)]; exact b q k (arng_f (k := 1) h1) h2
    · rw [arng_o (by omega)]; exact c q k (arng_f (k := 2) h1) h2
  · obtain ⟨c1, c2, c3, c4, c5, c6⟩ := h.2.1
    have f : ∀ k j, ¬ (((k = 20 ∨ k = 26) ∧ 0 < j) ∨ ((k = 21 ∨ k = 22) ∧ 6 ≤ j) ∨ (k = 23 ∧ 105 ≤ j) ∨ ((k = 24 ∨ k = 25) ∧ 24 ≤ j)) → arng A k j = A k j := fun k j q => if_neg q
    refine ⟨by rw [f _ _ (by omega)]; exact c1, fun p hp => ?_, fun s hs => ?_, fun x hx => ?_, ?_, c6⟩
    · rw [f 21 p (by omega), f 22 p (by omega), f 9 p (by omega), f 19 p (by omega)]; exact c2 p hp
    · rw [f 23 s (by omega)]; exact c3 s hs
    · rw [f 24 x (by omega), f 25 x (by omega)]; exact c4 x hx
    · rw [f 18 0 (by omega), f 26 0 (by omega), arng_o (k := 11) (by omega)]; exact c5
theorem kbase (h : kSt G n m A X σ μ) (hr : kRg A) (hk : ∀ s, s < 105 → 0 ≤ μ 0 s ∧ μ 0 s ≤ 3) {k i : Nat} (h7 : k < 7) (hl : A (20 + k) i = 1) : A k i < σ.2.1 := by
  have key : ∀ e, kcell G A μ k i 0 = some e → A k i < σ.2.1 := fun e he => klt h.1 (h.1.2.1 k i 0 e hl he).1
  rcases k with _ | _ | _ | _ | _ | _ | _ | k
  · rcases i with _ | i
    · exact key _ rfl
    · exact absurd hl (hr.1 _ (by omega)).1
  · exact key _ rfl
  · exact key _ rfl
  · have hs : i < 105 := by
      rcases Nat.lt_or_ge i 105 with q | q
      · exact q
      · exact absurd hl (hr.2.2.1 i q)
    have k0 := ((h.2.1.2.2.1 i hs).mp hl).1
    have := hk i hs
    rcases (by omega : μ 0 i = 1 ∨ μ 0 i = 2 ∨ μ 0 i = 3) with q | q | q
    · exact key _ (by show kslot A μ i 0 = _; unfold kslot; rw [if_pos q]; rfl)
    · exact key _ (by show kslot A μ i 0 = _; unfold kslot; rw [if_neg (by omega), if_pos q]; rfl)
    · exact key _ (by show kslot A μ i 0 = _; unfold kslot; rw [if_neg (by omega), if_neg (by omega), if_pos q]; rfl)
  · exact key _ rfl
  · exact key _ rfl
  · rcases i with _ | i
    · exact key _ rfl
    · exact absurd hl (hr.1 _ (by omega)).2
  · omega
/-- a slot gets a block -/
def aslot (A : kA) (t a mc : Nat) (y : Nat → Nat) : kA := fun k j => if k = 3 ∧ j = t then a else if k = 23 ∧ j = t then 1 else if k = 17 ∧ j = t then mc else if k = 12 ∧ 8 * t ≤ j ∧ j < 8 * t + 8 then y (j - 8 * t) else if k = 30 ∧ a ≤ j ∧ j < a + 3 then a else A k j
theorem aslot_o {t a mc k : Nat} {y : Nat → Nat} (h : ¬ (k = 3 ∨ k = 23 ∨ k = 17 ∨ k = 12 ∨ k = 30)) : aslot A t a mc y k = A k := by funext j; simp only [aslot]; grind
theorem kslot_3 {s j : Nat} {e : gE} (h : kslot A μ s j = some e) : j < 3 := by
  unfold kslot at h
  split at h
  · rcases j with _ | _ | j <;> first | omega | cases h
  · split at h
    · rcases j with _ | _ | _ | j <;> first | omega | cases h
    · split at h
      · rcases j with _ | _ | _ | j <;> first | omega | cases h
      · cases h
theorem kr_slot (h : kRep G n A X σ' μ) {t a mc p i : Nat} {y : Nat → Nat} (ht : t = 15 + 15 * p + i) (hi : i < 15) (hnw : ¬ μ 5 (15 * p + i) = 1) (ha : gBase G ≤ a) (hb : ∀ k i, k < 7 → A (20 + k) i = 1 → A k i < a) (hc0 : ∀ k i j e, A (20 + k) i = 1 → kcell G A μ k i j = some e → A k i + j < a)
    (e : ∀ b j, ¬ (b ≤ 2 ∧ j = t) → ¬ ((b = 3 ∨ b = 4) ∧ 8 * t ≤ j ∧ j < 8 * t + 8) → μ' b j = μ b j) (hm : 0 ≤ μ' 1 t ∧ μ' 1 t ≤ 8)
    (hcell : ∀ j e, kslot (aslot A t a mc y) μ' t j = some e → σ'.1 (a + j) = some e ∧ X (a + j) = none)
    (hent : ∀ k : Nat, (k : Int) < μ' 1 t → (μ' 0 t = 2 → σ'.1 (y k) = some (.inl (8, [vi (μ' 3 (8 * t + k)), vi (μ' 4 (8 * t + k))]))) ∧ (μ' 0 t = 3 → gBx G σ' (y k) (μ' 3 (8 * t + k)))) (hn : n ≤ n') (hmc : mc ≤ n') (hm8 : ∀ s, A 23 s = 1 → μ 1 s ≤ 8) : kRep G n' (aslot A t a mc y) X σ' μ' := by
  have o := fun k (hk : ¬ (k = 3 ∨ k = 23 ∨ k = 17 ∨ k = 12 ∨ k = 30)) => aslot_o (A := A) (t := t) (a := a) (mc := mc) (y := y) hk
  have ea : ∀ b, 5 ≤ b → μ' b = μ b := fun b hb => by funext j; exact e b j (by omega) (by omega)
  have a3 : ∀ s, s ≠ t → aslot A t a mc y 3 s = A 3 s := fun s hs => by simp only [aslot]; grind
  have a17 : ∀ s, s ≠ t → aslot A t a mc y 17 s = A 17 s := fun s hs => by simp only [aslot]; grind
  have a12 : ∀ s k, s ≠ t → k < 8 → aslot A t a mc y 12 (8 * s + k) = A 12 (8 * s + k) := fun s k hs hk => by simp only [aslot]; grind
  have a3t : aslot A t a mc y 3 t = a := by simp [aslot]
  have fl : ∀ k i', ¬ (k = 3 ∧ i' = t) → aslot A t a mc y (20 + k) i' = 1 → k < 7 → A (20 + k) i' = 1 := fun k i' q h2 h7 => by simp only [aslot] at h2; grind
  have bs : ∀ k i', ¬ (k = 3 ∧ i' = t) → k < 7 → aslot A t a mc y k i' = A k i' := fun k i' q h7 => by simp only [aslot]; grind
  have ks : ∀ s, s ≠ t → μ' 0 s = μ 0 s ∧ μ' 1 s = μ 1 s ∧ μ' 2 s = μ 2 s ∧ ∀ k, k < 8 → μ' 3 (8 * s + k) = μ 3 (8 * s + k) ∧ μ' 4 (8 * s + k) = μ 4 (8 * s + k) := fun s hs => ⟨e 0 s (by omega) (by omega), e 1 s (by omega) (by omega), e 2 s (by omega) (by omega), fun k hk => ⟨e 3 _ (by omega) (by omega), e 4 _ (by omega) (by omega)⟩⟩
  have hs : ∀ k i' j, k < 7 → A (20 + k) i' = 1 → ¬ (k = 3 ∧ i' = t) → kcell G (aslot A t a mc y) μ' k i' j = kcell G A μ k i' j := by
    intro k i' j h7 hl q
    rcases k with _ | _ | _ | _ | _ | _ | _ | k
    · rcases i' with _ | i'
      · rcases j with _ | _ | _ | _ | j
        · simp only [kcell, kc0, o 0 (by omega), ea 24 (by omega), ea 25 (by omega), ea 22 (by omega)]
        · refine congrArg (fun f => some (Sum.inr (4, 15, Sum.inr (Sum.inl f)))) (funext fun s => ?_)
          by_cases hs : s < 15
          · rw [a3 s (by omega), (ks s (by omega)).1]
          · rw [if_neg (fun z => hs z.1), if_neg (fun z => hs z.1)]
        · simp only [kcell, kc0, o 1 (by omega), ea 8 (by omega)]
        · simp only [kcell, kc0, o 10 (by omega), o 26 (by omega), o 6 (by omega), o 18 (by omega)]
        · rfl
      · rfl
    · simp only [kcell]; unfold kc1; rw [o 1 (by omega), o 2 (by omega), o 4 (by omega), o 9 (by omega), o 13 (by omega), o 15 (by omega), ea 10 (by omega), ea 11 (by omega), ea 14 (by omega), ea 18 (by omega)]
    · rcases j with _ | _ | _ | _ | _ | _ | _ | j
      · simp only [kcell, kc2, o 1 (by omega), o 2 (by omega), o 19 (by omega)]
      · refine congrArg (fun f => some (Sum.inr (4, 15, Sum.inr (Sum.inl f)))) (funext fun s => ?_)
        rw [ea 5 (by omega)]
        by_cases hs : 15 + 15 * i' + s = t
        · by_cases h15 : s < 15
          · have : 15 * i' + s = 15 * p + i := by omega
            rw [this, if_neg (fun z => hnw z.2.1), if_neg (fun z => hnw z.2.1)]
          · rw [if_neg (fun z => h15 z.1), if_neg (fun z => h15 z.1)]
        · rw [a3 _ hs, (ks _ hs).1]
      · simp only [kcell, kc2, ea 6 (by omega)]
      · refine congrArg (fun f => some (Sum.inr (1, 15, Sum.inl f))) (funext fun s => ?_)
        rw [ea 5 (by omega)]
        by_cases hs : 15 + 15 * i' + s = t
        · by_cases h15 : s < 15
          · have : 15 * i' + s = 15 * p + i := by omega
            rw [this, if_neg (fun z => hnw z.2.1), if_neg (fun z => hnw z.2.1)]
          · rw [if_neg (fun z => h15 z.1), if_neg (fun z => h15 z.1)]
        · rw [(ks _ hs).1]
      · simp only [kcell, kc2, o 2 (by omega), o 16 (by omega), ea 17 (by omega)]
      · simp only [kcell, kc2, o 14 (by omega), ea 17 (by omega)]
      · simp only [kcell, kc2, o 5 (by omega), ea 20 (by omega)]
      · rfl
    · have hst : i' ≠ t := fun z => q ⟨rfl, z⟩
      have m8 := hm8 i' hl
      obtain ⟨k0, k1, k2, k3⟩ := ks i' hst
      have f1 : (fun k : Nat => if (k : Int) < μ 1 i' then some (aslot A t a mc y 12 (8 * i' + k)) else none) = fun k : Nat => if (k : Int) < μ 1 i' then some (A 12 (8 * i' + k)) else none := funext fun k => by
        by_cases z : (k : Int) < μ 1 i'
        · rw [if_pos z, if_pos z, a12 i' k hst (by omega)]
        · rw [if_neg z, if_neg z]
      have f2 : (fun k : Nat => if k < 8 ∧ (k : Int) < μ 1 i' then μ' 3 (8 * i' + k) else 0) = fun k : Nat => if k < 8 ∧ (k : Int) < μ 1 i' then μ 3 (8 * i' + k) else 0 := funext fun k => by
        by_cases z : k < 8
        · rw [(k3 k z).1]
        · rw [if_neg (fun w => z w.1), if_neg (fun w => z w.1)]
      simp only [kcell]; unfold kslot kcF kcL; rw [k0, k1, k2, a3 i' hst, a17 i' hst, f1, f2]
    · simp only [kcell, ea 18 (by omega), ea 19 (by omega)]
    · simp only [kcell, ea 20 (by omega), ea 21 (by omega)]
    · simp only [kcell, o 2 (by omega), o 11 (by omega), o 18 (by omega)]
    · omega
  refine ⟨h.1, fun k i' j e9 h2 h3 => ?_, fun k i' k' j' g1 g2 g3 g4 g5 => ?_, ⟨fun s k h1 h2 => ?_, fun q k h1 h2 => ?_, fun q k h1 h2 => ?_⟩, fun j => ?_, h.2.2.2.2.2⟩
  · have k7 := kcell_9 h3
    by_cases q : k = 3 ∧ i' = t
    · obtain ⟨rfl, rfl⟩ := q
      have hk3 := kslot_3 h3
      rw [a3t]
      refine ⟨(hcell j e9 h3).1, ?_, ha, (hcell j e9 h3).2⟩
      simp only [aslot]; grind
    · have hl := fl k i' q h2 k7
      rw [hs k i' j k7 hl q] at h3
      have old := h.2.1 k i' j e9 hl h3
      have lt := hc0 k i' j e9 hl h3
      rw [bs k i' q k7]
      refine ⟨old.1, ?_, old.2.2⟩
      rw [← old.2.1]
      simp only [aslot]; grind
  · by_cases q1 : k = 3 ∧ i' = t
    · by_cases q2 : k' = 3 ∧ j' = t
      · omega
      · exfalso
        have := hb k' j' g2 (fl k' j' q2 g4 g2)
        rw [bs k' j' q2 g2, q1.1, q1.2, a3t] at g5
        omega
    · by_cases q2 : k' = 3 ∧ j' = t
      · exfalso
        have := hb k i' g1 (fl k i' q1 g3 g1)
        rw [bs k i' q1 g1, q2.1, q2.2, a3t] at g5
        omega
      · rw [bs k i' q1 g1, bs k' j' q2 g2] at g5
        exact h.2.2.1 k i' k' j' g1 g2 (fl k i' q1 g3 g1) (fl k' j' q2 g4 g2) g5
  · by_cases q : s = t
    · subst q
      have k8 : k < 8 := by omega
      have e12 : aslot A s a mc y 12 (8 * s + k) = y (8 * s + k - 8 * s) := by simp only [aslot]; grind
      rw [show 8 * s + k - 8 * s = k by omega] at e12
      rw [e12]
      exact hent k h2
    · have hl := fl 3 s (fun z => q z.2) h1 (by omega)
      obtain ⟨k0, k1, k2, k3⟩ := ks s q
      rw [k1] at h2
      have m8 := hm8 s hl
      have k8 : k < 8 := by omega
      rw [k0, a12 s k q k8, (k3 k k8).1, (k3 k k8).2]
      exact h.2.2.2.1.1 s k hl h2
  · rw [o 21 (by omega)] at h1
    rw [o 13 (by omega), ea 13 (by omega)]
    rw [ea 14 (by omega)] at h2
    exact h.2.2.2.1.2.1 q k h1 h2
  · rw [o 22 (by omega)] at h1
    rw [o 14 (by omega), ea 15 (by omega), ea 16 (by omega)]
    rw [ea 17 (by omega)] at h2
    exact h.2.2.2.1.2.2 q k h1 h2
  · have := h.2.2.2.2.1 j
    rw [o 10 (by omega), o 15 (by omega), o 16 (by omega)]
    refine ⟨by omega, by omega, by omega, ?_⟩
    by_cases q : j = t
    · subst q; simp only [aslot]; grind
    · rw [a17 j q]; omega
end KA
