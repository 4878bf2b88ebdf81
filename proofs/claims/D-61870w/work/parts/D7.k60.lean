/-! the kernel's public members (17): fork -/
section KG
variable {G : gG} {n m n' m' fr rc rs : Nat} {A A' A0 : kA} {X X' : kX} {σ σ' σ0 σ2 : gS} {μ μ' ν : mS} {Q Q' : gO → gS → Prop}
theorem mffree_is {q : Nat} : ∀ n k : Nat, k ≤ q → (∀ j, k ≤ j → j < q → ¬ μ 8 j = 0) → q ≤ k + n → (q < k + n → μ 8 q = 0) → mffree μ k n = q := by
  intro n
  induction n with
  | zero => intro k h1 _ h3 _; show k = q; omega
  | succ n ih =>
    intro k h1 h2 h3 h4
    unfold mffree
    by_cases z : μ 8 k = 0
    · rw [if_pos z]
      rcases Nat.lt_or_ge k q with y | y
      · exact absurd z (h2 k (Nat.le_refl _) y)
      · omega
    · rw [if_neg z]
      have : k < q := by
        rcases Nat.lt_or_ge k q with y | y
        · exact y
        · have e : k = q := by omega
          rw [e] at z
          exact absurd (h4 (by omega)) z
      exact ih (k + 1) (by omega) (fun j y1 y2 => h2 j (by omega) y2) (by omega) (fun y => h4 (by omega))
theorem kSt_19d (hS : kSt G n m A X σ μ) {x : Nat} {pl : Int} (hx : x < 24) (h : μ 18 x < 0) : kSt G n m A X σ (mup μ 19 x pl) := by
  have u : ∀ b, b ≠ 19 → mup μ 19 x pl b = μ b := fun b hb => mup_other _ _ _ hb
  refine ⟨ksub hS.1 (fun k i h7 hl => ⟨hl, rfl, fun j => ?_⟩) rfl (kimm_c hS.1.2.2.2.1 (fun a ha => u a (by omega))) hS.1.2.2.2.2.1, kCon_c hS.2.1 (fun a ha => u a (by omega)) (kB_c hS.2.1.2.2.2.2.2 (fun a ha => u a (by omega))), hS.2.2⟩
  rcases k with _ | _ | _ | _ | _ | _ | _ | k
  · rcases i with _ | i
    · rcases j with _ | _ | _ | _ | j
      · simp only [kcell, kc0, u 24 (by omega), u 25 (by omega), u 22 (by omega)]
      · simp only [kcell, kc0, u 0 (by omega)]
      · simp only [kcell, kc0, u 8 (by omega)]
      · rfl
      · rfl
    · rfl
  · simp only [kcell]; unfold kc1; rw [u 10 (by omega), u 11 (by omega), u 14 (by omega), u 18 (by omega)]
  · simp only [kcell]; unfold kc2; rw [u 0 (by omega), u 5 (by omega), u 6 (by omega), u 17 (by omega), u 20 (by omega)]
  · simp only [kcell]; unfold kslot kcF kcL; rw [u 0 (by omega), u 1 (by omega), u 2 (by omega), u 3 (by omega)]
  · have : i ≠ x := by
      intro e
      subst e
      have := ((hS.2.1.2.2.2.1 i hx).1.mp hl).2
      omega
    have e19 : mup μ 19 x pl 19 i = μ 19 i := if_neg (fun y => this y.2)
    simp only [kcell, u 18 (by omega), e19]
  · simp only [kcell, u 20 (by omega), u 21 (by omega)]
  · rfl
  · omega
theorem kSt_newP (hS : kSt G n m A X σ μ) (hE : kext σ σ2) {q : Nat} (hq : q < 6) (h8 : μ 8 q = 0) (hr : mRs μ) (hP : kPn σ.2.1 σ2) (r1 : m' ≤ σ2.2.2.1) (r2 : 16 * m' ≤ σ2.2.2.2) (e : ∀ b j, ¬ ((b = 8 ∨ b = 10 ∨ b = 11 ∨ b = 14) ∧ j = q) → ¬ ((b = 18 ∨ b = 19) ∧ j / 4 = q) → μ' b j = μ b j) (v8 : μ' 8 q = 1) (v10 : μ' 10 q = 0) (v11 : μ' 11 q = 0) (v14 : μ' 14 q = 0) (v18 : ∀ x, x / 4 = q → μ' 18 x < 0)
    {e' : gE} (he : e' = .inr (5, 6, .inr (.inl (va_up (fun p => if p < 6 ∧ μ 8 p = 1 then some (A 1 p) else none) q (some σ.2.1))))) : kSt G n m' (anewP (arng A) q σ.2.1) X (gset σ2.1 (A 0 0 + 2) e', σ2.2) μ' := by
  have hS0 := kSt_rg hS
  have kb : ∀ k i, k < 7 → arng A (20 + k) i = 1 → arng A k i < σ.2.1 := fun k i h7 hl => kbase hS0 kRg_arng (fun s hs => ⟨(hr.1 s hs).1, (hr.1 s hs).2.1⟩) h7 hl
  have g0 : arng A 0 = A 0 := arng_o (by omega)
  have g1 : arng A 1 = A 1 := arng_o (by omega)
  have hR0 : kRep G n (arng A) X σ2 μ := kRep_ext hS0.1 hE
  have n9 : ¬ μ 9 q = 1 := fun y => by have := (hS.2.1.2.1 q hq).2.2.2.2.1 y; omega
  have n11 : ¬ 0 < μ 11 q := fun y => n9 ((hS.2.1.2.1 q hq).2.2.2.1 y)
  have hR := kr_newP (μ' := μ') (e' := e') hR0 (q := q) (a := σ.2.1) hq hS0.2.1.1 (fun y => by have := (hS0.2.1.2.1 q hq).1.mp y; omega) (fun y => n9 ((hS0.2.1.2.1 q hq).2.1.mp y)) hS.2.2.2.2 kb (fun k i j e hl hc => klt hS0.1 (hS0.1.2.1 k i j e hl hc).1) (fun b hb => kXn hS.1 hb) e v8 v10 v11 v14 v18 hP.1 hP.2.1 hP.2.2.1 hP.2.2.2 (by rw [g1]; exact he)
  rw [g0] at hR
  refine ⟨hR, ?_, r1, r2, Nat.le_trans hS.2.2.2.2 hE.2.1⟩
  obtain ⟨c1, c2, c3, c4, c5, c6⟩ := hS0.2.1
  have o := fun k (hk : ¬ (k = 1 ∨ k = 9 ∨ k = 15 ∨ k = 21 ∨ k = 24 ∨ k = 30)) => anewP_o (A := arng A) (q := q) (a := σ.2.1) hk
  have u : ∀ b, ¬ (b = 8 ∨ b = 10 ∨ b = 11 ∨ b = 14 ∨ b = 18 ∨ b = 19) → μ' b = μ b := fun b hb => by funext j; exact e b j (by omega) (by omega)
  have u8 : ∀ j, j ≠ q → μ' 8 j = μ 8 j := fun j hj => e 8 j (by omega) (by omega)
  have u11 : ∀ j, j ≠ q → μ' 11 j = μ 11 j := fun j hj => e 11 j (by omega) (by omega)
  have u18 : ∀ j, j / 4 ≠ q → μ' 18 j = μ 18 j := fun j hj => e 18 j (by omega) (by omega)
  have a21 : ∀ s, anewP (arng A) q σ.2.1 21 s = if s = q then 1 else arng A 21 s := fun s => by simp only [anewP]; grind
  have a9 : ∀ s, anewP (arng A) q σ.2.1 9 s = if s = q then 0 else arng A 9 s := fun s => by simp only [anewP]; grind
  have a24 : ∀ s, anewP (arng A) q σ.2.1 24 s = if s / 4 = q then 0 else arng A 24 s := fun s => by simp only [anewP]; grind
  obtain ⟨t1, t2, t3, t4, t5⟩ := c5
  have np : ∀ k, k < arng A 18 0 → arng A 11 k ≠ q := fun k hk y => by have := (t3 k hk).2; rw [y] at this; exact n11 this
  unfold kCon
  rw [o 20 (by omega), o 22 (by omega), o 19 (by omega), o 23 (by omega), o 25 (by omega), o 18 (by omega), o 26 (by omega), o 11 (by omega), u 9 (by omega), u 5 (by omega), u 0 (by omega), u 20 (by omega), u 12 (by omega)]
  refine ⟨c1, fun r hr2 => ?_, c3, fun y hy => ⟨?_, (c4 y hy).2⟩, ⟨t1, t2, fun k hk => ?_, fun r hr2 y => ?_, t5⟩, fun j => ?_⟩
  · have := c2 r hr2
    rw [a21, a9]
    by_cases z : r = q
    · rw [if_pos z, if_pos z, z, v8, v11]
      rw [z] at this
      rw [this.2.2.2.2.2, if_neg n11]
      refine ⟨by simp, this.2.1, by simp, fun y => by omega, fun y => rfl, by simp⟩
    · rw [if_neg z, if_neg z, u8 r z, u11 r z]; exact this
  · rw [a24]
    by_cases z : y / 4 = q
    · rw [if_pos z]
      have := v18 y z
      constructor
      · intro w; omega
      · intro w; omega
    · rw [if_neg z, u8 _ z, u18 _ z]; exact (c4 y hy).1
  · rw [u11 _ (np k hk)]; exact t3 k hk
  · have : r ≠ q := by intro z; rw [z, v11] at y; omega
    rw [u11 r this] at y
    exact t4 r hr2 y
  · have := c6 j
    rw [u 5 (by omega), u 6 (by omega), u 9 (by omega)]
    refine ⟨this.1, this.2.1, ?_, this.2.2.2.1, ?_⟩
    · by_cases z : j = q
      · rw [z, v8]; exact Or.inr rfl
      · rw [u8 j z]; exact this.2.2.1
    · by_cases z : j = q
      · rw [z, v10]; exact Or.inl rfl
      · rw [e 10 j (by omega) (by omega)]; exact this.2.2.2.2
/-- what fork leaves -/
theorem mfork_v {p q : Nat} {c : Int} (hK : kAll c ν) (hB : kB ν) (hq : q < 6) (h8 : ν 8 q = 0) (k : Nat) (hk : k ≤ 4) : (∀ b j, ¬ (b = 8 ∧ j = q) → ¬ ((b = 18 ∨ b = 19) ∧ 4 * q ≤ j ∧ j < 4 * q + k) → mforkk p q k ν b j = ν b j) ∧ mforkk p q k ν 8 q = 1 ∧ (∀ b d, (b = 18 ∨ b = 19) → d < k → mforkk p q k ν b (4 * q + d) = ν b (4 * p + d)) := by
  have h9 : ¬ ν 9 q = 1 := fun y => by have := hK.1.1.2.2.2.2.2 q hq y; omega
  obtain ⟨⟨z1, z2⟩, z3, z4⟩ := (hK.1.1.2.2.1 q hq).2 h9
  obtain ⟨n1, n2, n3, n4⟩ := hK.1.1.2.2.2.2.1 q hq h8
  have b9 := (hB q).2.2.2.1
  have hb : ∀ b j, ¬ (b = 8 ∧ j = q) → mforkb q ν b j = ν b j := fun b j hn => by
    unfold mforkb mdrop
    simp only [mup]
    by_cases y1 : (b = 5 ∨ b = 6) ∧ 15 * q ≤ j ∧ j < 15 * q + 15
    · have := z1 (j - 15 * q) (by omega)
      rw [show 15 * q + (j - 15 * q) = j by omega] at this
      grind
    · grind
  refine ⟨fun b j h1 h2 => ?_, ?_, fun b d h1 h2 => ?_⟩
  · unfold mforkk
    rw [if_neg h2, hb b j h1]
  · unfold mforkk
    rw [if_neg (by omega)]
    unfold mforkb mdrop
    simp [mup]
  · unfold mforkk
    rw [if_pos ⟨h1, by omega, by omega⟩, show 4 * q + d - 4 * q = d by omega]
theorem kAll_fork {p q : Nat} {c : Int} (hK : kAll c ν) (hB : kB ν) (hp : p < 6) (hq : q < 6) (h9p : ¬ ν 9 p = 1) (h8 : ν 8 q = 0) : kAll c (mforkk p q 4 ν) := by
  obtain ⟨u, v8, v18⟩ := mfork_v (p := p) hK hB hq h8 4 (by omega)
  have h9 : ¬ ν 9 q = 1 := fun y => by have := hK.1.1.2.2.2.2.2 q hq y; omega
  generalize mforkk p q 4 ν = ξ at *
  obtain ⟨⟨⟨i1, i2, i3, i4, i5, i6⟩, j1⟩, hI, hL⟩ := hK
  have e : ∀ b, ¬ (b = 8 ∨ b = 18 ∨ b = 19) → ξ b = ν b := fun b hb => by funext j; exact u b j (by omega) (by omega)
  have r8 : mR8 ν := fun c hc => (hI.1.1 c hc).2.2.2.1
  have hx := hI.2.2.1
  have cs : ∀ c, csame ν ξ c c := fun c => csame_e (fun a ha => e a (by omega))
  have e8 : ∀ r, r ≠ q → ξ 8 r = ν 8 r := fun r hr => u 8 r (by omega) (by omega)
  have e18 : ∀ x, x / 4 ≠ q → ξ 18 x = ν 18 x := fun x hx => u 18 x (by omega) (by omega)
  refine ⟨⟨⟨iC_c r8 i1 (fun c _ => cs c), fun i hi y => ?_, fun r hr => ?_, fun a b ha hb hab g1 g2 => ?_, fun r hr y => ?_, fun r hr g => ?_⟩, fun r hr g => ?_⟩, ⟨mRs_c (e 0 (by omega)) (e 1 (by omega)) (e 4 (by omega)) hI.1, mRq_c (e 11 (by omega)) (e 14 (by omega)) (e 17 (by omega)) (e 16 (by omega)) hI.2.1, fun x hx2 => ?_, mRc_c (e 22 (by omega)) (e 23 (by omega)) (e 24 (by omega)) (e 25 (by omega)) hI.2.2.2⟩, mL_c (e 2 (by omega)) hL⟩
  · rw [e 0 (by omega), e 2 (by omega)] at y
    obtain ⟨x, x1, x2, x3⟩ := i2 i hi y
    have : x / 4 ≠ q := by intro z; rw [z] at x2; omega
    refine ⟨x, x1, by rw [e8 _ this]; exact x2, ?_⟩
    unfold sol at x3 ⊢
    rw [e 9 (by omega), e 20 (by omega), e18 x this]; exact x3
  · rw [e 9 (by omega), e 12 (by omega), e 23 (by omega)]
    refine ⟨fun g => ⟨iP_c hr ⟨fun c _ => cs c, fun i _ => ⟨Or.inr (cs _), by rw [e 5 (by omega)], by rw [e 6 (by omega)]⟩, fun d hd => ⟨?_, by rw [e 20 (by omega)]⟩⟩ r8 hx ((i3 r hr).1 g).1, ((i3 r hr).1 g).2⟩, fun g => ?_⟩
    · have : r ≠ q := by intro z; rw [z] at g; exact h9 g
      exact e18 _ (by omega)
    · obtain ⟨⟨z1, z2⟩, z3, z4⟩ := (i3 r hr).2 g
      refine ⟨⟨fun s hs => by rw [e 5 (by omega), e 6 (by omega)]; exact z1 s hs, by rw [e 17 (by omega)]; exact z2⟩, by rw [e 11 (by omega)]; exact z3, fun d hd => ?_⟩
      by_cases z : r = q
      · rw [z, v18 18 d (Or.inl rfl) hd]
        exact ids_c (fun i _ => by rw [e 0 (by omega)]) (by have := (hx (4 * p + d) (by omega)).1; omega) (((i3 p hp).2 h9p).2.2 d hd)
      · rw [e18 _ (by omega)]
        exact ids_c (fun i _ => by rw [e 0 (by omega)]) (by have := (hx (4 * r + d) (by omega)).1; omega) (z4 d hd)
  · rw [e 9 (by omega)] at g1 g2
    obtain ⟨a1, a2⟩ := i4 a b ha hb hab g1 g2
    refine ⟨fun i hi => ?_, ?_⟩
    · rw [e 5 (by omega), e 6 (by omega)]; exact a1 i hi
    · rw [e 12 (by omega)]; exact a2
  · have : r ≠ q := by intro z; rw [z, v8] at y; omega
    rw [e8 r this] at y
    obtain ⟨n1, n2, n3, n4⟩ := i5 r hr y
    refine ⟨by rw [e 11 (by omega)]; exact n1, by rw [e 10 (by omega)]; exact n2, by rw [e 14 (by omega)]; exact n3, fun d hd => ?_⟩
    rw [e18 _ (by omega)]; exact n4 d hd
  · rw [e 9 (by omega)] at g
    have : r ≠ q := by intro z; rw [z] at g; exact h9 g
    rw [e8 r this]; exact i6 r hr g
  · rw [e 9 (by omega)] at g
    rw [e 11 (by omega)]; exact j1 r hr g
  · have := hx x hx2
    rw [e 20 (by omega), e 21 (by omega)]
    by_cases z : x / 4 = q
    · have e4 : x = 4 * q + (x - 4 * q) := by omega
      have w1 := v18 18 (x - 4 * q) (Or.inl rfl) (by omega)
      have w2 := v18 19 (x - 4 * q) (Or.inr rfl) (by omega)
      rw [← e4] at w1 w2
      rw [w1, w2]
      have p1 := hx (4 * p + (x - 4 * q)) (by omega)
      exact ⟨p1.1, this.2.1, p1.2.2.1, this.2.2.2⟩
    · rw [e18 x z, u 19 x (by omega) (by omega)]; exact this
end KG
