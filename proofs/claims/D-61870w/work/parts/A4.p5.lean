/-! the plain law (5): some give way; one begins; one changes what is its own -/
theorem iC_c {μ ν : mS} (hr : mR8 μ) (h : iC μ) (e : ∀ c, c < 15 → csame μ ν c c) : iC ν := by
  obtain ⟨c1, c2, c3, c4, c5⟩ := h
  refine ⟨mbal_c c1 (fun d hd => e d (by omega)) (fun d hd => hr d (by omega)), fun i hi => ?_, fun i h1 h2 => ?_, fun c hc => ndis_c (e c (by omega)) (hr c (by omega)) (c4 c hc), ?_⟩
  · rw [(e i (by omega)).1 0 (by omega)]; exact c2 i hi
  · rw [(e i (by omega)).1 0 (by omega)]; exact c3 i h1 h2
  · rw [(e 0 (by omega)).1 0 (by omega)]; exact c5
theorem iS_c {μ ν : mS} (h : iS μ) (e : ∀ c, c < 15 → csame μ ν c c) (e8 : ν 8 = μ 8) (es : ∀ x, x < 24 → sol ν x = sol μ x) : iS ν := by
  intro i hi hk
  rw [(e i hi).1 0 (by omega), (e i hi).1 2 (by omega)] at hk
  obtain ⟨x, hx, h1, h2⟩ := h i hi hk
  exact ⟨x, hx, by rw [e8]; exact h1, by rw [es x hx]; exact h2⟩
/-- some give way -/
theorem kInv_abs {μ ν : mS} {S : Nat → Bool} (hr : mRs μ) (hx : mRx μ) (h : kInv μ) (hS : ∀ q, q < 6 → S q = true → μ 9 q = 1) (e : ∀ a, a ≤ 4 ∨ a = 8 ∨ a = 12 ∨ a = 14 ∨ a = 20 ∨ a = 23 → ν a = μ a)
    (hin : ∀ q, q < 6 → S q = true → kZ ν q ∧ ν 9 q = 0 ∧ ν 11 q = 0 ∧ ∀ d, d < 4 → ν 18 (4 * q + d) = μ 20 (4 * q + d))
    (hout : ∀ q, q < 6 → S q = false → (∀ i, i < 15 → ν 5 (15 * q + i) = μ 5 (15 * q + i) ∧ ν 6 (15 * q + i) = μ 6 (15 * q + i)) ∧ ν 9 q = μ 9 q ∧ ν 10 q = μ 10 q ∧ ν 11 q = μ 11 q ∧ ν 17 q = μ 17 q ∧ ∀ d, d < 4 → ν 18 (4 * q + d) = μ 18 (4 * q + d)) : kInv ν := by
  obtain ⟨hC, hI, hP, hA, hN, h8⟩ := h
  have r8 : mR8 μ := fun c hc => (hr.1 c hc).2.2.2.1
  have ec : ∀ c, csame μ ν c c := fun c => csame_e (fun a ha => e a (by omega))
  have nS : ∀ q, q < 6 → ν 9 q = 1 → S q = false := fun q hq g => by
    cases z : S q with
    | false => rfl
    | true => have := (hin q hq z).2.1; omega
  have eP : ∀ q, q < 6 → S q = false → eqP μ ν q := fun q hq z => by
    obtain ⟨s1, -, -, -, -, s6⟩ := hout q hq z
    exact ⟨fun c _ => ec c, fun i hi => ⟨Or.inr (ec _), s1 i hi⟩, fun d hd => ⟨s6 d hd, by rw [e 20 (by omega)]⟩⟩
  have idc : ∀ x, x ≤ 30 → ids μ id x → ids ν id x := fun x hx h => ids_c (fun i hi => by rw [e 0 (by omega)]) hx h
  refine ⟨iC_c r8 hC (fun c _ => ec c), iS_c hI (fun c _ => ec c) (e 8 (by omega)) (fun x hx => ?_), fun q hq => ?_, fun a b ha hb hab ga gb => ?_, fun q hq q8 => ?_, fun q hq g => ?_⟩
  · have x4 : 4 * (x / 4) + x % 4 = x := by omega
    unfold sol
    cases z : S (x / 4) with
    | true =>
      obtain ⟨-, s2, -, s4⟩ := hin _ (by omega) z
      have := s4 (x % 4) (by omega)
      rw [x4] at this
      rw [if_neg (by omega), if_pos (hS _ (by omega) z), this]
    | false =>
      obtain ⟨-, s2, -, -, -, s6⟩ := hout _ (by omega) z
      have := s6 (x % 4) (by omega)
      rw [x4] at this
      rw [s2, e 20 (by omega), this]
  · cases z : S q with
    | true =>
      obtain ⟨s1, s2, s3, s4⟩ := hin q hq z
      refine ⟨fun g => by omega, fun _ => ⟨s1, s3, fun d hd => ?_⟩⟩
      rw [s4 d hd]
      have := (hx (4 * q + d) (by omega)).2.1
      exact idc _ (by omega) (((hP q hq).1 (hS q hq z)).1.2.2.2.2.2.2.1 d hd)
    | false =>
      obtain ⟨s1, s2, s3, s4, s5, s6⟩ := hout q hq z
      rw [s2, e 12 (by omega), e 23 (by omega)]
      refine ⟨fun g => ⟨iP_c hq (eP q hq z) r8 hx ((hP q hq).1 g).1, ((hP q hq).1 g).2⟩, fun g => ?_⟩
      obtain ⟨⟨z1, z2⟩, z3, z4⟩ := (hP q hq).2 g
      refine ⟨⟨fun s hs => ?_, by rw [s5]; exact z2⟩, by rw [s4]; exact z3, fun d hd => ?_⟩
      · rw [(s1 s hs).1, (s1 s hs).2]; exact z1 s hs
      · rw [s6 d hd]
        have := (hx (4 * q + d) (by omega)).1
        exact idc _ (by omega) (z4 d hd)
  · have za := nS a ha ga
    have zb := nS b hb gb
    obtain ⟨s1, s2, -⟩ := hout a ha za
    obtain ⟨t1, t2, -⟩ := hout b hb zb
    rw [s2] at ga
    rw [t2] at gb
    have := hA a b ha hb hab ga gb
    refine ⟨fun i hi w => ?_, by rw [e 12 (by omega)]; exact this.2⟩
    rw [(s1 i hi).1] at w
    rw [(t1 i hi).1, (t1 i hi).2]
    exact this.1 i hi w
  · rw [e 8 (by omega)] at q8
    have z : S q = false := by
      cases z : S q with
      | false => rfl
      | true => have := h8 q hq (hS q hq z); omega
    obtain ⟨-, s2, s3, s4, s5, s6⟩ := hout q hq z
    obtain ⟨k1, k2, k3, k4⟩ := hN q hq q8
    rw [s4, s3, e 14 (by omega)]
    exact ⟨k1, k2, k3, fun d hd => by rw [s6 d hd]; exact k4 d hd⟩
  · rw [e 8 (by omega)]
    rw [(hout q hq (nS q hq g)).2.1] at g
    exact h8 q hq g
/-- one changes what is its own -/
theorem kInv_own {μ ν : mS} {p : Nat} (g : μ 9 p = 1) (hr : mRs μ) (hx : mRx μ) (h : kInv μ) (e : ∀ a, a = 8 ∨ a = 9 ∨ a = 10 ∨ a = 12 ∨ a = 14 ∨ a = 20 ∨ a = 23 → ν a = μ a) (es : ∀ c, c < 105 → ¬ (15 + 15 * p ≤ c ∧ c < 30 + 15 * p) → csame μ ν c c)
    (e5 : ∀ q, q < 6 → q ≠ p → (∀ i, i < 15 → ν 5 (15 * q + i) = μ 5 (15 * q + i) ∧ ν 6 (15 * q + i) = μ 6 (15 * q + i)) ∧ ν 11 q = μ 11 q ∧ ν 17 q = μ 17 q ∧ ∀ d, d < 4 → ν 18 (4 * q + d) = μ 18 (4 * q + d)) (hP : iP ν p) (hA : ∀ q, q < 6 → q ≠ p → μ 9 q = 1 → iA ν p q ∧ iA ν q p) : kInv ν := by
  obtain ⟨hC, hI, hPP, hAA, hN, h8⟩ := h
  have r8 : mR8 μ := fun c hc => (hr.1 c hc).2.2.2.1
  have ec : ∀ c, c < 15 → csame μ ν c c := fun c hc => es c (by omega) (by omega)
  have idc : ∀ x, x ≤ 30 → ids μ id x → ids ν id x := fun x hx h => ids_c (fun i hi => (ec i hi).1 0 (by omega)) hx h
  refine ⟨iC_c r8 hC ec, iS_c hI ec (e 8 (by omega)) (fun x hx => ?_), fun q hq => ?_, fun a b ha hb hab ga gb => ?_, fun q hq q8 => ?_, fun q hq gq => ?_⟩
  · unfold sol
    rw [e 9 (by omega), e 20 (by omega)]
    by_cases z : μ 9 (x / 4) = 1
    · rw [if_pos z, if_pos z]
    · have x4 : 4 * (x / 4) + x % 4 = x := by omega
      have np : x / 4 ≠ p := by intro y; rw [y] at z; exact z g
      have := (e5 (x / 4) (by omega) np).2.2.2 (x % 4) (by omega)
      rw [x4] at this
      rw [if_neg z, if_neg z, this]
  · rw [e 9 (by omega), e 12 (by omega), e 23 (by omega)]
    by_cases z : q = p
    · subst z
      exact ⟨fun _ => ⟨hP, ((hPP q hq).1 g).2⟩, fun y => absurd g y⟩
    · obtain ⟨s1, s2, s3, s4⟩ := e5 q hq z
      refine ⟨fun y => ⟨iP_c hq ⟨ec, fun i hi => ⟨Or.inr (es _ (by omega) (by omega)), s1 i hi⟩, fun d hd => ⟨s4 d hd, by rw [e 20 (by omega)]⟩⟩ r8 hx ((hPP q hq).1 y).1, ((hPP q hq).1 y).2⟩, fun y => ?_⟩
      obtain ⟨⟨z1, z2⟩, z3, z4⟩ := (hPP q hq).2 y
      refine ⟨⟨fun s hs => ?_, by rw [s3]; exact z2⟩, by rw [s2]; exact z3, fun d hd => ?_⟩
      · rw [(s1 s hs).1, (s1 s hs).2]; exact z1 s hs
      · rw [s4 d hd]
        have := (hx (4 * q + d) (by omega)).1
        exact idc _ (by omega) (z4 d hd)
  · rw [e 9 (by omega)] at ga gb
    by_cases za : a = p
    · subst za; exact (hA b hb (fun y => hab y.symm) gb).1
    · by_cases zb : b = p
      · subst zb; exact (hA a ha za ga).2
      · have := hAA a b ha hb hab ga gb
        have s1 := (e5 a ha za).1
        have t1 := (e5 b hb zb).1
        refine ⟨fun i hi w => ?_, by rw [e 12 (by omega)]; exact this.2⟩
        rw [(s1 i hi).1] at w
        rw [(t1 i hi).1, (t1 i hi).2]
        exact this.1 i hi w
  · rw [e 8 (by omega)] at q8
    have np : q ≠ p := by intro y; subst y; have := h8 q hq g; omega
    obtain ⟨-, s2, -, s4⟩ := e5 q hq np
    obtain ⟨k1, k2, k3, k4⟩ := hN q hq q8
    rw [s2, e 10 (by omega), e 14 (by omega)]
    exact ⟨k1, k2, k3, fun d hd => by rw [s4 d hd]; exact k4 d hd⟩
  · rw [e 9 (by omega)] at gq
    rw [e 8 (by omega)]
    exact h8 q hq gq
