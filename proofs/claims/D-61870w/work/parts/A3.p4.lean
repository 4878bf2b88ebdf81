/-! the plain law (4): somebody's end -/
theorem iA_s {μ : mS} {p q : Nat} (h : iA μ p q) (h2 : iA μ q p) : (∀ i, i < 15 → μ 5 (15 * p + i) = 1 → ¬ μ 5 (15 * q + i) = 1 ∧ ¬ μ 6 (15 * q + i) = 1) ∧ (∀ i, i < 15 → μ 5 (15 * q + i) = 1 → ¬ μ 5 (15 * p + i) = 1) := ⟨h.1, fun i hi w => (h2.1 i hi w).1⟩
/-- what a process sees becomes what is committed -/
theorem iC_put {μ ν : mS} {p : Nat} (hp : p < 6) (hB : kB μ) (h8 : mR8 μ) (hC : iC μ) (hP : iP μ p) (hs : ∀ d, d < 15 → csame μ ν (mof μ p d) d) : iC ν := by
  obtain ⟨c1, c2, c3, c4, c5⟩ := hC
  obtain ⟨p1, p2, p3, p4, p5, p6, p7, p8, p9⟩ := hP
  have o8 : ∀ i, i < 15 → μ 1 (mof μ p i) ≤ 8 := fun i hi => h8 _ (mof_lt hp hi)
  refine ⟨mbal_c p1 (fun d hd => hs d (by omega)) (fun d hd => o8 d (by omega)), fun i hi => ?_, fun i h1 h2 => ?_, fun c hc => ndis_c (hs c (by omega)) (o8 c (by omega)) (p5 c hc), ?_⟩
  · rw [(hs i (by omega)).1 0 (by omega)]
    rcases (hB (15 * p + i)).1 with z | z
    · rw [mof_n z]; exact c2 i hi
    · rw [mof_w (by omega)]; exact ((p4 i (by omega) z).1 hi).1
  · rw [(hs i (by omega)).1 0 (by omega)]
    rcases (hB (15 * p + i)).1 with z | z
    · rw [mof_n z]; exact c3 i h1 h2
    · rw [mof_w (by omega)]; exact Or.inr ((p4 i (by omega) z).2 h1)
  · rw [(hs 0 (by omega)).1 0 (by omega)]; exact p6
/-- the kinds of what descriptors name stay -/
theorem put_k {μ ν : mS} {p : Nat} (hB : kB μ) (hP : iP μ p) (hs : ∀ d, d < 15 → csame μ ν (mof μ p d) d) {x : Int} (hx : x = -1 ∨ (0 ≤ x ∧ x ≤ 11) ∨ (28 ≤ x ∧ x ≤ 30)) (h : ids μ id x) : ids ν id x := by
  intro h0
  obtain ⟨a, b⟩ := h h0
  refine ⟨fun q => ?_, fun q => ?_⟩
  · show ν 0 x.toNat = 1
    have a : μ 0 x.toNat = 1 := a q
    rw [(hs _ (by omega)).1 0 (by omega)]
    rcases (hB (15 * p + x.toNat)).1 with z | z
    · rw [mof_n z]; exact a
    · rw [mof_w (by omega)]; exact ((hP.2.2.2.1 _ (by omega) z).1 (by omega)).2.1 a
  · show ν 0 (x - 16).toNat = 3
    have b : μ 0 (x - 16).toNat = 3 := b q
    rw [(hs _ (by omega)).1 0 (by omega)]
    rcases (hB (15 * p + (x - 16).toNat)).1 with z | z
    · rw [mof_n z]; exact b
    · rw [mof_w (by omega)]; exact (hP.2.2.2.1 _ (by omega) z).2 (by omega)
/-- another one that goes -/
theorem iP_put {μ ν : mS} {p q : Nat} (hp : p < 6) (hq : q < 6) (hB : kB μ) (h8 : mR8 μ) (hx : mRx μ) (hC : iC μ) (hP : iP μ p) (hQ : iP μ q) (hA : iA μ p q) (hA2 : iA μ q p) (hs : ∀ d, d < 15 → csame μ ν (mof μ p d) d)
    (hq9 : (∀ i, i < 15 → csame μ ν (15 + 15 * q + i) (15 + 15 * q + i) ∧ ν 5 (15 * q + i) = μ 5 (15 * q + i) ∧ ν 6 (15 * q + i) = μ 6 (15 * q + i)) ∧ (∀ d, d < 4 → ν 18 (4 * q + d) = μ 18 (4 * q + d) ∧ ν 20 (4 * q + d) = μ 20 (4 * q + d))) : iP ν q := by
  obtain ⟨a1, a2⟩ := iA_s hA hA2
  obtain ⟨p1, p2, p3, p4, p5, p6, p7, p8, p9⟩ := hQ
  have hPk := hP
  obtain ⟨r1, r2, r3, r4, r5, r6, r7, r8, r9⟩ := hP
  have o8 : ∀ i, i < 15 → μ 1 (mof μ q i) ≤ 8 := fun i hi => h8 _ (mof_lt hq hi)
  have o8p : ∀ i, i < 15 → μ 1 (mof μ p i) ≤ 8 := fun i hi => h8 _ (mof_lt hp hi)
  have ho : ∀ i, i < 15 → mof ν q i = mof μ q i := fun i hi => mof_c (hq9.1 i hi).2.1
  -- the view of q, slot by slot
  have hv : ∀ d, d < 15 → (μ 5 (15 * q + d) = 0 ∧ mof μ q d = d ∧ csame μ ν (mof μ p d) (mof ν q d)) ∨ (μ 5 (15 * q + d) = 1 ∧ mof μ p d = d ∧ csame μ ν (mof μ q d) (mof ν q d)) := fun d hd => by
    rw [ho d hd]
    rcases (hB (15 * q + d)).1 with z | z
    · exact Or.inl ⟨z, mof_n z, by rw [mof_n z]; exact hs d hd⟩
    · refine Or.inr ⟨z, ?_, ?_⟩
      · have := a2 d hd z
        rcases (hB (15 * p + d)).1 with y | y
        · exact mof_n y
        · exact absurd y this
      · rw [mof_w (by omega)]; exact (hq9.1 d hd).1
  -- items that p didn't write
  have hs2 : ∀ d, d < 15 → ¬ μ 5 (15 * p + d) = 1 → csame μ ν d d := fun d hd w => by
    have := hs d hd
    rcases (hB (15 * p + d)).1 with y | y
    · rw [mof_n y] at this; exact this
    · exact absurd y w
  have hm2 : ∀ d i, d < 15 → men ν (15 + 15 * q + d) i = men μ (15 + 15 * q + d) i := fun d i hd => men_c (hq9.1 d hd).1 (h8 _ (by omega))
  refine ⟨mbal_end p1 r1 hC.1 (fun d hd => ⟨o8 d (by omega), o8p d (by omega), h8 d (by omega)⟩) (fun d hd => ?_), fun i hi hr => ?_, fun d hd h28 => ?_, fun i hi w => ?_, fun c hc => ?_, ?_, fun d hd => ?_, fun d hd => ?_, fun i hi hs3 => ?_⟩
  · rcases hv d (by omega) with ⟨_, y1, y2⟩ | ⟨_, y1, y2⟩
    · exact Or.inl ⟨y1, y2⟩
    · exact Or.inr ⟨y1, y2⟩
  · have hr' : mref μ q i := by
      rcases hr with ⟨d, hd, hn⟩ | hr | ⟨d, hd, hw1, hm⟩
      · rw [(hq9.2 d hd).1] at hn; exact Or.inl ⟨d, hd, hn⟩
      · rw [(hq9.1 i (by omega)).2.1, (hq9.1 i (by omega)).2.2] at hr; exact Or.inr (Or.inl hr)
      · rw [(hq9.1 d (by omega)).2.1] at hw1
        rw [hm2 d i (by omega)] at hm
        exact Or.inr (Or.inr ⟨d, hd, hw1, hm⟩)
    rcases p2 i hi hr' with g | ⟨d, hd, hn⟩ | ⟨g1, g2⟩ | ⟨d, hd, g1, g2⟩
    · exact Or.inl g
    · rw [← (hq9.2 d hd).2] at hn; exact Or.inr (Or.inl ⟨d, hd, hn⟩)
    · refine Or.inr (Or.inr (Or.inl ⟨?_, ?_⟩))
      · rw [(hs2 i (by omega) (a2 i (by omega) g2)).1 0 (by omega)]; exact g1
      · rw [(hq9.1 i (by omega)).2.1]; exact g2
    · refine Or.inr (Or.inr (Or.inr ⟨d, hd, ?_, ?_⟩))
      · rw [(hq9.1 d (by omega)).2.2]; exact g1
      · rw [men_c (hs2 d (by omega) (fun w => (a1 d (by omega) w).2 g1)) (h8 d (by omega))]; exact g2
  · rw [(hq9.2 d hd).1] at h28 ⊢
    have := (hx (4 * q + d) (by omega)).1
    rcases p3 d hd h28 with ⟨e, he, g⟩ | ⟨g1, g2⟩
    · exact Or.inl ⟨e, he, by rw [(hq9.2 e he).2]; exact g⟩
    · exact Or.inr ⟨by rw [(hs2 _ (by omega) (a2 _ (by omega) g2)).1 0 (by omega)]; exact g1, by rw [(hq9.1 _ (by omega)).2.1]; exact g2⟩
  · rw [(hq9.1 i hi).2.1] at w
    have := p4 i hi w
    rw [(hs2 i hi (a2 i hi w)).1 0 (by omega), (hq9.1 i hi).1.1 0 (by omega)]
    exact this
  · rcases hv c (by omega) with ⟨_, y1, y2⟩ | ⟨_, y1, y2⟩
    · exact ndis_c y2 (o8p c (by omega)) (r5 c hc)
    · exact ndis_c y2 (o8 c (by omega)) (p5 c hc)
  · rcases hv 0 (by omega) with ⟨_, y1, y2⟩ | ⟨_, y1, y2⟩
    · rw [y2.1 0 (by omega)]; exact r6
    · rw [y2.1 0 (by omega)]; exact p6
  · rw [(hq9.2 d hd).2]
    exact put_k hB hPk hs (hx (4 * q + d) (by omega)).2.1 (p7 d hd)
  · rw [(hq9.2 d hd).1]
    have rx := (hx (4 * q + d) (by omega)).1
    intro h0
    obtain ⟨i1, i2⟩ := p8 d hd h0
    refine ⟨fun z => ?_, fun z => ?_⟩
    · have i1 := i1 z
      rcases hv (μ 18 (4 * q + d)).toNat (by omega) with ⟨_, y1, y2⟩ | ⟨_, y1, y2⟩
      · rw [y2.1 0 (by omega)]
        rw [y1] at i1
        rcases (hB (15 * p + (μ 18 (4 * q + d)).toNat)).1 with y | y
        · rw [mof_n y]; exact i1
        · rw [mof_w (by omega)]; exact ((r4 _ (by omega) y).1 (by omega)).2.1 i1
      · rw [y2.1 0 (by omega)]; exact i1
    · have i2 := i2 z
      rcases hv (μ 18 (4 * q + d) - 16).toNat (by omega) with ⟨_, y1, y2⟩ | ⟨_, y1, y2⟩
      · rw [y2.1 0 (by omega)]
        rw [y1] at i2
        rcases (hB (15 * p + (μ 18 (4 * q + d) - 16).toNat)).1 with y | y
        · rw [mof_n y]; exact i2
        · rw [mof_w (by omega)]; exact (r4 _ (by omega) y).2 (by omega)
      · rw [y2.1 0 (by omega)]; exact i2
  · rw [(hq9.1 i hi).2.2] at hs3
    rw [(hq9.1 i hi).2.1, (hs2 i hi (fun w => (a1 i hi w).2 hs3)).1 0 (by omega)]
    exact p9 i hi hs3
/-- the end of p -/
theorem kInv_end {μ ν : mS} {p : Nat} (hp : p < 6) (g : μ 9 p = 1) (hB : kB μ) (hr : mRs μ) (hx : mRx μ) (h : kInvS μ) (hs : ∀ d, d < 15 → csame μ ν (mof μ p d) d)
    (hq9 : ∀ q, q < 6 → q ≠ p → (∀ i, i < 15 → csame μ ν (15 + 15 * q + i) (15 + 15 * q + i) ∧ ν 5 (15 * q + i) = μ 5 (15 * q + i) ∧ ν 6 (15 * q + i) = μ 6 (15 * q + i)) ∧ ν 9 q = μ 9 q ∧ ν 11 q = μ 11 q ∧ ν 17 q = μ 17 q)
    (e : ∀ a, a = 8 ∨ a = 10 ∨ a = 12 ∨ a = 18 ∨ a = 20 ∨ a = 23 → ν a = μ a) (h14 : ∀ q, q < 6 → μ 8 q = 0 → ν 14 q = μ 14 q) (hz : kZ ν p) (n9 : ν 9 p = 0) (n11 : ν 11 p = 0) : kInvS ν := by
  obtain ⟨hC, hP, hA, hN, h8⟩ := h
  have r8 : mR8 μ := fun c hc => (hr.1 c hc).2.2.2.1
  have hPp := ((hP p hp).1 g).1
  refine ⟨iC_put hp hB r8 hC hPp hs, fun q hq => ?_, fun a b ha hb hab ga gb => ?_, fun q hq q8 => ?_, fun q hq gq => ?_⟩
  · by_cases z : q = p
    · subst z
      refine ⟨fun y => by omega, fun _ => ⟨hz, n11, fun d hd => ?_⟩⟩
      rw [e 18 (by omega)]
      have rx := (hx (4 * q + d) (by omega)).1
      have := hPp.2.2.2.2.2.2.2.1 d hd
      intro h0
      obtain ⟨i1, i2⟩ := this h0
      refine ⟨fun y => ?_, fun y => ?_⟩
      · show ν 0 (μ 18 (4 * q + d)).toNat = 1
        rw [(hs _ (by omega)).1 0 (by omega)]; exact i1 y
      · show ν 0 (μ 18 (4 * q + d) - 16).toNat = 3
        rw [(hs _ (by omega)).1 0 (by omega)]; exact i2 y
    · obtain ⟨s1, s2, s3, s4⟩ := hq9 q hq z
      rw [s2]
      refine ⟨fun y => ⟨?_, by rw [e 12 (by omega), e 23 (by omega)]; exact ((hP q hq).1 y).2⟩, fun y => ?_⟩
      · exact iP_put hp hq hB r8 hx hC hPp ((hP q hq).1 y).1 (hA p q hp hq (fun w => z w.symm) g y) (hA q p hq hp z y g) hs ⟨s1, fun d hd => ⟨by rw [e 18 (by omega)], by rw [e 20 (by omega)]⟩⟩
      · obtain ⟨⟨z1, z2⟩, z3, z4⟩ := (hP q hq).2 y
        refine ⟨⟨fun s hs => ?_, by rw [s4]; exact z2⟩, by rw [s3]; exact z3, fun d hd => ?_⟩
        · rw [(s1 s hs).2.1, (s1 s hs).2.2]; exact z1 s hs
        · rw [e 18 (by omega)]
          exact put_k hB hPp hs (hx (4 * q + d) (by omega)).1 (z4 d hd)
  · have na : a ≠ p := by intro y; subst y; omega
    have nb : b ≠ p := by intro y; subst y; omega
    obtain ⟨s1, s2, -⟩ := hq9 a ha na
    obtain ⟨t1, t2, -⟩ := hq9 b hb nb
    rw [s2] at ga
    rw [t2] at gb
    have := hA a b ha hb hab ga gb
    refine ⟨fun i hi w => ?_, by rw [e 12 (by omega)]; exact this.2⟩
    rw [(s1 i hi).2.1] at w
    rw [(t1 i hi).2.1, (t1 i hi).2.2]
    exact this.1 i hi w
  · rw [e 8 (by omega)] at q8
    obtain ⟨k1, k2, k3, k4⟩ := hN q hq q8
    have qp : q ≠ p := by intro y; subst y; have := h8 q hq g; omega
    obtain ⟨-, s2, s3, -⟩ := hq9 q hq qp
    rw [s3, e 10 (by omega), h14 q hq q8, e 18 (by omega)]
    exact ⟨k1, k2, k3, k4⟩
  · rw [e 8 (by omega)]
    have qp : q ≠ p := by intro y; subst y; omega
    rw [(hq9 q hq qp).2.1] at gq
    exact h8 q hq gq
