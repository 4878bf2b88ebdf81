/-! the plain law (3): the sweep -/
theorem mbal_m {μ μ' : mS} {v v' : Nat → Nat} (h : mbal μ v) (h1 : ∀ d i, d < 12 → men μ' (v' d) i = men μ (v d) i) (h2 : ∀ i, i < 12 → mcap μ' (v' i) i = mcap μ (v i) i) : mbal μ' v' := by
  intro i hi
  rw [h2 i hi, ← h i hi]
  exact sm_ext _ fun d hd => h1 d i hd
theorem mnm_iff {μ : mS} {i : Nat} : mnm μ i = true ↔ ∃ x, x < 24 ∧ ((μ 8 (x / 4) = 1 ∧ nms (μ 18 x) i) ∨ (0 < μ 11 (x / 4) ∧ nms (μ 20 x) i)) := by
  unfold mnm
  rw [List.any_eq_true]
  constructor
  · rintro ⟨x, hx, h⟩
    have h := of_decide_eq_true h
    exact ⟨x, List.mem_range.mp hx, by unfold nms; grind⟩
  · rintro ⟨x, hx, h⟩
    exact ⟨x, List.mem_range.mpr hx, decide_eq_true (by unfold nms at h; grind)⟩
theorem msweep_a {μ : mS} {a : Nat} (h : a ≠ 0) : msweep μ a = μ a := funext fun j => msweepk_o h
theorem msweep_0 {μ : mS} {j : Nat} : msweep μ 0 j = if 1 ≤ j ∧ j < 15 ∧ mgone μ j = true then 0 else μ 0 j := by
  show (if 0 = 0 ∧ 1 ≤ j ∧ j < 15 ∧ mgone μ j = true then 0 else μ 0 j) = _
  simp
theorem mgone_i {μ : mS} {i : Nat} (h : mgone μ i = true) : (∀ x, x < 24 → ¬ (μ 8 (x / 4) = 1 ∧ nms (μ 18 x) i) ∧ ¬ (0 < μ 11 (x / 4) ∧ nms (μ 20 x) i)) ∧ (i < 12 → ∀ q, q < 6 → μ 9 q = 1 → ¬ μ 5 (15 * q + i) = 1) ∧ (μ 0 i = 3 ∨ (μ 0 i = 1 ∧ μ 2 i = 0)) := by
  unfold mgone at h
  simp only [Bool.and_eq_true, Bool.not_eq_true', Bool.and_eq_false_iff, decide_eq_true_eq, decide_eq_false_iff_not] at h
  obtain ⟨⟨h1, h2⟩, h3⟩ := h
  refine ⟨fun x hx => ?_, fun hi q hq h9 h5 => ?_, h3⟩
  · have h1 : ¬ mnm μ i = true := by rw [h1]; simp
    rw [mnm_iff] at h1
    exact ⟨fun q => h1 ⟨x, hx, Or.inl q⟩, fun q => h1 ⟨x, hx, Or.inr q⟩⟩
  · rcases h2 with h2 | h2
    · exact h2 hi
    · have : mhld μ i 6 = true := mhld_iff.mpr ⟨q, hq, h9, h5⟩
      rw [h2] at this; cases this
/-- all but what is solid -/
def kInvS (μ : mS) : Prop := iC μ ∧ (∀ q, q < 6 → (μ 9 q = 1 → iP μ q ∧ μ 12 q ≤ μ 23 0) ∧ (¬ μ 9 q = 1 → iN μ q)) ∧ (∀ p q, p < 6 → q < 6 → p ≠ q → μ 9 p = 1 → μ 9 q = 1 → iA μ p q) ∧ kNt μ ∧ (∀ q, q < 6 → μ 9 q = 1 → μ 8 q = 1)
theorem kInvS_of {μ : mS} (h : kInv μ) : kInvS μ := ⟨h.1, h.2.2.1, h.2.2.2.1, h.2.2.2.2.1, h.2.2.2.2.2⟩
theorem cap_no {a b : Int} {i : Nat} (h : (a = 1 ∧ 1 ≤ b) ∨ (a = 2 ∧ i ≠ 0)) (hk : a = 3 ∨ (a = 1 ∧ b = 0)) : False := by omega
theorem men_z {μ : mS} {c i : Nat} (h : ¬ μ 0 c = 2) : men μ c i = 0 := if_neg h
theorem kInv_sweep {μ : mS} (h : kInvS μ) (hx : mRx μ) (hr : mRs μ) (h11 : ∀ q, q < 6 → μ 9 q = 1 → 0 < μ 11 q) (h9 : ∀ q, q < 6 → 0 < μ 11 q → μ 9 q = 1) (hB : kB μ) : kInv (msweep μ) := by
  obtain ⟨⟨c1, c2, c3, c4, c5⟩, hP, hA, hN, h8⟩ := h
  have e : ∀ a, a ≠ 0 → msweep μ a = μ a := fun a ha => msweep_a ha
  -- kinds
  have k0 : ∀ j, msweep μ 0 j = μ 0 j ∨ (msweep μ 0 j = 0 ∧ 1 ≤ j ∧ j < 15 ∧ mgone μ j = true) := fun j => by
    rw [msweep_0]
    by_cases z : 1 ≤ j ∧ j < 15 ∧ mgone μ j = true
    · rw [if_pos z]; exact Or.inr ⟨rfl, z⟩
    · rw [if_neg z]; exact Or.inl rfl
  have k15 : ∀ j, 15 ≤ j → msweep μ 0 j = μ 0 j := fun j hj => by rw [msweep_0, if_neg (by omega)]
  have km : ∀ c i, men (msweep μ) c i = men μ c i := fun c i => by
    rcases k0 c with z | ⟨z, z1, z2, z3⟩
    · unfold men; rw [z, e 1 (by omega), e 4 (by omega)]
    · have g := (mgone_i z3).2.2
      rw [men_z (by rw [z]; omega), men_z (by omega)]
  have kc : ∀ c i, c < 12 ∨ 15 ≤ c → mcap (msweep μ) c i = mcap μ c i := fun c i hc => by
    rcases k0 c with z | ⟨z, z1, z2, z3⟩
    · unfold mcap; rw [z, e 2 (by omega)]
    · have g := (mgone_i z3).2.2
      have := c2 c (by omega)
      have g1 : μ 0 c = 1 := by omega
      unfold mcap
      rw [z, g1, if_neg (by omega), if_neg (by omega), if_pos rfl]
      omega
  have kd : ∀ c, ndis μ c → ndis (msweep μ) c := fun c hd h0 => by
    have h0' : μ 0 c = 2 := by
      rcases k0 c with z | ⟨z, z1, z2, z3⟩
      · rw [z] at h0; exact h0
      · rw [z] at h0; omega
    rw [e 1 (by omega), e 3 (by omega)]
    exact hd h0'
  have ko : ∀ q i, mof (msweep μ) q i = mof μ q i := fun q i => mof_c (by rw [e 5 (by omega)])
  have ol : ∀ q i, q < 6 → i < 12 → mof μ q i < 12 ∨ 15 ≤ mof μ q i := fun q i hq hi => by unfold mof; split <;> omega
  -- a named one stays
  have kn : ∀ i, i < 15 → (∃ x, x < 24 ∧ ((μ 8 (x / 4) = 1 ∧ nms (μ 18 x) i) ∨ (0 < μ 11 (x / 4) ∧ nms (μ 20 x) i))) → msweep μ 0 i = μ 0 i := fun i hi ⟨x, hx, h⟩ => by
    rcases k0 i with z | ⟨z, z1, z2, z3⟩
    · exact z
    · have g := (mgone_i z3).1 x hx
      rcases h with h | h
      · exact absurd h g.1
      · exact absurd h g.2
  have nmx : ∀ x : Int, 0 ≤ x → x ≤ 11 → nms x x.toNat := fun x h1 h2 => ⟨h1, by omega⟩
  have nmy : ∀ x : Int, 28 ≤ x → x ≤ 30 → nms x (x - 16).toNat := fun x h1 h2 => ⟨by omega, by omega⟩
  have C : iC (msweep μ) := by
    refine ⟨mbal_m c1 (fun d i hd => km _ _) (fun i hi => kc _ _ (Or.inl hi)), fun i hi => ?_, fun i h1 h2 => ?_, fun c hc => kd c (c4 c hc), ?_⟩
    · rcases k0 i with z | ⟨z, -⟩
      · rw [z]; exact c2 i hi
      · omega
    · rcases k0 i with z | ⟨z, -⟩
      · rw [z]; exact c3 i h1 h2
      · omega
    · rcases k0 0 with z | ⟨z, z1, -⟩
      · rw [z]; exact c5
      · omega
  have idn : ∀ q d, q < 6 → d < 4 → μ 8 q = 1 → ids μ id (μ 18 (4 * q + d)) → ids (msweep μ) id (μ 18 (4 * q + d)) := fun q d hq hd hq8 hi h0 => by
    obtain ⟨i1, i2⟩ := hi h0
    have rx := (hx (4 * q + d) (by omega)).1
    have e4 : (4 * q + d) / 4 = q := by omega
    refine ⟨fun z => ?_, fun z => ?_⟩
    · show msweep μ 0 (μ 18 (4 * q + d)).toNat = 1
      rw [kn _ (by omega) ⟨4 * q + d, by omega, Or.inl ⟨by rw [e4]; exact hq8, nmx _ h0 z⟩⟩]; exact i1 z
    · show msweep μ 0 (μ 18 (4 * q + d) - 16).toNat = 3
      rw [kn _ (by omega) ⟨4 * q + d, by omega, Or.inl ⟨by rw [e4]; exact hq8, nmy _ (by omega) (by omega)⟩⟩]; exact i2 z
  refine ⟨C, ?_, fun q hq => ⟨fun g => ?_, fun g => ?_⟩, fun p q hp hq hpq g1 g2 => ?_, ?_, fun q hq g => ?_⟩
  · -- what is left is solid
    intro i hi hk
    rw [e 2 (by omega)] at hk
    have z : msweep μ 0 i = μ 0 i := by
      rcases k0 i with z | ⟨z, -⟩
      · exact z
      · omega
    rw [z] at hk
    have ng : mgone μ i = true → False := fun g => by
      have i1 : 1 ≤ i := by
        rcases Nat.eq_zero_or_pos i with q | q
        · subst q; omega
        · exact q
      rw [msweep_0, if_pos ⟨i1, hi, g⟩] at z
      omega
    -- named for sure by one of those that go
    have key : ∀ q, q < 6 → μ 9 q = 1 → (i < 12 → mref μ q i) → (12 ≤ i → ∃ d, d < 4 ∧ nms (μ 18 (4 * q + d)) i) → ∃ x, x < 24 ∧ msweep μ 8 (x / 4) = 1 ∧ nms (sol (msweep μ) x) i := by
      intro q hq g hm1 hm2
      have hPq := ((hP q hq).1 g).1
      have fin : (∃ d, d < 4 ∧ nms (μ 20 (4 * q + d)) i) → ∃ x, x < 24 ∧ msweep μ 8 (x / 4) = 1 ∧ nms (sol (msweep μ) x) i := by
        rintro ⟨d, hd, hn⟩
        have e4 : (4 * q + d) / 4 = q := by omega
        refine ⟨4 * q + d, by omega, by rw [e 8 (by omega), e4]; exact h8 q hq g, ?_⟩
        unfold sol
        rw [e 9 (by omega), e4, if_pos g, e 20 (by omega)]; exact hn
      by_cases i12 : i < 12
      · rcases hPq.2.1 i i12 (hm1 i12) with y | y | ⟨y, -⟩ | ⟨d, hd, y1, y2⟩
        · subst y; omega
        · exact fin y
        · omega
        · exact (cap_no (mcap_k (mbal_nm c1 hd i12 y2)) hk).elim
      · obtain ⟨d, hd, hn⟩ := hm2 (by omega)
        have rx := (hx (4 * q + d) (by omega)).1
        have e16 : (μ 18 (4 * q + d) - 16).toNat = i := by have := hn.2; have := hn.1; omega
        rcases hPq.2.2.1 d hd (by have := hn.2; have := hn.1; omega) with ⟨y, hy, y1⟩ | y
        · exact fin ⟨y, hy, by rw [y1]; exact hn⟩
        · rw [e16] at y; omega
    by_cases hn : mnm μ i = true
    · obtain ⟨x, hx24, hn⟩ := mnm_iff.mp hn
      have x4 : 4 * (x / 4) + x % 4 = x := by omega
      by_cases g : μ 9 (x / 4) = 1
      · rcases hn with ⟨n1, n2⟩ | ⟨n1, n2⟩
        · exact key (x / 4) (by omega) g (fun _ => Or.inl ⟨x % 4, by omega, by rw [x4]; exact n2⟩) (fun _ => ⟨x % 4, by omega, by rw [x4]; exact n2⟩)
        · refine ⟨x, hx24, by rw [e 8 (by omega)]; exact h8 _ (by omega) g, ?_⟩
          unfold sol
          rw [e 9 (by omega), if_pos g, e 20 (by omega)]; exact n2
      · rcases hn with ⟨n1, n2⟩ | ⟨n1, n2⟩
        · refine ⟨x, hx24, by rw [e 8 (by omega)]; exact n1, ?_⟩
          unfold sol
          rw [e 9 (by omega), if_neg g, e 18 (by omega)]; exact n2
        · exact absurd (h9 _ (by omega) n1) g
    · by_cases hh : i < 12 ∧ mhld μ i 6 = true
      · obtain ⟨q, hq, g, w⟩ := mhld_iff.mp hh.2
        exact key q hq g (fun _ => Or.inr (Or.inl (Or.inl w))) (fun y => by omega)
      · exact absurd (mgone_t (by simpa using hn) (fun y => by simpa using fun w => hh ⟨y, w⟩) hk) (fun g => ng g)
  · rw [e 9 (by omega)] at g
    obtain ⟨⟨p1, p2, p3, p4, p5, p6, p7, p8, p9⟩, pa⟩ := (hP q hq).1 g
    refine ⟨⟨?_, ?_, ?_, ?_, ?_, ?_, ?_, ?_, ?_⟩, by rw [e 12 (by omega), e 23 (by omega)]; exact pa⟩
    · refine mbal_m p1 (fun d i hd => by rw [ko, km]) (fun i hi => by rw [ko, kc _ _ (ol q i hq hi)])
    · intro i hi hr'
      have hr2 : mref μ q i := by
        unfold mref at hr' ⊢
        simp only [km] at hr'
        rw [e 18 (by omega), e 5 (by omega), e 6 (by omega)] at hr'
        exact hr'
      have := p2 i hi hr2
      unfold mgr at this ⊢
      simp only [km]
      rw [e 20 (by omega), e 5 (by omega), e 6 (by omega)]
      rcases this with y | y | ⟨y, y2⟩ | y
      · exact Or.inl y
      · exact Or.inr (Or.inl y)
      · refine Or.inr (Or.inr (Or.inl ⟨?_, y2⟩))
        rcases k0 i with z | ⟨z, -⟩
        · rw [z]; exact y
        · exact z
      · exact Or.inr (Or.inr (Or.inr y))
    · intro d hd h28
      rw [e 18 (by omega)] at h28 ⊢
      rw [e 20 (by omega), e 5 (by omega)]
      rcases p3 d hd h28 with y | y
      · exact Or.inl y
      · refine Or.inr ⟨?_, y.2⟩
        rcases k0 (μ 18 (4 * q + d) - 16).toNat with z | ⟨z, -⟩
        · rw [z]; exact y.1
        · exact z
    · intro i hi w
      rw [e 5 (by omega)] at w
      have := p4 i hi w
      rw [k15 _ (by omega)]
      refine ⟨fun z => ?_, this.2⟩
      have zz : msweep μ 0 i = μ 0 i := by
        rcases k0 i with y | ⟨y, y1, y2, y3⟩
        · exact y
        · exact absurd w ((mgone_i y3).2.1 z q hq g)
      rw [zz]
      exact this.1 z
    · intro c hc
      rw [ko]
      exact kd _ (p5 c hc)
    · rw [ko]
      rcases k0 (mof μ q 0) with z | ⟨z, z1, z2, z3⟩
      · rw [z]; exact p6
      · have := (mgone_i z3).2.2; omega
    · intro d hd
      rw [e 20 (by omega)]
      intro h0
      obtain ⟨i1, i2⟩ := p7 d hd h0
      have rx := (hx (4 * q + d) (by omega)).2.1
      have e4 : (4 * q + d) / 4 = q := by omega
      refine ⟨fun z => ?_, fun z => ?_⟩
      · show msweep μ 0 (μ 20 (4 * q + d)).toNat = 1
        rw [kn _ (by omega) ⟨4 * q + d, by omega, Or.inr ⟨by rw [e4]; exact h11 q hq g, nmx _ h0 z⟩⟩]; exact i1 z
      · show msweep μ 0 (μ 20 (4 * q + d) - 16).toNat = 3
        rw [kn _ (by omega) ⟨4 * q + d, by omega, Or.inr ⟨by rw [e4]; exact h11 q hq g, nmy _ (by omega) (by omega)⟩⟩]; exact i2 z
    · intro d hd
      rw [e 18 (by omega)]
      intro h0
      obtain ⟨i1, i2⟩ := p8 d hd h0
      have rx := (hx (4 * q + d) (by omega)).1
      have e4 : (4 * q + d) / 4 = q := by omega
      have kk : ∀ i, i < 15 → nms (μ 18 (4 * q + d)) i → msweep μ 0 (mof μ q i) = μ 0 (mof μ q i) := fun i hi hn => by
        unfold mof
        split
        · exact kn _ hi ⟨4 * q + d, by omega, Or.inl ⟨by rw [e4]; exact h8 q hq g, hn⟩⟩
        · exact k15 _ (by omega)
      refine ⟨fun z => ?_, fun z => ?_⟩
      · rw [ko, kk _ (by omega) (nmx _ h0 z)]; exact i1 z
      · rw [ko, kk _ (by omega) (nmy _ (by omega) (by omega))]; exact i2 z
    · intro i hi hs
      rw [e 6 (by omega)] at hs
      obtain ⟨s1, s2⟩ := p9 i hi hs
      refine ⟨s1, ?_⟩
      rw [e 5 (by omega)]
      rcases k0 i with z | ⟨z, z1, z2, z3⟩
      · rw [z]; exact s2
      · obtain ⟨g1, g2, g3⟩ := mgone_i z3
        have c2i := c2 i s1
        rcases p2 i s1 (Or.inr (Or.inl (Or.inr hs))) with y | ⟨d, hd, y⟩ | ⟨y, y2⟩ | ⟨d, hd, y1, y2⟩
        · omega
        · exact absurd ⟨by rw [show (4 * q + d) / 4 = q by omega]; exact h11 q hq g, y⟩ (g1 (4 * q + d) (by omega)).2
        · exact Or.inr y2
        · exact (cap_no (mcap_k (mbal_nm c1 hd s1 y2)) g3).elim
  · rw [e 9 (by omega)] at g
    obtain ⟨⟨z1, z2⟩, z3, z4⟩ := (hP q hq).2 g
    refine ⟨⟨fun s hs => by rw [e 5 (by omega), e 6 (by omega)]; exact z1 s hs, by rw [e 17 (by omega)]; exact z2⟩, by rw [e 11 (by omega)]; exact z3, fun d hd => ?_⟩
    rw [e 18 (by omega)]
    by_cases q8 : μ 8 q = 1
    · exact idn q d hq hd q8 (z4 d hd)
    · intro h0
      have := (hN q hq (by have := (hB q).2.2.1; omega)).2.2.2 d hd
      omega
  · rw [e 9 (by omega)] at g1 g2
    have := hA p q hp hq hpq g1 g2
    unfold iA at this ⊢
    rw [e 5 (by omega), e 6 (by omega), e 12 (by omega)]
    exact this
  · unfold kNt at hN ⊢
    rw [e 8 (by omega), e 11 (by omega), e 10 (by omega), e 14 (by omega), e 18 (by omega)]
    exact hN
  · rw [e 9 (by omega)] at g
    rw [e 8 (by omega)]
    exact h8 q hq g
