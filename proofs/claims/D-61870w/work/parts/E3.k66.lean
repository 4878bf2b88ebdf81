/-! the plain law: a call changes its own -/
section KG
variable {G : gG} {n m n' m' fr rc rs : Nat} {A A' A0 : kA} {X X' : kX} {σ σ' σ0 σ2 : gS} {μ μ' ν : mS} {Q Q' Q0 : gO → gS → Prop}
theorem kIn_own {p : Nat} {c c' : Int} (hp : p < 6) (h : kIn p c μ) (e : ∀ a, a = 8 ∨ a = 9 ∨ a = 10 ∨ a = 11 ∨ a = 12 ∨ a = 14 ∨ a = 17 ∨ a = 20 ∨ a = 23 → ν a = μ a) (es : ∀ c, c < 105 → ¬ (15 + 15 * p ≤ c ∧ c < 30 + 15 * p) → csame μ ν c c) (e5 : ∀ q i, q < 6 → q ≠ p → i < 15 → ν 5 (15 * q + i) = μ 5 (15 * q + i) ∧ ν 6 (15 * q + i) = μ 6 (15 * q + i)) (e18 : ∀ x, x / 4 ≠ p → ν 18 x = μ 18 x)
    (hA : ∀ q, q < 6 → q ≠ p → μ 9 q = 1 → ∀ i, i < 15 → (ν 5 (15 * p + i) = 1 → ¬ μ 5 (15 * q + i) = 1 ∧ ¬ μ 6 (15 * q + i) = 1) ∧ (μ 5 (15 * q + i) = 1 → ¬ ν 6 (15 * p + i) = 1)) (hP : iP ν p) (hI : mI c' ν) (hL : mL c' ν) (hB : kB ν) : kIn p c' ν := by
  obtain ⟨i1, i2, i3, i4, i5, i6, i7, i8⟩ := h
  have hK : kInv ν := kInv_own (p := p) i5 i2.1 i2.2.2.1 i1 (fun a ha => e a (by omega)) es (fun q hq hqp => ⟨fun i hi => e5 q i hq hqp hi, by rw [e 11 (by omega)], by rw [e 17 (by omega)], fun d hd => e18 _ (by omega)⟩) hP (fun q hq hqp g => by
    have a1 := i1.2.2.2.1 p q hp hq (fun y => hqp y.symm) i5 g
    have a2 := i1.2.2.2.1 q p hq hp hqp g i5
    refine ⟨⟨fun i hi w => ?_, by rw [e 12 (by omega)]; exact a1.2⟩, ⟨fun i hi w => ?_, by rw [e 12 (by omega)]; exact a2.2⟩⟩
    · obtain ⟨x1, x2⟩ := e5 q i hq hqp hi
      rw [x1, x2]
      exact (hA q hq hqp g i hi).1 w
    · obtain ⟨x1, x2⟩ := e5 q i hq hqp hi
      rw [x1] at w
      exact ⟨fun y => ((hA q hq hqp g i hi).1 y).1 w, (hA q hq hqp g i hi).2 w⟩)
  refine ⟨hK, hI, hL, hB, by rw [e 9 (by omega)]; exact i5, fun q hq hqp g => ?_, fun q hq g => ?_, fun y q hq hqp g => ?_⟩
  · rw [e 9 (by omega)] at g
    rw [e 11 (by omega)]; exact i6 q hq hqp g
  · rw [e 11 (by omega)] at g
    rw [e 9 (by omega)]; exact i7 q hq g
  · rw [e 11 (by omega)] at y
    rw [e 9 (by omega)] at g
    rw [e 12 (by omega)]; exact i8 y q hq hqp g
/-- whom it meets stays -/
theorem kIn_own0 {p : Nat} {c c' : Int} (hp : p < 6) (h : kIn p c μ) (e : ∀ a, a = 5 ∨ a = 6 ∨ a = 8 ∨ a = 9 ∨ a = 10 ∨ a = 11 ∨ a = 12 ∨ a = 14 ∨ a = 17 ∨ a = 20 ∨ a = 23 → ν a = μ a) (es : ∀ c, c < 105 → ¬ (15 + 15 * p ≤ c ∧ c < 30 + 15 * p) → csame μ ν c c) (e18 : ∀ x, x / 4 ≠ p → ν 18 x = μ 18 x) (hP : iP ν p) (hI : mI c' ν) (hL : mL c' ν) : kIn p c' ν := by
  refine kIn_own hp h (fun a ha => e a (by omega)) es (fun q i _ _ _ => ⟨by rw [e 5 (by omega)], by rw [e 6 (by omega)]⟩) e18 (fun q hq hqp g i hi => ⟨fun w => ?_, fun w y => ?_⟩) hP hI hL (kB_c h.2.2.2.1 (fun a ha => e a (by omega)))
  · rw [e 5 (by omega)] at w
    exact (h.1.2.2.2.1 p q hp hq (fun y => hqp y.symm) h.2.2.2.2.1 g).1 i hi w
  · rw [e 6 (by omega)] at y
    exact ((h.1.2.2.2.1 q p hq hp hqp g h.2.2.2.2.1).1 i hi w).2 y
/-- a descriptor is made -/
theorem iPr_desc {p d : Nat} {v pl : Int} (hd : d < 4) (hv : (0 ≤ v ∧ v ≤ 11 ∧ mgr μ p v.toNat ∧ mkd μ p v.toNat = 1) ∨ (28 ≤ v ∧ v ≤ 30 ∧ μ 0 (v - 16).toNat = 0 ∧ μ 5 (15 * p + (v - 16).toNat) = 1 ∧ mkd μ p (v - 16).toNat = 3)) (hP : iPr μ p) : iPr (mup (mup μ 18 (4 * p + d) v) 19 (4 * p + d) pl) p := by
  have u : ∀ b, ¬ (b = 18 ∨ b = 19) → mup (mup μ 18 (4 * p + d) v) 19 (4 * p + d) pl b = μ b := fun b hb => by rw [mup_other _ _ _ (by omega), mup_other _ _ _ (by omega)]
  have u18 : ∀ e, mup (mup μ 18 (4 * p + d) v) 19 (4 * p + d) pl 18 (4 * p + e) = if e = d then v else μ 18 (4 * p + e) := fun e => by simp only [mup]; grind
  generalize mup (mup μ 18 (4 * p + d) v) 19 (4 * p + d) pl = ν at *
  obtain ⟨p2, p3, p4, p5, p6, p7, p8, p9⟩ := hP
  have hm : ∀ c i, men ν c i = men μ c i := fun c i => by unfold men; rw [u 0 (by omega), u 1 (by omega), u 4 (by omega)]
  have ho : ∀ i, mof ν p i = mof μ p i := fun i => mof_c (by rw [u 5 (by omega)])
  have hg : ∀ i, mgr μ p i → mgr ν p i := fun i y => by
    unfold mgr at y ⊢
    simp only [hm]
    rw [u 20 (by omega), u 5 (by omega), u 6 (by omega), u 0 (by omega)]
    exact y
  refine ⟨fun i hi hr => hg i ?_, fun e he y => ?_, fun i hi => ?_, fun c hc => ?_, by rw [ho, u 0 (by omega)]; exact p6, fun e he => ?_, fun e he => ?_, by rw [u 6 (by omega), u 0 (by omega), u 5 (by omega)]; exact p9⟩
  · rcases hr with ⟨e, he, y⟩ | y | ⟨e, he, y1, y2⟩
    · rw [u18] at y
      by_cases z : e = d
      · rw [if_pos z] at y
        rcases hv with ⟨h1, h2, h3, h4⟩ | ⟨h1, h2, h3, h4, h5⟩
        · have : v.toNat = i := by have := y.2; omega
          rw [← this]; exact h3
        · have := y.2; omega
      · rw [if_neg z] at y
        exact p2 i hi (Or.inl ⟨e, he, y⟩)
    · rw [u 5 (by omega), u 6 (by omega)] at y
      exact p2 i hi (Or.inr (Or.inl y))
    · rw [u 5 (by omega)] at y1
      rw [hm] at y2
      exact p2 i hi (Or.inr (Or.inr ⟨e, he, y1, y2⟩))
  · rw [u18] at y ⊢
    rw [u 20 (by omega), u 0 (by omega), u 5 (by omega)]
    by_cases z : e = d
    · rw [if_pos z] at y ⊢
      rcases hv with ⟨h1, h2, h3, h4⟩ | ⟨h1, h2, h3, h4, h5⟩
      · omega
      · exact Or.inr ⟨h3, h4⟩
    · rw [if_neg z] at y ⊢
      exact p3 e he y
  · have := p4 i hi
    unfold icp at this ⊢
    rw [u 0 (by omega), u 5 (by omega)]
    exact this
  · have := p5 c hc
    unfold ndis at this ⊢
    rw [ho, u 0 (by omega), u 1 (by omega), u 3 (by omega)]
    exact this
  · have := p7 e he
    unfold ids at this ⊢
    rw [u 20 (by omega), u 0 (by omega)]
    exact this
  · rw [u18]
    by_cases z : e = d
    · rw [if_pos z]
      unfold ids
      rw [u 0 (by omega)]
      intro _
      rcases hv with ⟨h1, h2, h3, h4⟩ | ⟨h1, h2, h3, h4, h5⟩
      · exact ⟨fun _ => by rw [ho]; exact h4, fun y => by omega⟩
      · exact ⟨fun y => by omega, fun _ => by rw [ho]; exact h5⟩
    · rw [if_neg z]
      have := p8 e he
      unfold ids at this ⊢
      rw [u 0 (by omega), ho, ho]
      exact this
/-- a descriptor is made, inside a call -/
theorem kIn_desc {p d : Nat} {c v pl : Int} (hp : p < 6) (hd : d < 4) (h : kIn p c μ) (hpl : 0 ≤ pl ∧ pl ≤ 8) (hv : (0 ≤ v ∧ v ≤ 11 ∧ mgr μ p v.toNat ∧ mkd μ p v.toNat = 1) ∨ (28 ≤ v ∧ v ≤ 30 ∧ μ 0 (v - 16).toNat = 0 ∧ μ 5 (15 * p + (v - 16).toNat) = 1 ∧ mkd μ p (v - 16).toNat = 3)) : kIn p c (mup (mup μ 18 (4 * p + d) v) 19 (4 * p + d) pl) := by
  have u : ∀ b, ¬ (b = 18 ∨ b = 19) → mup (mup μ 18 (4 * p + d) v) 19 (4 * p + d) pl b = μ b := fun b hb => by rw [mup_other _ _ _ (by omega), mup_other _ _ _ (by omega)]
  have g := ((h.1.2.2.1 p hp).1 h.2.2.2.2.1).1
  refine kIn_own0 hp h (fun a ha => u a (by omega)) (fun c _ _ => csame_e (fun a ha => u a (by omega))) (fun x hx => ?_) ⟨?_, iPr_desc hd hv g.2⟩ (mI_desc (by omega) hpl h.2.1) (mL_c (u 2 (by omega)) h.2.2.1)
  · simp only [mup]; grind
  · refine mbal_m g.1 (fun e i _ => ?_) (fun i _ => ?_)
    · have : mof (mup (mup μ 18 (4 * p + d) v) 19 (4 * p + d) pl) p e = mof μ p e := mof_c (by rw [u 5 (by omega)])
      rw [this]
      unfold men; rw [u 0 (by omega), u 1 (by omega), u 4 (by omega)]
    · have : mof (mup (mup μ 18 (4 * p + d) v) 19 (4 * p + d) pl) p i = mof μ p i := mof_c (by rw [u 5 (by omega)])
      rw [this]
      unfold mcap; rw [u 0 (by omega), u 2 (by omega)]
/-- a place moves -/
theorem kIn_19 {p x : Nat} {c v : Int} (h : kIn p c μ) (hv : 0 ≤ v ∧ v ≤ 8) : kIn p c (mup μ 19 x v) := by
  obtain ⟨i1, i2, i3, i4, i5, i6, i7, i8⟩ := h
  have u : ∀ b, b ≠ 19 → mup μ 19 x v b = μ b := fun b hb => mup_other _ _ _ hb
  refine ⟨kInv_c i2.1 i2.2.2.1 i1 (fun a ha => u a (by omega)) (fun q _ _ => by rw [u 12 (by omega)]) (by rw [u 23 (by omega)]; exact Int.le_refl _), mI_19 hv i2, mL_c (u 2 (by omega)) i3, kB_c i4 (fun a ha => u a (by omega)), ?_, ?_, ?_, ?_⟩
  · rw [u 9 (by omega)]; exact i5
  · rw [u 9 (by omega), u 11 (by omega)]; exact i6
  · rw [u 9 (by omega), u 11 (by omega)]; exact i7
  · rw [u 9 (by omega), u 11 (by omega), u 12 (by omega)]; exact i8
/-- a copy's contents change: no directory's -/
theorem kIn_cont {p i : Nat} {c c' : Int} (hp : p < 6) (hi : i < 15) (h : kIn p c μ) (hk : ¬ μ 0 (15 + 15 * p + i) = 2) (h5 : μ 5 (15 * p + i) = 1) (e : ∀ b j, ¬ (b = 1 ∧ j = 15 + 15 * p + i) → ¬ (b = 3 ∧ 8 * (15 + 15 * p + i) ≤ j ∧ j < 8 * (15 + 15 * p + i) + 8) → ν b j = μ b j) (hI : mI c' ν) (hcc : c ≤ c') : kIn p c' ν := by
  have u : ∀ b, ¬ (b = 1 ∨ b = 3) → ν b = μ b := fun b hb => by funext j; exact e b j (by omega) (by omega)
  have cs : ∀ s, s ≠ 15 + 15 * p + i → csame μ ν s s := fun s hs => ⟨fun a ha => e a s (by omega) (by omega), fun a k ha hk => e a _ (by omega) (by omega)⟩
  have g := ((h.1.2.2.1 p hp).1 h.2.2.2.2.1).1
  have r8 : mR8 μ := fun c hc => (h.2.1.1.1 c hc).2.2.2.1
  have ho : ∀ i, mof ν p i = mof μ p i := fun i => mof_c (by rw [u 5 (by omega)])
  refine kIn_own0 hp h (fun a ha => u a (by omega)) (fun s hs hn => cs s (by omega)) (fun x _ => by rw [u 18 (by omega)]) ⟨?_, ?_⟩ hI (fun s hs => by rw [u 2 (by omega)]; have := h.2.2.1 s hs; omega)
  · refine mbal_m g.1 (fun e i2 he => ?_) (fun i2 _ => ?_)
    · rw [ho]
      by_cases z : mof μ p e = 15 + 15 * p + i
      · rw [z, men_z hk, men_z (by rw [u 0 (by omega)]; exact hk)]
      · exact men_c (cs _ z) (r8 _ (mof_lt hp (by omega)))
    · rw [ho]
      unfold mcap; rw [u 0 (by omega), u 2 (by omega)]
  · refine iPr_c hp r8 (fun a ha => u a (by omega)) (fun s hs h0 => ?_) g.2
    have : s ≠ 15 + 15 * p + i := by intro y; rw [y] at h0; exact hk h0
    exact Or.inl (cs s this)
/-- a call that gave way, and had made copies -/
theorem kOut_g2 {r : Int × mS} {l : List (Nat × Int)} {p i : Nat} {c z k : Int} {x : Nat} {a : mS} (hp : p < 6) (hi : i < 15) (h : bx 0 (kOut G n m A0 X (c + 1) r l Q)) (e : r = (z, mfail p k (mup (mabort p (mdw p i a)) 26 0 2))) (hw : (14, 2) ∈ l) (ha : kIn p c a) (hd : kIn p c (mdw p i a)) (hA : A 0 0 = A0 0 0) (hS : kSt G n m A X σ (msweep (mabort p a))) (hx : σ.1 x = some (.inl (14, []))) : Q (.inr x) σ := by
  have k1 := kAll_abort ha
  have k2 := kAll_abort hd
  have i1 := kInv_abort ha.2.2.2.2.1 ha.2.1.1 ha.2.1.2.2.1 ha.1
  have i2 := kInv_abort hd.2.2.2.2.1 hd.2.1.1 hd.2.1.2.2.1 hd.1
  have s1 : msweep (mabort p a) = mabort p a := msweep_id i1.2.1 k1.2.1
  have s2 : msweep (mabort p (mdw p i a)) = mabort p (mdw p i a) := msweep_id i2.2.1 k2.2.1
  rw [s1] at hS
  have hS2 := kSt_lq hS (mI_abort ha.2.1).1 (lq_dw hi)
  rw [← s2] at hS2
  refine kOut_g (A := arng A) (μ := mdw p i a) (k := k) (z := z) h e hw k2.1 (by rw [arng_o (by omega)]; exact hA) (kSt_c hS2 (fun b y1 y2 y3 => ?_)) hx
  exact msweep_c (fun d hd => mup_other _ _ _ (by omega)) b y1
end KG
