/-! the plain law: something new under a name -/
section KG
variable {μ ν : mS}
theorem app_cre {p h i : Nat} {k nm v : Int} (hh : h < 15) (hi : i < 15) (hhi : h ≠ i) (h8 : 0 ≤ ν 1 (15 + 15 * p + h) ∧ ν 1 (15 + 15 * p + h) < 8) : mappend p h nm v (mcreate p i k ν) = mcreate p i k (mappend p h nm v ν) := by
  obtain ⟨v1, v2, v3, v4, v5, v6⟩ := mcre_v (μ := ν) (p := p) (i := i) (k := k)
  obtain ⟨w1, w2, w3, w4, w5, w6⟩ := mcre_v (μ := mappend p h nm v ν) (p := p) (i := i) (k := k)
  have ac := fun c (hc : c ≠ 15 + 15 * p + h) => mapp_c (μ := ν) (p := p) (h := h) (n := nm) (v := v) hc h8
  have ao := fun a (ha : ¬ (a = 1 ∨ a = 3 ∨ a = 4)) => mapp_o (μ := ν) (p := p) (h := h) (n := nm) (v := v) ha
  have c1 : mcreate p i k ν 1 (15 + 15 * p + h) = ν 1 (15 + 15 * p + h) := (v3 _ (by omega)).1 1 (by omega)
  have bc := fun c (hc : c ≠ 15 + 15 * p + h) => mapp_c (μ := mcreate p i k ν) (p := p) (h := h) (n := nm) (v := v) hc (by rw [c1]; exact h8)
  have bo := fun a (ha : ¬ (a = 1 ∨ a = 3 ∨ a = 4)) => mapp_o (μ := mcreate p i k ν) (p := p) (h := h) (n := nm) (v := v) ha
  have key : ∀ c, csame (mappend p h nm v (mcreate p i k ν)) (mcreate p i k (mappend p h nm v ν)) c c := by
    intro c
    by_cases z : c = 15 + 15 * p + i
    · subst z
      refine ⟨fun a ha => ?_, fun a j ha hj => ?_⟩
      · rw [(bc _ (by omega)).1 a ha]
        rcases (by omega : a = 0 ∨ a = 1 ∨ a = 2) with e | e | e
        · rw [e, v4, w4]
        · rw [e, v5, w5]
        · rw [e, v6, w6]
      · rw [(bc _ (by omega)).2 a j ha hj]
        have e1 : ∀ ξ : mS, mcreate p i k ξ a (8 * (15 + 15 * p + i) + j) = ξ a (8 * i + j) := fun ξ => by
          unfold mcreate
          rw [if_neg (by omega), if_neg (by omega), if_neg (by omega), if_neg (by omega)]
          exact mcopy_v ha hj
        rw [e1, e1]
        exact (ac i (by omega)).2 a j ha hj
    · by_cases y : c = 15 + 15 * p + h
      · subst y
        refine ⟨fun a ha => ?_, fun a j ha hj => ?_⟩
        · rw [(w3 _ z).1 a ha]
          by_cases e : a = 1
          · subst e
            simp only [mappend]
            rw [mup_other _ _ _ (by omega), mup_other _ _ _ (by omega), mup_ss, mup_other _ _ _ (by omega), mup_other _ _ _ (by omega), mup_ss, c1]
          · rw [ao a (by omega), bo a (by omega)]
            exact ((v3 _ z).1 a ha).symm
        · rw [(w3 _ z).2 a j ha hj]
          have o := (v3 _ z).2 a j ha hj
          simp only [mappend, c1]
          rcases ha with e | e
          · subst e
            simp only [mup] at o ⊢
            grind
          · subst e
            simp only [mup] at o ⊢
            grind
      · exact ⟨fun a ha => by rw [(w3 c z).1 a ha, (ac c y).1 a ha, (bc c y).1 a ha, (v3 c z).1 a ha], fun a j ha hj => by rw [(w3 c z).2 a j ha hj, (ac c y).2 a j ha hj, (bc c y).2 a j ha hj, (v3 c z).2 a j ha hj]⟩
  funext a j
  by_cases a4 : a ≤ 4
  · rcases (by omega : a ≤ 2 ∨ a = 3 ∨ a = 4) with e | e
    · exact ((key j).1 a e).symm
    · have := (key (j / 8)).2 a (j % 8) e (by omega)
      rw [show 8 * (j / 8) + j % 8 = j by omega] at this
      exact this.symm
  · by_cases a5 : a = 5
    · subst a5
      rw [bo 5 (by omega), v2, w2, ao 5 (by omega)]
    · rw [bo a (by omega), v1 a (by omega), w1 a (by omega), ao a (by omega)]
/-- something new stands under a name -/
theorem kIn_make {p h i : Nat} {c k nm : Int} (hp : p < 6) (hh : h < 12) (hi : i < 12) (hi0 : i ≠ 0) (hk : k = 1 ∨ k = 2) (hc : 1 ≤ c) (hIn : kIn p c μ) (hw : μ 5 (15 * p + h) = 1) (h0 : μ 0 (15 + 15 * p + h) = 2) (hrm : μ 1 (15 + 15 * p + h) < 5) (hnm : ∀ j : Nat, (j : Int) < μ 1 (15 + 15 * p + h) → ¬ μ 3 (8 * (15 + 15 * p + h) + j) = nm) (hf0 : μ 0 i = 0) (hfr : ∀ q, q < 6 → μ 9 q = 1 → ¬ μ 5 (15 * q + i) = 1) : kIn p c (mappend p h nm i (mcreate p i k μ)) := by
  have hhi : h ≠ i := by intro e; subst e; exact hfr p hp hIn.2.2.2.2.1 hw
  have h5 : μ 5 (15 * p + i) = 0 := by
    have := (hIn.2.2.2.1 (15 * p + i)).1
    have := hfr p hp hIn.2.2.2.2.1
    omega
  obtain ⟨v1, v2, v3, v4, v5, v6⟩ := mcre_v (μ := μ) (p := p) (i := i) (k := k)
  have g := ((hIn.1.2.2.1 p hp).1 hIn.2.2.2.2.1).1
  have rs := hIn.2.1.1.1
  have r8 : mR8 μ := fun c hc => (rs c hc).2.2.2.1
  obtain ⟨n1, n2, n3, n4, n5⟩ := iPr_new (k := k) hp (show i < 15 by omega) hIn.2.1.2.2.1 r8 h5 hf0 ⟨fun _ => hk, fun y => by omega⟩ g.2
  have hIc := mI_create (p := p) (i := i) (k := k) (by omega) (by omega) hIn.2.1
  have r8c : mR8 (mcreate p i k μ) := fun c hc => (hIc.1.1 c hc).2.2.2.1
  have sh := v3 (15 + 15 * p + h) (by omega)
  have s0 : mcreate p i k μ 0 (15 + 15 * p + h) = 2 := by rw [sh.1 0 (by omega)]; exact h0
  have s1 : mcreate p i k μ 1 (15 + 15 * p + h) = μ 1 (15 + 15 * p + h) := sh.1 1 (by omega)
  have s5 : ¬ mcreate p i k μ 5 (15 * p + h) = 0 := by rw [v2, if_neg (by omega)]; omega
  have rh := rs (15 + 15 * p + h) (by omega)
  have s8 : 0 ≤ mcreate p i k μ 1 (15 + 15 * p + h) ∧ mcreate p i k μ 1 (15 + 15 * p + h) < 8 := by rw [s1]; omega
  have P := iPr_app (n := nm) (i := i) hp hh hi s5 s0 s8 r8c (fun j hj => by rw [s1] at hj; rw [sh.2 3 j (by omega) (by omega)]; exact hnm j hj) (n5 hi) n1
  have E := fun j => msE_app (j := j) (n := nm) (v := (i : Int)) hp hh s5 s0 s8 r8c
  have ao := fun a (ha : ¬ (a = 1 ∨ a = 3 ∨ a = 4)) => mapp_o (μ := mcreate p i k μ) (p := p) (h := h) (n := nm) (v := i) ha
  have ac := fun c (hc : c ≠ 15 + 15 * p + h) => mapp_c (μ := mcreate p i k μ) (p := p) (h := h) (n := nm) (v := i) hc s8
  have oF : ∀ j, j < 15 → mof (mappend p h nm i (mcreate p i k μ)) p j = if j = i then 15 + 15 * p + i else mof μ p j := fun j hj => by
    unfold mof
    rw [ao 5 (by omega), v2]
    by_cases z : j = i
    · rw [if_pos z, z, if_pos rfl, if_neg (by omega)]
    · rw [if_neg z, if_neg (show ¬ 15 * p + j = 15 * p + i by omega)]
  have mF : ∀ j, j < 12 → mcap (mappend p h nm i (mcreate p i k μ)) (mof (mappend p h nm i (mcreate p i k μ)) p j) j = if j = i then 1 else mcap μ (mof μ p j) j := fun j hj => by
    rw [oF j (by omega)]
    unfold mcap
    rw [ao 0 (by omega), ao 2 (by omega)]
    by_cases z : j = i
    · rw [if_pos z, if_pos z, v4, v6]
      rcases hk with e | e
      · rw [if_pos e, if_pos e]
      · rw [if_neg (by omega), if_pos ⟨e, by omega⟩]
    · rw [if_neg z, if_neg z]
      have hne : mof μ p j ≠ 15 + 15 * p + i := by unfold mof; split <;> omega
      rw [(v3 _ hne).1 0 (by omega), (v3 _ hne).1 2 (by omega)]
  have bal : mbal (mappend p h nm i (mcreate p i k μ)) (mof (mappend p h nm i (mcreate p i k μ)) p) := by
    intro j hj
    have e1 : sm (fun d => men (mappend p h nm i (mcreate p i k μ)) (mof (mappend p h nm i (mcreate p i k μ)) p d) j) 12 = msE μ (mof μ p) j + (if (i : Int) = (j : Int) then 1 else 0) := by
      have := E j
      rw [n3 j] at this
      exact this
    rw [e1, mF j hj]
    have b0 : msE μ (mof μ p) j = mcap μ (mof μ p j) j := g.1 j hj
    rw [b0]
    by_cases z : j = i
    · rw [if_pos z, if_pos (by omega), z]
      have : mcap μ (mof μ p i) i = 0 := by
        rw [mof_n h5]; unfold mcap; rw [if_neg (by omega), if_neg (by omega)]
      rw [this]; rfl
    · rw [if_neg z, if_neg (by omega)]; omega
  refine kIn_own hp hIn (fun a ha => by rw [ao a (by omega), v1 a (by omega)]) (fun s hs hn => csame_trans (v3 s (by omega)) (ac s (by omega))) (fun q j hq hqp hj => ⟨by rw [ao 5 (by omega), v2, if_neg (by omega)], by rw [ao 6 (by omega), v1 6 (by omega)]⟩) (fun x _ => by rw [ao 18 (by omega), v1 18 (by omega)]) (fun q hq hqp g9 j hj => ?_) ⟨bal, P⟩ (mI_append (by omega) (by rw [s1]; exact hrm) hIc) ?_ (fun j => ?_)
  · rw [ao 5 (by omega), v2, ao 6 (by omega), v1 6 (by omega)]
    have a1 := hIn.1.2.2.2.1 p q hp hq (fun y => hqp y.symm) hIn.2.2.2.2.1 g9
    have a2 := hIn.1.2.2.2.1 q p hq hp hqp g9 hIn.2.2.2.2.1
    refine ⟨fun w => ?_, fun w => (a2.1 j hj w).2⟩
    by_cases z : j = i
    · rw [z]
      refine ⟨hfr q hq g9, fun y => ?_⟩
      have := (((hIn.1.2.2.1 q hq).1 g9).1).2.2.2.2.2.2.2.2 i (by omega) y
      rcases this.2 with t | t
      · exact t hf0
      · exact hfr q hq g9 t
    · rw [if_neg (by omega)] at w
      exact a1.1 j hj w
  · intro s hs
    rw [ao 2 (by omega)]
    by_cases z : s = 15 + 15 * p + i
    · rw [z, v6]; split <;> omega
    · rw [(v3 s z).1 2 (by omega)]; exact hIn.2.2.1 s hs
  · have := hIn.2.2.2.1 j
    rw [ao 5 (by omega), v2, ao 6 (by omega), v1 6 (by omega), ao 8 (by omega), v1 8 (by omega), ao 9 (by omega), v1 9 (by omega), ao 10 (by omega), v1 10 (by omega)]
    refine ⟨?_, this.2⟩
    split
    · exact Or.inr rfl
    · exact this.1
end KG
