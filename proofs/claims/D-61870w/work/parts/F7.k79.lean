/-! the plain law: link -/
section KG
variable {μ ν : mS}
/-- a file's links change, and a name more for it stands in a directory (v = 1), or less (v = -1) -/
theorem mcap_l {p i j : Nat} {v : Int} (hi : i < 15) (hj : j < 12) (hw : μ 5 (15 * p + i) = 1) (h0 : μ 0 (15 + 15 * p + i) = 1) (hl : v = μ 2 (15 + 15 * p + i) + 1 ∨ True) : mcap (mup μ 2 (15 + 15 * p + i) v) (mof (mup μ 2 (15 + 15 * p + i) v) p j) j = if j = i then v else mcap μ (mof μ p j) j := by
  have o : mof (mup μ 2 (15 + 15 * p + i) v) p j = mof μ p j := mof_c (by rw [mup_other _ _ _ (by omega)])
  rw [o]
  unfold mcap
  rw [mup_other _ _ _ (show (0 : Nat) ≠ 2 by omega), mup_v]
  by_cases z : j = i
  · have e : mof μ p j = 15 + 15 * p + i := by rw [z]; exact mof_w (by omega)
    rw [if_pos z, e, if_pos h0, if_pos rfl]
  · have e : ¬ mof μ p j = 15 + 15 * p + i := by unfold mof; split <;> omega
    rw [if_neg z, if_neg e]
theorem msE_2 {p s j : Nat} {v : Int} : msE (mup μ 2 s v) (mof (mup μ 2 s v) p) j = msE μ (mof μ p) j := by
  unfold msE
  refine sm_ext 12 fun d hd => ?_
  have o : mof (mup μ 2 s v) p d = mof μ p d := mof_c (by rw [mup_other _ _ _ (by omega)])
  rw [o]
  unfold men
  rw [mup_other _ _ _ (show (0 : Nat) ≠ 2 by omega), mup_other _ _ _ (show (1 : Nat) ≠ 2 by omega), mup_other _ _ _ (show (4 : Nat) ≠ 2 by omega)]
theorem mI_2 {c v : Int} {s : Nat} (h : mI c μ) : mI c (mup μ 2 s v) := mI_up (by omega) h
/-- a name is added for a file that is there -/
theorem kIn_link {p h i : Nat} {c nm : Int} (hp : p < 6) (hh : h < 12) (hi : i < 12) (hhi : h ≠ i) (hIn : kIn p c μ) (hw : μ 5 (15 * p + h) = 1) (h0 : μ 0 (15 + 15 * p + h) = 2) (hrm : μ 1 (15 + 15 * p + h) < 5) (hnm : ∀ j : Nat, (j : Int) < μ 1 (15 + 15 * p + h) → ¬ μ 3 (8 * (15 + 15 * p + h) + j) = nm) (hwi : μ 5 (15 * p + i) = 1) (hki : μ 0 (15 + 15 * p + i) = 1) (hmg : mgr μ p i) : kIn p (c + 1) (mup (mappend p h nm i μ) 2 (15 + 15 * p + i) (μ 2 (15 + 15 * p + i) + 1)) := by
  have g := ((hIn.1.2.2.1 p hp).1 hIn.2.2.2.2.1).1
  have rs := hIn.2.1.1.1
  have r8 : mR8 μ := fun c hc => (rs c hc).2.2.2.1
  have rh := rs (15 + 15 * p + h) (by omega)
  have s8 : 0 ≤ μ 1 (15 + 15 * p + h) ∧ μ 1 (15 + 15 * p + h) < 8 := by omega
  have P := iPr_app (n := nm) (i := i) hp hh hi (by omega) h0 s8 r8 hnm hmg g.2
  have ao := fun a (ha : ¬ (a = 1 ∨ a = 3 ∨ a = 4)) => mapp_o (μ := μ) (p := p) (h := h) (n := nm) (v := i) ha
  have ac := fun c (hc : c ≠ 15 + 15 * p + h) => mapp_c (μ := μ) (p := p) (h := h) (n := nm) (v := i) hc s8
  have hIa := mI_append (p := p) (i := h) (m := nm) (v := i) (by omega) hrm hIn.2.1
  have r8a : mR8 (mappend p h nm i μ) := fun c hc => (hIa.1.1 c hc).2.2.2.1
  have u : ∀ a, a ≠ 2 → mup (mappend p h nm i μ) 2 (15 + 15 * p + i) (μ 2 (15 + 15 * p + i) + 1) a = mappend p h nm i μ a := fun a ha => mup_other _ _ _ ha
  have cs2 : ∀ c, c ≠ 15 + 15 * p + i → csame (mappend p h nm i μ) (mup (mappend p h nm i μ) 2 (15 + 15 * p + i) (μ 2 (15 + 15 * p + i) + 1)) c c := fun c hc => ⟨fun a ha => by
    by_cases z : a = 2
    · subst z; rw [mup_v, if_neg hc]
    · rw [u a z], fun a k ha hk => by rw [u a (by omega)]⟩
  have a2 : mappend p h nm i μ 2 = μ 2 := ao 2 (by omega)
  refine kIn_own0 hp hIn (fun a ha => by rw [u a (by omega), ao a (by omega)]) (fun s hs hn => csame_trans (ac s (by omega)) (cs2 s (by omega))) (fun x _ => by rw [u 18 (by omega), ao 18 (by omega)]) ⟨?_, ?_⟩ (mI_2 (mI_le (by omega) hIa)) (fun s hs => ?_)
  · intro j hj
    have e1 : sm (fun d => men (mup (mappend p h nm i μ) 2 (15 + 15 * p + i) (μ 2 (15 + 15 * p + i) + 1)) (mof (mup (mappend p h nm i μ) 2 (15 + 15 * p + i) (μ 2 (15 + 15 * p + i) + 1)) p d) j) 12 = msE μ (mof μ p) j + (if (i : Int) = (j : Int) then 1 else 0) := by
      have := msE_2 (μ := mappend p h nm i μ) (p := p) (s := 15 + 15 * p + i) (j := j) (v := μ 2 (15 + 15 * p + i) + 1)
      rw [msE_app (n := nm) (v := (i : Int)) hp hh (by omega) h0 s8 r8] at this
      exact this
    rw [e1, mcap_l (by omega) hj (by rw [ao 5 (by omega)]; exact hwi) (by rw [ao 0 (by omega)]; exact hki) (Or.inr trivial)]
    have b0 : msE μ (mof μ p) j = mcap μ (mof μ p j) j := g.1 j hj
    rw [b0]
    by_cases z : j = i
    · rw [if_pos z, if_pos (by omega), z, mof_w (by omega)]
      unfold mcap
      rw [if_pos hki]
    · rw [if_neg z, if_neg (by omega)]
      have o : mof (mappend p h nm i μ) p j = mof μ p j := mof_c (by rw [ao 5 (by omega)])
      rw [o]
      unfold mcap
      rw [ao 0 (by omega), a2]
      omega
  · exact iPr_c hp r8a (fun a ha => u a (by omega)) (fun s hs h2 => Or.inr ⟨by rw [u 1 (by omega)], fun a k ha _ => by rw [u a (by omega)]⟩) P
  · have := hIn.2.2.1 s hs
    have t := hIn.2.2.1 (15 + 15 * p + i) (by omega)
    rw [mup_v, a2]
    split <;> omega
end KG
