/-! the plain law: unlink -/
section KG
variable {μ ν : mS}
/-- an entry is gone -/
theorem rem_v {p h k0 : Nat} {c nm : Int} (hp : p < 6) (hh : h < 12) (hIn : kIn p c μ) (hw : μ 5 (15 * p + h) = 1) (h0 : μ 0 (15 + 15 * p + h) = 2) (hk : (k0 : Int) < μ 1 (15 + 15 * p + h)) (h3 : μ 3 (8 * (15 + 15 * p + h) + k0) = nm) :
    mrm9 μ (mremove p h nm μ) (15 + 15 * p + h) k0 ∧ iPr (mremove p h nm μ) p ∧ (∀ j, msE (mremove p h nm μ) (mof (mremove p h nm μ) p) j = msE μ (mof μ p) j - (if μ 4 (8 * (15 + 15 * p + h) + k0) = (j : Int) then 1 else 0)) := by
  have g := ((hIn.1.2.2.1 p hp).1 hIn.2.2.2.2.1).1
  have rs := hIn.2.1.1.1
  have r8 : mR8 μ := fun c hc => (rs c hc).2.2.2.1
  have hd : ndis μ (15 + 15 * p + h) := by
    have := g.2.2.2.2.1 h hh
    rw [mof_w (by omega)] at this
    exact this
  have e := mrem_e (p := p) (h := h) hk h3 hd h0
  have m9 := mrm9_of (μ := μ) (r8 (15 + 15 * p + h) (by omega)) hk
  rw [e]
  exact ⟨m9, iPr_rem hp hh (by omega) m9 h0 hk r8 g.2, fun j => msE_rem hp hh (by omega) m9 h0 hk r8⟩
/-- a file loses a name -/
theorem kIn_unlF {p h i k0 : Nat} {c nm : Int} (hp : p < 6) (hh : h < 12) (hi : i < 12) (hhi : h ≠ i) (hIn : kIn p c μ) (hw : μ 5 (15 * p + h) = 1) (h0 : μ 0 (15 + 15 * p + h) = 2) (hk : (k0 : Int) < μ 1 (15 + 15 * p + h)) (h3 : μ 3 (8 * (15 + 15 * p + h) + k0) = nm) (h4 : μ 4 (8 * (15 + 15 * p + h) + k0) = i) (hwi : μ 5 (15 * p + i) = 1) (hki : μ 0 (15 + 15 * p + i) = 1) : kIn p (c + 1) (mup (mremove p h nm μ) 2 (15 + 15 * p + i) (μ 2 (15 + 15 * p + i) - 1)) := by
  obtain ⟨m9, P, E⟩ := rem_v hp hh hIn hw h0 hk h3
  have hIr := mI_remove (p := p) (i := h) (m := nm) hp (by omega) hIn.2.1
  have g := ((hIn.1.2.2.1 p hp).1 hIn.2.2.2.2.1).1
  generalize hN : mremove p h nm μ = N at *
  obtain ⟨n1, n2, n3, n4⟩ := m9
  have r8n : mR8 N := fun c hc => (hIr.1.1 c hc).2.2.2.1
  have u : ∀ a, a ≠ 2 → mup N 2 (15 + 15 * p + i) (μ 2 (15 + 15 * p + i) - 1) a = N a := fun a ha => mup_other _ _ _ ha
  have cs2 : ∀ c, c ≠ 15 + 15 * p + i → csame N (mup N 2 (15 + 15 * p + i) (μ 2 (15 + 15 * p + i) - 1)) c c := fun c hc => ⟨fun a ha => by
    by_cases z : a = 2
    · subst z; rw [mup_v, if_neg hc]
    · rw [u a z], fun a k ha hk => by rw [u a (by omega)]⟩
  have a2 : N 2 = μ 2 := n1 2 (by omega)
  refine kIn_own0 hp hIn (fun a ha => by rw [u a (by omega), n1 a (by omega)]) (fun s hs hn => csame_trans (n2 s (by omega)) (cs2 s (by omega))) (fun x _ => by rw [u 18 (by omega), n1 18 (by omega)]) ⟨?_, ?_⟩ (mI_2 (mI_le (by omega) hIr)) (fun s hs => ?_)
  · intro j hj
    have e1 : sm (fun d => men (mup N 2 (15 + 15 * p + i) (μ 2 (15 + 15 * p + i) - 1)) (mof (mup N 2 (15 + 15 * p + i) (μ 2 (15 + 15 * p + i) - 1)) p d) j) 12 = msE μ (mof μ p) j - (if (i : Int) = (j : Int) then 1 else 0) := by
      have := msE_2 (μ := N) (p := p) (s := 15 + 15 * p + i) (j := j) (v := μ 2 (15 + 15 * p + i) - 1)
      rw [E j, h4] at this
      exact this
    rw [e1, mcap_l (by omega) hj (by rw [n1 5 (by omega)]; exact hwi) (by rw [n1 0 (by omega)]; exact hki) (Or.inr trivial)]
    have b0 : msE μ (mof μ p) j = mcap μ (mof μ p j) j := g.1 j hj
    rw [b0]
    by_cases z : j = i
    · rw [if_pos z, if_pos (by omega), z, mof_w (by omega)]
      unfold mcap
      rw [if_pos hki]
    · rw [if_neg z, if_neg (by omega)]
      have o : mof N p j = mof μ p j := mof_c (by rw [n1 5 (by omega)])
      rw [o]
      unfold mcap
      rw [n1 0 (by omega), a2]
      omega
  · exact iPr_c hp r8n (fun a ha => u a (by omega)) (fun s hs h2 => Or.inr ⟨by rw [u 1 (by omega)], fun a k ha _ => by rw [u a (by omega)]⟩) P
  · have := hIn.2.2.1 s hs
    have t := hIn.2.2.1 (15 + 15 * p + i) (by omega)
    rw [mup_v, a2]
    split <;> omega
/-- an empty directory goes -/
theorem kIn_unlD {p h i k0 : Nat} {c nm : Int} (hp : p < 6) (hh : h < 12) (hi : i < 12) (hhi : h ≠ i) (hIn : kIn p c μ) (hw : μ 5 (15 * p + h) = 1) (h0 : μ 0 (15 + 15 * p + h) = 2) (hk : (k0 : Int) < μ 1 (15 + 15 * p + h)) (h3 : μ 3 (8 * (15 + 15 * p + h) + k0) = nm) (h4 : μ 4 (8 * (15 + 15 * p + h) + k0) = i) (hwi : μ 5 (15 * p + i) = 1) (hki : μ 0 (15 + 15 * p + i) = 2) (hem : μ 1 (15 + 15 * p + i) ≤ 0) : kIn p c (mup (mremove p h nm μ) 0 (15 + 15 * p + i) 0) := by
  obtain ⟨m9, P, E⟩ := rem_v hp hh hIn hw h0 hk h3
  have hIr := mI_remove (p := p) (i := h) (m := nm) hp (by omega) hIn.2.1
  have g := ((hIn.1.2.2.1 p hp).1 hIn.2.2.2.2.1).1
  have i0 : i ≠ 0 := by
    have m1 : 1 ≤ men μ (mof μ p h) i := by rw [mof_w (by omega)]; exact men_pos h0 hk h4
    have := mcap_k (mbal_nm g.1 hh hi m1)
    rw [mof_w (by omega)] at this
    omega
  have hci : ¬ μ 0 i = 1 := fun y => by
    have := (g.2.2.2.1 i (by omega) hwi).1 hi
    have := this.2.1 y
    omega
  generalize hN : mremove p h nm μ = N at *
  obtain ⟨n1, n2, n3, n4⟩ := m9
  have r8n : mR8 N := fun c hc => (hIr.1.1 c hc).2.2.2.1
  have ci := n2 (15 + 15 * p + i) (by omega)
  obtain ⟨Q1, Q2⟩ := iPr_fre (μ := N) (i := i) hp hi hIr.2.2.1 r8n i0 (by rw [n1 5 (by omega)]; exact hwi) (by rw [n1 0 (by omega)]; exact hki) (by rw [n1 0 (by omega)]; exact hci) (by rw [ci.1 1 (by omega)]; exact hem) P
  have u : ∀ a, a ≠ 0 → mup N 0 (15 + 15 * p + i) 0 a = N a := fun a ha => mup_other _ _ _ ha
  have cs2 : ∀ c, c ≠ 15 + 15 * p + i → csame N (mup N 0 (15 + 15 * p + i) 0) c c := fun c hc => ⟨fun a ha => by
    by_cases z : a = 0
    · subst z; rw [mup_v, if_neg hc]
    · rw [u a z], fun a k ha hk => by rw [u a (by omega)]⟩
  refine kIn_own0 hp hIn (fun a ha => by rw [u a (by omega), n1 a (by omega)]) (fun s hs hn => csame_trans (n2 s (by omega)) (cs2 s (by omega))) (fun x _ => by rw [u 18 (by omega), n1 18 (by omega)]) ⟨?_, Q1⟩ (mI_up0 hIr) (fun s hs => by rw [u 2 (by omega), n1 2 (by omega)]; exact hIn.2.2.1 s hs)
  intro j hj
  have e1 : sm (fun d => men (mup N 0 (15 + 15 * p + i) 0) (mof (mup N 0 (15 + 15 * p + i) 0) p d) j) 12 = msE μ (mof μ p) j - (if (i : Int) = (j : Int) then 1 else 0) := by
    have := Q2 j
    rw [E j, h4] at this
    exact this
  have b0 : msE μ (mof μ p) j = mcap μ (mof μ p j) j := g.1 j hj
  have oF : mof (mup N 0 (15 + 15 * p + i) 0) p j = mof μ p j := mof_c (by rw [u 5 (by omega), n1 5 (by omega)])
  rw [e1, b0, oF]
  by_cases z : j = i
  · have c1 : mcap μ (15 + 15 * p + i) i = 1 := by unfold mcap; rw [if_neg (by omega), if_pos ⟨hki, i0⟩]
    have c2 : mcap (mup N 0 (15 + 15 * p + i) 0) (15 + 15 * p + i) i = 0 := by unfold mcap; rw [mup_ss, if_neg (by omega), if_neg (by omega)]
    rw [if_pos (by omega), z, mof_w (by omega), c1, c2]; rfl
  · have hne : mof μ p j ≠ 15 + 15 * p + i := by unfold mof; split <;> omega
    rw [if_neg (by omega)]
    unfold mcap
    rw [mup_v, if_neg hne, u 2 (by omega), n1 0 (by omega), n1 2 (by omega)]
    omega
theorem kH_reads {p i : Nat} {c : Int} (hp : p < 6) (h : kH p c μ) (hr : rch μ p i) (hm : (mreads p i μ).1 = true) : kH p (c + 6) (mreads p i μ).2 := by
  obtain ⟨kI, kcl, k26, k27, krc, kkd, k6, klk, kr29, k29, k28⟩ := h
  obtain ⟨q1, q2⟩ := kIn_reads hp kI hr hm
  have vw := mview_reads hm
  have o := mrd_own kI (show i < 15 by have := hr.2.1; omega) hm
  have e : ∀ a, 23 ≤ a → (mreads p i μ).2 a = μ a := o.2.2.1
  have s6 : (mreads p i μ).2 6 (15 * p + (μ 27 0).toNat) = 1 := by
    have sp : mcf μ p i 0 p = false := mcf_f (Or.inl rfl)
    obtain ⟨a1, a2, a3, a4⟩ := mabsk_own (μ := μ) sp
    unfold mreads at hm ⊢
    by_cases z : μ 5 (15 * p + i) = 0
    · rw [if_pos z] at hm ⊢
      by_cases y : (mmeet p i 0 μ).1 = true
      · rw [if_pos y]
        dsimp only
        rw [mup_v, (mmeet_t y).1]
        split
        · rfl
        · rw [(a4 (μ 27 0).toNat (by omega)).2]; exact k6
      · rw [if_neg y] at hm; cases hm
    · rw [if_neg z]
      dsimp only
      rw [mup_v]
      split
      · rfl
      · exact k6
  refine ⟨q1, kCl_reads kcl hm, by rw [e 26 (by omega)]; exact k26, by rw [e 27 (by omega)]; exact k27, ?_, ?_, ?_, ?_, fun y => ?_, by rw [e 29 (by omega)]; exact k29, by rw [e 28 (by omega)]; exact k28⟩
  · rw [e 27 (by omega)]; exact q2 _ krc
  · rw [e 27 (by omega), mview_kd vw (by omega)]; exact kkd
  · rw [e 27 (by omega)]; exact s6
  · rw [e 29 (by omega), e 27 (by omega), e 28 (by omega), mview_look vw (by omega) (kI.2.1.1.1 _ (mof_lt hp (by omega))).2.2.2.1]; exact klk
  · rw [e 29 (by omega)] at y ⊢; exact q2 _ (kr29 y)
end KG
