/-! the plain law: rename -/
section KG
variable {μ ν : mS}
/-- a call that fails at once -/
theorem mfail_beg {p : Nat} {c k : Int} (hp : p < 6) (hB : kB μ) (h : kAll c μ) : mfail p k (menter p μ) = mup (mplain p μ) 26 0 k := by
  have hA := kAll_plain (p := p) hB h
  have e0 : (if menter p μ 30 0 = 0 then mfailk p 15 (menter p μ) else mdrop p (menter p μ)) = mplain p μ := by
    rw [menter_30]
    by_cases z : μ 9 p = 0
    · rw [if_pos z, if_neg (by omega)]
      have iN := (h.1.1.2.2.1 p hp).2 (by omega)
      obtain ⟨⟨z5, z17⟩, z11, -⟩ := iN
      unfold mplain
      rw [if_pos z]
      have k5 : menter p μ 5 = μ 5 := menter_k (by omega)
      have k6 : menter p μ 6 = μ 6 := menter_k (by omega)
      have k11 : menter p μ 11 = μ 11 := menter_k (by omega)
      have k17 : menter p μ 17 = μ 17 := menter_k (by omega)
      funext a j
      show (if (a = 5 ∨ a = 6) ∧ 15 * p ≤ j ∧ j < 15 * p + 15 then 0 else if (a = 9 ∨ a = 11 ∨ a = 17) ∧ j = p then 0 else menter p μ a j) = if a = 9 ∧ j = p then 0 else menter p μ a j
      by_cases y : (a = 5 ∨ a = 6) ∧ 15 * p ≤ j ∧ j < 15 * p + 15
      · rw [if_pos y, if_neg (by omega)]
        have := z5 (j - 15 * p) (by omega)
        rw [show 15 * p + (j - 15 * p) = j by omega] at this
        rcases y.1 with e | e
        · rw [e, k5]; exact this.1.symm
        · rw [e, k6]; exact this.2.symm
      · rw [if_neg y]
        by_cases y2 : (a = 9 ∨ a = 11 ∨ a = 17) ∧ j = p
        · rw [if_pos y2]
          obtain ⟨e, ej⟩ := y2
          subst ej
          rcases e with e | e | e
          · rw [if_pos ⟨e, rfl⟩]
          · rw [if_neg (by omega), e, k11]; exact z11.symm
          · rw [if_neg (by omega), e, k17]; exact z17.symm
        · rw [if_neg y2, if_neg (fun q => y2 ⟨Or.inl q.1, q.2⟩)]
    · rw [if_neg z, if_pos rfl]
      unfold mplain
      rw [if_neg z]
      funext a j
      show (if a = 5 ∧ 15 * p ≤ j ∧ j < 15 * p + 15 ∧ menter p μ 7 (j - 15 * p) = 1 then 0 else menter p μ a j) = menter p μ a j
      rw [if_neg]
      rintro ⟨-, y1, y2, y3⟩
      rw [menter_7 (by omega)] at y3
      omega
  unfold mfail
  rw [menter_26, if_pos rfl, if_pos rfl, e0]
  have h2 := kAll_26 (k := 26) (j := 0) (v := k) (by omega) hA
  exact msweep_id h2.1.1.2.1 h2.1.2
/-- a removal, and another item's copy -/
theorem rem_dw {p f h k0 : Nat} {nm : Int} (hf : f < 15) (hh : h < 15) (hhf : h ≠ f) (h8 : μ 1 (15 + 15 * p + f) ≤ 8) (hk : (k0 : Int) < μ 1 (15 + 15 * p + f)) (h3 : μ 3 (8 * (15 + 15 * p + f) + k0) = nm) (hd : ndis μ (15 + 15 * p + f)) (h0 : μ 0 (15 + 15 * p + f) = 2) : mdw p h (mremove p f nm μ) = mremove p f nm (mdw p h μ) := by
  by_cases z : μ 5 (15 * p + h) = 0
  · have e5 : mremove p f nm μ 5 = μ 5 := mremove_k (by omega) (by omega) (by omega)
    have d1 : mdw p h μ = cpw p h μ := if_pos z
    have d2 : mdw p h (mremove p f nm μ) = cpw p h (mremove p f nm μ) := if_pos (by rw [e5]; exact z)
    rw [d1, d2]
    have cp : ∀ (ξ : mS) a x, cpw p h ξ a x = if a ≤ 2 ∧ x = 15 + 15 * p + h then ξ a h else if (a = 3 ∨ a = 4) ∧ 8 * (15 + 15 * p + h) ≤ x ∧ x < 8 * (15 + 15 * p + h) + 8 then ξ a (8 * h + (x - 8 * (15 + 15 * p + h))) else if a = 7 ∧ x = h then 1 else if a = 5 ∧ x = 15 * p + h then 1 else ξ a x := fun ξ a x => by
      simp only [cpw, mcopy, mcopyk, mup]
      by_cases y1 : a ≤ 2 ∧ x = 15 + 15 * p + h
      · rw [if_pos y1, if_pos y1, if_neg (by omega), if_neg (by omega)]
      · rw [if_neg y1, if_neg y1]
        by_cases y2 : (a = 3 ∨ a = 4) ∧ 8 * (15 + 15 * p + h) ≤ x ∧ x < 8 * (15 + 15 * p + h) + 8
        · rw [if_pos y2, if_pos y2, if_neg (by omega), if_neg (by omega)]
        · rw [if_neg y2, if_neg y2]
    have cs := (cpw_v (μ := μ) (p := p) (i := h)).2.2.2.1 (15 + 15 * p + f) (by omega)
    have s0 := cs.1 0 (by omega)
    have s1 := cs.1 1 (by omega)
    have s3 : ∀ k, k < 8 → cpw p h μ 3 (8 * (15 + 15 * p + f) + k) = μ 3 (8 * (15 + 15 * p + f) + k) := fun k hk => cs.2 3 k (by omega) hk
    have hd2 : ndis (cpw p h μ) (15 + 15 * p + f) := by
      intro y k k' y1 y2 y3
      rw [s1] at y1 y2
      rw [s3 k (by omega), s3 k' (by omega)] at y3
      exact hd h0 k k' y1 y2 y3
    rw [mrem_e (μ := μ) hk h3 hd h0, mrem_e (μ := cpw p h μ) (k0 := k0) (by rw [s1]; exact hk) (by rw [s3 k0 (by omega)]; exact h3) hd2 (by rw [s0]; exact h0), s1]
    generalize hv : μ 1 (15 + 15 * p + f) = v at *
    have te : ∀ (ξ : mS) a x, mup (mrmf (15 + 15 * p + f) k0 v.toNat ξ) 1 (15 + 15 * p + f) (v - 1) a x = if a = 1 ∧ x = 15 + 15 * p + f then v - 1 else if (a = 3 ∨ a = 4) ∧ 8 * (15 + 15 * p + f) + k0 ≤ x ∧ x + 1 < 8 * (15 + 15 * p + f) + v.toNat then ξ a (x + 1) else ξ a x := fun ξ a x => rfl
    funext a x
    rw [cp, te, te, te, te, cp, cp]
    by_cases y1 : a ≤ 2 ∧ x = 15 + 15 * p + h
    · rw [if_pos y1, if_neg (by omega), if_neg (by omega), if_neg (by omega), if_neg (by omega), if_pos y1]
    · rw [if_neg y1]
      by_cases y2 : (a = 3 ∨ a = 4) ∧ 8 * (15 + 15 * p + h) ≤ x ∧ x < 8 * (15 + 15 * p + h) + 8
      · rw [if_pos y2, if_neg (by omega), if_neg (by omega), if_neg (by omega), if_neg (by omega), if_neg y1, if_pos y2]
      · rw [if_neg y2]
        by_cases y3 : a = 1 ∧ x = 15 + 15 * p + f
        · rw [if_neg (by omega), if_neg (by omega), if_pos y3, if_pos y3]
        · rw [if_neg y3, if_neg y3]
          by_cases y4 : (a = 3 ∨ a = 4) ∧ 8 * (15 + 15 * p + f) + k0 ≤ x ∧ x + 1 < 8 * (15 + 15 * p + f) + v.toNat
          · rw [if_neg (by omega), if_neg (by omega), if_pos y4, if_pos y4, if_neg (by omega), if_neg (by omega), if_neg (by omega), if_neg (by omega)]
          · rw [if_neg y4, if_neg y4, if_neg y1, if_neg y2]
  · have e5 : mremove p f nm μ 5 = μ 5 := mremove_k (by omega) (by omega) (by omega)
    have d1 : mdw p h μ = μ := if_neg z
    have d2 : mdw p h (mremove p f nm μ) = mremove p f nm μ := if_neg (by rw [e5]; exact z)
    rw [d1, d2]
/-- an entry moves -/
theorem kIn_ren {p f h i k0 : Nat} {c old nm : Int} (hp : p < 6) (hf : f < 12) (hh : h < 12) (hi : i < 12) (hIn : kIn p c μ) (hwf : μ 5 (15 * p + f) = 1) (hf0 : μ 0 (15 + 15 * p + f) = 2) (hw : μ 5 (15 * p + h) = 1) (h0 : μ 0 (15 + 15 * p + h) = 2) (hk : (k0 : Int) < μ 1 (15 + 15 * p + f)) (h3 : μ 3 (8 * (15 + 15 * p + f) + k0) = old) (h4 : μ 4 (8 * (15 + 15 * p + f) + k0) = i) (hrm : h = f ∨ μ 1 (15 + 15 * p + h) < 5) (hnm : ∀ j : Nat, (j : Int) < μ 1 (15 + 15 * p + h) → ¬ μ 3 (8 * (15 + 15 * p + h) + j) = nm) (hmg : mgr μ p i) : mremove p f old μ 1 (15 + 15 * p + h) < 5 ∧ kIn p c (mappend p h nm i (mremove p f old μ)) := by
  obtain ⟨m9, P, E⟩ := rem_v hp hf hIn hwf hf0 hk h3
  have hIr := mI_remove (p := p) (i := f) (m := old) hp (by omega) hIn.2.1
  have g := ((hIn.1.2.2.1 p hp).1 hIn.2.2.2.2.1).1
  have rf := hIn.2.1.1.1 (15 + 15 * p + f) (by omega)
  have rs := hIn.2.1.1.1
  generalize hN : mremove p f old μ = N at *
  obtain ⟨n1, n2, n3, n4⟩ := m9
  have r8n : mR8 N := fun c hc => (hIr.1.1 c hc).2.2.2.1
  have rm : N 1 (15 + 15 * p + h) < 5 := by
    by_cases z : h = f
    · subst z; rw [n3]; have := rf.2.2.2.2.1 hf0; omega
    · rw [(n2 (15 + 15 * p + h) (by omega)).1 1 (by omega)]; omega
  have nmN : ∀ k : Nat, (k : Int) < N 1 (15 + 15 * p + h) → ¬ N 3 (8 * (15 + 15 * p + h) + k) = nm := by
    intro k hk9
    by_cases z : h = f
    · subst z
      rw [n3] at hk9
      rw [n4 3 k (by omega) hk9]
      split
      · exact hnm k (by omega)
      · exact hnm (k + 1) (by omega)
    · have cs := n2 (15 + 15 * p + h) (by omega)
      rw [cs.1 1 (by omega)] at hk9
      rw [cs.2 3 k (by omega) (by omega)]
      exact hnm k hk9
  have mgN : mgr N p i := by
    have hm : ∀ d, d < 12 → men N d i = men μ d i := fun d hd => men_c (n2 d (by omega)) (rs d (by omega)).2.2.2.1
    unfold mgr at hmg ⊢
    rw [n1 20 (by omega), n1 0 (by omega), n1 5 (by omega), n1 6 (by omega)]
    rcases hmg with y | y | y | ⟨d, y1, y2, y3⟩
    · exact Or.inl y
    · exact Or.inr (Or.inl y)
    · exact Or.inr (Or.inr (Or.inl y))
    · exact Or.inr (Or.inr (Or.inr ⟨d, y1, y2, by rw [hm d y1]; exact y3⟩))
  have N0 : N 0 (15 + 15 * p + h) = 2 := by rw [n1 0 (by omega)]; exact h0
  have N5 : N 5 (15 * p + h) = 1 := by rw [n1 5 (by omega)]; exact hw
  have s8 : 0 ≤ N 1 (15 + 15 * p + h) ∧ N 1 (15 + 15 * p + h) < 8 := ⟨(hIr.1.1 (15 + 15 * p + h) (by omega)).2.2.1, by omega⟩
  have P2 := iPr_app (n := nm) (i := i) hp hh hi (by omega) N0 s8 r8n nmN mgN P
  have ao := fun a (ha : ¬ (a = 1 ∨ a = 3 ∨ a = 4)) => mapp_o (μ := N) (p := p) (h := h) (n := nm) (v := i) ha
  have ac := fun c (hc : c ≠ 15 + 15 * p + h) => mapp_c (μ := N) (p := p) (h := h) (n := nm) (v := i) hc s8
  have hIa := mI_append (p := p) (i := h) (m := nm) (v := i) (by omega) rm hIr
  refine ⟨rm, kIn_own0 hp hIn (fun a ha => by rw [ao a (by omega), n1 a (by omega)]) (fun s hs hn => csame_trans (n2 s (by omega)) (ac s (by omega))) (fun x _ => by rw [ao 18 (by omega), n1 18 (by omega)]) ⟨?_, P2⟩ hIa (fun s hs => by rw [ao 2 (by omega), n1 2 (by omega)]; exact hIn.2.2.1 s hs)⟩
  intro j hj
  have e1 : sm (fun d => men (mappend p h nm i N) (mof (mappend p h nm i N) p d) j) 12 = msE μ (mof μ p) j - (if (i : Int) = (j : Int) then 1 else 0) + (if (i : Int) = (j : Int) then 1 else 0) := by
    have := msE_app (n := nm) (v := (i : Int)) (j := j) hp hh (by omega) N0 s8 r8n
    rw [E j, h4] at this
    exact this
  have b0 : msE μ (mof μ p) j = mcap μ (mof μ p j) j := g.1 j hj
  have oF : mof (mappend p h nm i N) p j = mof μ p j := mof_c (by rw [ao 5 (by omega), n1 5 (by omega)])
  rw [e1, b0, oF]
  unfold mcap
  rw [ao 0 (by omega), ao 2 (by omega), n1 0 (by omega), n1 2 (by omega)]
  omega
/-- what a call needs stays when an entry goes -/
theorem kNeed_rem {p f : Nat} {c nm : Int} (hp : p < 6) (hf : f < 15) (hI : mI c μ) (h : kNeed p μ) : kNeed p (mremove p f nm μ) := by
  have n1 : ∀ a, ¬ (a = 1 ∨ a = 3 ∨ a = 4) → mremove p f nm μ a = μ a := fun a ha => mremove_k (by omega) (by omega) (by omega)
  have hIr := mI_remove (p := p) (i := f) (m := nm) hp hf hI
  generalize hN : mremove p f nm μ = N at *
  obtain ⟨h1, h2, h3, ⟨h4, h5, h6⟩, h7, h8⟩ := h
  have ab : ∀ a, ¬ (a = 1 ∨ a = 3 ∨ a = 4) → mabort p N a = mabort p μ a := fun a ha => by
    funext j
    rw [mabort_2, mabort_2, n1 22 (by omega), n1 20 (by omega), n1 21 (by omega), n1 a ha]
  have mc : ∀ i w, mcf N p i w = mcf μ p i w := fun i w => by
    funext q; unfold mcf; rw [n1 9 (by omega), n1 5 (by omega), n1 6 (by omega)]
  have hIb := mI_abort (p := p) hIr
  refine ⟨by rw [n1 22 (by omega)]; exact h1, by rw [n1 9 (by omega)]; exact h2, by rw [n1 11 (by omega)]; exact h3, ⟨by rw [n1 9 (by omega), n1 11 (by omega)]; exact h4, by rw [n1 11 (by omega), n1 12 (by omega)]; exact h5, ?_⟩, fun i w hi hw w5 q hq => by rw [n1 5 (by omega)] at w5; rw [mc]; exact h7 i w hi hw w5 q hq, hIr.1⟩
  obtain ⟨s1, s2, s3, s4, -, -⟩ := h6
  refine ⟨by rw [ab 9 (by omega), ab 11 (by omega)]; exact s1, by rw [ab 9 (by omega), ab 5 (by omega), ab 0 (by omega)]; exact s2, by rw [ab 0 (by omega)]; exact s3, by rw [ab 0 (by omega)]; exact s4, hIb.1, hIb.2.2.1⟩
end KG
