/-! the plain law (13): between calls -/
section PL
variable {μ μ' : mS}
/-- between calls: all that is known of the state -/
def kAll (c : Int) (μ : mS) : Prop := kInv0 μ ∧ mI c μ ∧ mL c μ
theorem kAll_k {c : Int} (h : kAll c μ) (hI : mI c μ') (e : ∀ a, a ≤ 6 ∨ a = 8 ∨ a = 9 ∨ a = 10 ∨ a = 11 ∨ a = 12 ∨ a = 14 ∨ a = 17 ∨ a = 18 ∨ a = 20 → μ' a = μ a) (e23 : μ 23 0 ≤ μ' 23 0) : kAll c μ' := by
  obtain ⟨⟨h1, h2⟩, h3, h4⟩ := h
  refine ⟨⟨kInv_c h3.1 h3.2.2.1 h1 (fun a ha => e a (by omega)) (fun q _ _ => by rw [e 12 (by omega)]) e23, ?_⟩, hI, ?_⟩
  · rw [e 9 (by omega), e 11 (by omega)]; exact h2
  · unfold mL; rw [e 2 (by omega)]; exact h4
theorem kAll_le {c c' : Int} (h : kAll c μ) (hc : c ≤ c') : kAll c' μ := ⟨h.1, mI_le hc h.2.1, fun s hs => by have := h.2.2 s hs; omega⟩
theorem kAll_26 {c : Int} {k j : Nat} {v : Int} (hk : 26 ≤ k) (h : kAll c μ) : kAll c (mup μ k j v) := by
  refine kAll_k h (mI_up (by omega) h.2.1) (fun a ha => mup_other _ _ _ (by omega)) ?_
  rw [mup_other _ _ _ (by omega)]; exact Int.le_refl _
theorem kAll_plain {c : Int} {p : Nat} (hB : kB μ) (h : kAll c μ) : kAll (c + 1) (mplain p μ) := by
  obtain ⟨⟨h1, h2⟩, h3, h4⟩ := h
  have e9 : mplain p μ 9 = μ 9 := by
    unfold mplain
    by_cases z : μ 9 p = 0
    · rw [if_pos z]
      funext j
      show (if _ then _ else _) = _
      by_cases w : j = p
      · rw [if_pos ⟨rfl, w⟩, w, z]
      · rw [if_neg (fun q => w q.2), menter_9 z, if_neg w]
    · rw [if_neg z, menter_g z (by omega) (by omega)]
  have e11 : mplain p μ 11 = μ 11 := mplain_k (by omega)
  have e2 : mplain p μ 2 = μ 2 := mplain_k (by omega)
  refine ⟨⟨kInv_plain hB h3.1 h3.2.2.1 h1, by rw [e9, e11]; exact h2⟩, ?_, fun s hs => by rw [e2]; have := h4 s hs; omega⟩
  unfold mplain
  split
  · exact mI_up (by omega) (mI_enter h3)
  · exact mI_enter h3
theorem kAll_refuse2 {c : Int} {p : Nat} (hp : p < 6) (h8 : μ 8 p = 1) (h : kAll c μ) : kAll c (mrefuse2 p μ) := by
  obtain ⟨⟨⟨hC, hI, hPP, hAA, hN, hT⟩, h2⟩, h3, h4⟩ := h
  have e : ∀ a, a < 26 → a ≠ 10 → mrefuse2 p μ a = μ a := fun a h1 h2 => by unfold mrefuse2; rw [mup_other _ _ _ (by omega), mup_other _ _ _ (by omega)]
  have e10 : ∀ q, q ≠ p → mrefuse2 p μ 10 q = μ 10 q := fun q hq => by unfold mrefuse2; rw [mup_other _ _ _ (by omega)]; simp only [mup]; rw [if_neg (by omega)]
  have hI2 : mI c (mrefuse2 p μ) := mI_up (by omega) (mI_up (by omega) h3)
  have r8 : mR8 μ := fun c hc => (h3.1.1 c hc).2.2.2.1
  generalize mrefuse2 p μ = ν at *
  have ec : ∀ c, csame μ ν c c := fun c => csame_e (fun a ha => e a (by omega) (by omega))
  refine ⟨⟨⟨iC_c r8 hC (fun c _ => ec c), iS_c hI (fun c _ => ec c) (e 8 (by omega) (by omega)) (fun x _ => by unfold sol; rw [e 9 (by omega) (by omega), e 18 (by omega) (by omega), e 20 (by omega) (by omega)]), fun q hq => ?_, fun a b ha hb hab ga gb => ?_, fun q hq q8 => ?_, fun q hq gq => ?_⟩, by rw [e 9 (by omega) (by omega), e 11 (by omega) (by omega)]; exact h2⟩, hI2, fun s hs => by rw [e 2 (by omega) (by omega)]; exact h4 s hs⟩
  · rw [e 9 (by omega) (by omega), e 12 (by omega) (by omega), e 23 (by omega) (by omega)]
    refine ⟨fun y => ⟨iP_c hq ⟨fun c _ => ec c, fun i hi => ⟨Or.inr (ec _), by rw [e 5 (by omega) (by omega)], by rw [e 6 (by omega) (by omega)]⟩, fun d hd => ⟨by rw [e 18 (by omega) (by omega)], by rw [e 20 (by omega) (by omega)]⟩⟩ r8 h3.2.2.1 ((hPP q hq).1 y).1, ((hPP q hq).1 y).2⟩, fun y => ?_⟩
    have := (hPP q hq).2 y
    unfold iN kZ ids at this ⊢
    rw [e 5 (by omega) (by omega), e 6 (by omega) (by omega), e 17 (by omega) (by omega), e 11 (by omega) (by omega), e 18 (by omega) (by omega), e 0 (by omega) (by omega)]
    exact this
  · rw [e 9 (by omega) (by omega)] at ga gb
    have := hAA a b ha hb hab ga gb
    unfold iA at this ⊢
    rw [e 5 (by omega) (by omega), e 6 (by omega) (by omega), e 12 (by omega) (by omega)]
    exact this
  · rw [e 8 (by omega) (by omega)] at q8
    have := hN q hq q8
    rw [e 11 (by omega) (by omega), e 14 (by omega) (by omega), e 18 (by omega) (by omega), e10 q (by intro y; subst y; omega)]
    exact this
  · rw [e 9 (by omega) (by omega)] at gq
    rw [e 8 (by omega) (by omega)]
    exact hT q hq gq
theorem kAll_swp {c : Int} {ζ : mS} (hS : kInvS ζ) (hI : mI c ζ) (hL : mL c ζ) (h11 : ∀ q, q < 6 → ζ 9 q = 1 → 0 < ζ 11 q) (h9 : ∀ q, q < 6 → 0 < ζ 11 q → ζ 9 q = 1) (hB : kB ζ) : kAll c (msweep ζ) ∧ kSw ζ :=
  ⟨⟨⟨kInv_sweep hS hI.2.2.1 hI.1 h11 h9 hB, by rw [msweep_a (by omega), msweep_a (by omega)]; exact h11⟩, mI_sweep hI, by unfold mL; rw [msweep_a (by omega)]; exact hL⟩, kSw_of hS hI h11⟩
theorem kB_sweep {μ : mS} (h : kB μ) : kB (msweep μ) := kB_c h (fun a ha => msweep_a (by omega))
/-- a call of one in the middle of its transaction -/
theorem kAll_keep {p : Nat} {c : Int} (h : kIn p c μ) (hd : 0 < μ 11 p) : kAll c (msweep μ) ∧ kSw μ := by
  obtain ⟨h1, h2, h3, h4, h5, h6, h7, -⟩ := h
  refine kAll_swp (kInvS_of h1) h2 h3 (fun q hq g => ?_) h7 h4
  by_cases z : q = p
  · subst z; exact hd
  · exact h6 q hq z g
theorem mabort_2 {p : Nat} (a j : Nat) : mabort p μ a j = if (a = 5 ∨ a = 6) ∧ 15 * p ≤ j ∧ j < 15 * p + 15 then 0 else if (a = 9 ∨ a = 11 ∨ a = 17) ∧ j = p then 0 else if a = 22 ∧ j = 3 then μ 22 3 + 1 else if a = 18 ∧ 4 * p ≤ j ∧ j < 4 * p + 4 then μ 20 j else if a = 19 ∧ 4 * p ≤ j ∧ j < 4 * p + 4 then μ 21 j else μ a j := rfl
theorem kAll_abort {p : Nat} {c : Int} (h : kIn p c μ) : kAll (c + 1) (msweep (mabort p μ)) ∧ kSw (mabort p μ) := by
  obtain ⟨h1, h2, h3, h4, h5, h6, h7, -⟩ := h
  have v9 : ∀ q, mabort p μ 9 q = if q = p then 0 else μ 9 q := fun q => by simp only [mabort, mdrop, mabortk]; grind
  have v11 : ∀ q, mabort p μ 11 q = if q = p then 0 else μ 11 q := fun q => by simp only [mabort, mdrop, mabortk]; grind
  refine kAll_swp (kInvS_of (kInv_abort h5 h2.1 h2.2.2.1 h1)) (mI_abort h2) (fun s hs => by rw [mabort_v (by omega)]; have := h3 s hs; omega) (fun q hq g => ?_) (fun q hq g => ?_) (fun j => ?_)
  · rw [v9] at g
    rw [v11]
    by_cases z : q = p
    · rw [if_pos z] at g; omega
    · rw [if_neg z] at g ⊢; exact h6 q hq z g
  · rw [v11] at g
    rw [v9]
    by_cases z : q = p
    · rw [if_pos z] at g; omega
    · rw [if_neg z] at g ⊢; exact h7 q hq g
  · have := h4 j
    rw [mabort_2, mabort_2, mabort_2, mabort_2, mabort_2]
    grind
theorem kAll_fin {p : Nat} {c : Int} (hp : p < 6) (h : kIn p c μ) : kAll (c + 33) (msweep (mfinish p μ).2) ∧ kSw (mfinish p μ).2 := by
  have hd : 0 ≤ mdirty μ p 12 ∧ mdirty μ p 12 ≤ 12 := cnt_b _ 12
  unfold mfinish
  by_cases z1 : 0 < mdirty μ p 12 ∧ μ 24 0 < mdirty μ p 12 + 2
  · rw [if_pos z1]
    have := kAll_abort h
    exact ⟨kAll_le this.1 (by omega), this.2⟩
  · rw [if_neg z1]
    obtain ⟨h1, h2, h3, h4, h5, h6, h7, -⟩ := h
    have e : ∀ a, a ≠ 22 → a ≠ 25 → mfst μ (mdirty μ p 12) a = μ a := fun a h1 h2 => mfst_o h1 h2
    have k1 : kInv (mfst μ (mdirty μ p 12)) := kInv_c h2.1 h2.2.2.1 h1 (fun a ha => e a (by omega) (by omega)) (fun q _ _ => by rw [e 12 (by omega) (by omega)]) (by rw [e 23 (by omega) (by omega)]; exact Int.le_refl _)
    have k2 := mI_fst (d := mdirty μ p 12) (by omega) h2
    have k3 : mL c (mfst μ (mdirty μ p 12)) := by unfold mL; rw [e 2 (by omega) (by omega)]; exact h3
    have k4 : kB (mfst μ (mdirty μ p 12)) := kB_c h4 (fun a ha => e a (by omega) (by omega))
    have k5 : mfst μ (mdirty μ p 12) 9 p = 1 := by rw [e 9 (by omega) (by omega)]; exact h5
    have e9 := e 9 (by omega) (by omega)
    have e11 := e 11 (by omega) (by omega)
    generalize mfst μ (mdirty μ p 12) = ξ at *
    have r8 : mR8 ξ := fun c hc => (k2.1.1 c hc).2.2.2.1
    have pI := mI_put hp k2
    have pL : mL c (mput p ξ) := mL_d k3 (fun s hs => by
      rw [mput_v (by omega)]
      by_cases y : s < 15 ∧ ξ 5 (15 * p + s) = 1
      · rw [if_pos y]; exact ⟨_, by omega, rfl⟩
      · rw [if_neg y]; exact ⟨s, hs, rfl⟩)
    have pC : iC (mput p ξ) := iC_put hp k4 r8 k1.1 ((k1.2.2.1 p hp).1 k5).1 (fun d hd => mput_s k4 hd)
    have pB : kB (mput p ξ) := kB_c k4 (fun a ha => mputk_5 (by omega))
    by_cases z2 : mcrs μ (mdirty μ p 12) = true
    · rw [if_pos z2]
      -- a crash
      have key : ∀ ζ : mS, mI (c + 31) ζ → mL c ζ → iC ζ → kB ζ → kAll (c + 33) (msweep (mcrash ζ)) ∧ kSw (mcrash ζ) := by
        intro ζ i1 i2 i3 i4
        have z9 : ∀ a q, a = 9 ∨ a = 11 → q < 6 → mcrash ζ a q = 0 := fun a q ha hq => by
          rw [mcrash_v, if_neg (by omega), if_neg (by omega), if_neg (by omega), if_neg (by omega), if_pos (by omega)]
        refine kAll_swp (kInvS_crash (fun c hc => (i1.1.1 c hc).2.2.2.1) i3) (mI_le (by omega) (mI_crash i1)) (fun s hs => ?_) (fun q hq g => ?_) (fun q hq g => ?_) (fun j => ?_)
        · have := i2 s hs
          have e2 : mcrash ζ 2 s = ζ 2 s := by rw [mcrash_v, if_neg (by omega), if_neg (by omega), if_neg (by omega), if_neg (by omega), if_neg (by omega), if_neg (by omega)]
          rw [e2]; omega
        · rw [z9 9 q (by omega) hq] at g; omega
        · rw [z9 11 q (by omega) hq] at g; omega
        · have := i4 j
          rw [mcrash_v, mcrash_v, mcrash_v, mcrash_v, mcrash_v]
          grind
      by_cases z3 : mdirty μ p 12 < μ 25 0
      · rw [if_pos z3]; exact key _ pI pL pC pB
      · rw [if_neg z3]; exact key _ k2 k3 k1.1 k4
    · rw [if_neg z2]
      have w9 : ∀ a j, a = 9 ∨ a = 11 → mend p (mput p ξ) a j = if j = p then 0 else ξ a j := fun a j ha => by
        unfold mend mdrop
        have sk : ∀ k ζ, msendk p k ζ a = ζ a := fun k ζ => msendk_k (by omega) (by omega) k
        by_cases z : j = p
        · rw [if_neg (by omega), if_pos (by omega), if_pos z]
        · rw [if_neg (by omega), if_neg (by omega), if_neg z, sk, mup_other _ _ _ (by omega)]
          show mputk p 15 ξ a j = _
          rw [mputk_5 (by omega)]
      have w2 : mend p (mput p ξ) 2 = mput p ξ 2 := by
        funext j
        unfold mend mdrop
        rw [if_neg (by omega), if_neg (by omega), msendk_k (by omega) (by omega), mup_other _ _ _ (by omega)]
      show kAll (c + 33) (msweep (mend p (mput p ξ))) ∧ kSw (mend p (mput p ξ))
      refine kAll_swp (kInvS_commit hp k5 k4 k2.1 k2.2.2.1 (kInvS_of k1)) (mI_le (by omega) (mI_end pI)) (fun s hs => by rw [w2]; have := pL s hs; omega) (fun q hq g => ?_) (fun q hq g => ?_) (fun j => ?_)
      · rw [w9 9 q (by omega), e9] at g
        rw [w9 11 q (by omega), e11]
        by_cases z : q = p
        · rw [if_pos z] at g; omega
        · rw [if_neg z] at g ⊢; exact h6 q hq z g
      · rw [w9 11 q (by omega), e11] at g
        rw [w9 9 q (by omega), e9]
        by_cases z : q = p
        · rw [if_pos z] at g; omega
        · rw [if_neg z] at g ⊢; exact h7 q hq g
      · have := pB j
        have sk : ∀ a, a ≠ 13 → a ≠ 14 → ∀ k ζ, msendk p k ζ a = ζ a := fun a h1 h2 k ζ => msendk_k h1 h2 k
        unfold mend mdrop
        rw [sk 5 (by omega) (by omega), sk 6 (by omega) (by omega), sk 8 (by omega) (by omega), sk 9 (by omega) (by omega), sk 10 (by omega) (by omega), mup_other _ _ _ (by omega), mup_other _ _ _ (by omega), mup_other _ _ _ (by omega), mup_other _ _ _ (by omega), mup_other _ _ _ (by omega)]
        grind
end PL
