/-! the model's public members: what they lean on -/
theorem mcopy_hi {f t a : Nat} {μ : mS} (h : 4 < a) : mcopy f t μ a = μ a := by
  funext j; simp only [mcopy, mcopyk]; rw [if_neg (by omega), if_neg (by omega)]
theorem mcopy_t {f t a : Nat} {μ : mS} (h : a ≤ 2) : mcopy f t μ a t = μ a f := by
  simp only [mcopy, mcopyk]; rw [if_pos ⟨h, trivial⟩]
theorem mcf_p {μ : mS} {p i : Nat} {w : Int} : mcf μ p i w p = false := mcf_f (Or.inl rfl)
/-- a process's own rows, where it goes on -/
theorem mmeet_own {p i : Nat} {w : Int} {μ : mS} (h : (mmeet p i w μ).1 = true) : ∀ x, x / 15 = p → (mmeet p i w μ).2 5 x = μ 5 x ∧ (mmeet p i w μ).2 6 x = μ 6 x := by
  intro x hx
  unfold mmeet at h ⊢
  split
  · rename_i h9; rw [if_pos h9] at h; cases h
  · dsimp only
    constructor <;> (simp only [mabsk, hx, mcf_p]; simp)
theorem mwrites_v {p i : Nat} {μ : mS} (hi : i < 15) (h : (mwrites p i μ).1 = true) : ∀ a, a ≤ 2 → (mwrites p i μ).2 a (15 + 15 * p + i) = μ a (mof μ p i) := by
  intro a ha
  unfold mwrites at h ⊢
  by_cases h5 : μ 5 (15 * p + i) = 0
  · rw [if_pos h5] at h ⊢
    by_cases hm : (mmeet p i 1 μ).1 = true
    · rw [if_pos hm] at h ⊢
      dsimp only
      rw [mcopy_t ha, mup_other _ _ _ (by omega), mup_other _ _ _ (by omega), mmeet_k (by rcases (by omega : a = 0 ∨ a = 1 ∨ a = 2) with e | e | e <;> subst e <;> rfl), mof, if_pos h5]
    · rw [if_neg hm] at h
      cases h9 : (mmeet p i 1 μ).1 <;> simp_all
  · rw [if_neg h5, mof, if_neg h5]
theorem mwrites_k {p i a : Nat} {μ : mS} (h : mkeep a = true) (h2 : 4 < a) (h7 : a ≠ 7) : (mwrites p i μ).2 a = μ a := by
  unfold mwrites
  have h5 := (mkeep_n h).2.2.2.1
  split
  · split
    · dsimp only; rw [mcopy_hi h2, mup_other _ _ _ h7, mup_other _ _ _ h5, mmeet_k h]
    · exact mmeet_k h
  · rfl
theorem mI_create {n : Int} {p i : Nat} {k : Int} {μ : mS} (hk : 1 ≤ k ∧ k ≤ 3) (hi : i < 15) (h : mI n μ) : mI n (mcreate p i k μ) := by
  have hc := mI_copy (t := 15 + 15 * p + i) (show i < 105 by omega) h
  have e : ∀ a, a = 4 ∨ a = 11 ∨ a = 14 ∨ a = 17 ∨ a = 16 ∨ a = 18 ∨ a = 19 ∨ a = 20 ∨ a = 21 ∨ a = 22 ∨ a = 23 ∨ a = 24 ∨ a = 25 → mcreate p i k μ a = mcopy i (15 + 15 * p + i) μ a := by
    intro a ha; funext j; simp only [mcreate]; rw [if_neg (by omega), if_neg (by omega), if_neg (by omega), if_neg (by omega)]
  refine ⟨⟨fun s hs => ?_, fun j hj => by rw [e 4 (by omega)]; exact hc.1.2 j hj⟩, mRq_c (e _ (by omega)) (e _ (by omega)) (e _ (by omega)) (e _ (by omega)) hc.2.1, mRx_c (e _ (by omega)) (e _ (by omega)) (e _ (by omega)) (e _ (by omega)) hc.2.2.1, mRc_c (e _ (by omega)) (e _ (by omega)) (e _ (by omega)) (e _ (by omega)) hc.2.2.2⟩
  have h1 := hc.1.1 s hs
  by_cases es : s = 15 + 15 * p + i
  · have e0 : mcreate p i k μ 0 s = k := by simp [mcreate, es]
    have e1 : mcreate p i k μ 1 s = 0 := by simp [mcreate, es]
    rw [e0, e1]; omega
  · have e0 : mcreate p i k μ 0 s = mcopy i (15 + 15 * p + i) μ 0 s := by simp [mcreate, es]
    have e1 : mcreate p i k μ 1 s = mcopy i (15 + 15 * p + i) μ 1 s := by simp [mcreate, es]
    rw [e0, e1]; exact h1
theorem mI_append {n : Int} {p i : Nat} {m v : Int} {μ : mS} (hv : 0 ≤ v ∧ v ≤ 11) (hk : μ 1 (15 + 15 * p + i) < 5) (h : mI n μ) : mI n (mappend p i m v μ) := by
  have e : ∀ a, a = 0 ∨ a = 11 ∨ a = 14 ∨ a = 17 ∨ a = 16 ∨ a = 18 ∨ a = 19 ∨ a = 20 ∨ a = 21 ∨ a = 22 ∨ a = 23 ∨ a = 24 ∨ a = 25 → mappend p i m v μ a = μ a := by
    intro a ha; unfold mappend; rw [mup_other _ _ _ (by omega), mup_other _ _ _ (by omega), mup_other _ _ _ (by omega)]
  refine ⟨⟨fun s hs => ?_, fun j hj => ?_⟩, mRq_c (e _ (by omega)) (e _ (by omega)) (e _ (by omega)) (e _ (by omega)) h.2.1, mRx_c (e _ (by omega)) (e _ (by omega)) (e _ (by omega)) (e _ (by omega)) h.2.2.1, mRc_c (e _ (by omega)) (e _ (by omega)) (e _ (by omega)) (e _ (by omega)) h.2.2.2⟩
  · have h1 := h.1.1 s hs
    rw [e 0 (by omega)]
    have e1 : mappend p i m v μ 1 s = if s = 15 + 15 * p + i then μ 1 (15 + 15 * p + i) + 1 else μ 1 s := by simp [mappend, mup]
    rw [e1]
    split
    · rename_i h9; subst h9; omega
    · exact h1
  · have h1 := h.1.2 j hj
    have e1 : mappend p i m v μ 4 j = if j = 8 * (15 + 15 * p + i) + (μ 1 (15 + 15 * p + i)).toNat then v else μ 4 j := by simp [mappend, mup]
    rw [e1]
    split
    · exact hv
    · exact h1
theorem mspare_r (μ : mS) : ∀ n i : Nat, mspare μ i n = -1 ∨ ((i : Int) ≤ mspare μ i n ∧ mspare μ i n < i + n) := by
  intro n
  induction n with
  | zero => intro i; exact Or.inl rfl
  | succ n ih =>
    intro i
    rw [mspare]
    split
    · exact Or.inr ⟨by omega, by omega⟩
    · rcases ih (i + 1) with h | h
      · exact Or.inl h
      · exact Or.inr ⟨by omega, by omega⟩
theorem mtoh_r {p : Nat} {z ms fl : Int} {μ : mS} (hp : p < 6) (hR : mRs μ) (hms : ms ≠ 0) (hfl : fl ≠ 0) :
    ((mtoh p z ms fl μ).1 = 0 ∧ (0 ≤ (mtoh p z ms fl μ).2 27 0 ∧ (mtoh p z ms fl μ).2 27 0 ≤ 11) ∧ (0 ≤ (mtoh p z ms fl μ).2 28 0 ∧ (mtoh p z ms fl μ).2 28 0 ≤ 15) ∧ (-1 ≤ (mtoh p z ms fl μ).2 29 0 ∧ (mtoh p z ms fl μ).2 29 0 ≤ 11) ∧ mkd (mtoh p z ms fl μ).2 p ((mtoh p z ms fl μ).2 27 0).toNat = 2) ∨ (mtoh p z ms fl μ).1 = 2 ∨ (mtoh p z ms fl μ).1 = fl ∨ (mtoh p z ms fl μ).1 = ms := by
  have w := mwalk_r (z := z) (ms := ms) (fl := fl) (p := p) hp (mplen z 0 4 - 1) 0 (mup μ 29 0 0) (mRs_c rfl rfl rfl hR) (by rw [mup_ss]; omega)
  unfold mtoh
  split
  · exact Or.inr (Or.inr (Or.inl rfl))
  · split
    · have := w.2.2; omega
    · rename_i hw
      have h0 : (mwalk p z ms fl 0 (mplen z 0 4 - 1) (mup μ 29 0 0)).1 = 0 := by omega
      have hf : 0 ≤ (mwalk p z ms fl 0 (mplen z 0 4 - 1) (mup μ 29 0 0)).2 29 0 ∧ (mwalk p z ms fl 0 (mplen z 0 4 - 1) (mup μ 29 0 0)).2 29 0 ≤ 11 := by have := w.2.2; omega
      have h28 := dig_r z (mplen z 0 4 - 1)
      have hR2 := w.1
      clear w
      generalize (mwalk p z ms fl 0 (mplen z 0 4 - 1) (mup μ 29 0 0)).2 = ν at *
      generalize dig z (mplen z 0 4 - 1) = dg at *
      have e27 : mup (mup ν 27 0 (ν 29 0)) 28 0 dg 27 0 = ν 29 0 := rfl
      have e28 : mup (mup ν 27 0 (ν 29 0)) 28 0 dg 28 0 = dg := rfl
      have hR3 : mRs (mup (mup ν 27 0 (ν 29 0)) 28 0 dg) := mRs_c rfl rfl rfl hR2
      unfold mtoh2
      rw [e27, e28]
      generalize mup (mup ν 27 0 (ν 29 0)) 28 0 dg = ν' at *
      have k27 : (mreads p (ν 29 0).toNat ν').2 27 = ν' 27 := mreads_k rfl
      have k28 : (mreads p (ν 29 0).toNat ν').2 28 = ν' 28 := mreads_k rfl
      have hR' : mRs (mreads p (ν 29 0).toNat ν').2 := mRs_c (mreads_k rfl) (mreads_k rfl) (mreads_k rfl) hR3
      have hl := mlook_r (n := dg) (i := (ν 29 0).toNat) hp (by omega) hR'
      split
      · exact Or.inr (Or.inl rfl)
      · split
        · exact Or.inr (Or.inr (Or.inl rfl))
        · rename_i hk
          refine Or.inl ⟨rfl, ?_, ?_, ?_, ?_⟩
          · show 0 ≤ (mreads p (ν 29 0).toNat ν').2 27 0 ∧ (mreads p (ν 29 0).toNat ν').2 27 0 ≤ 11
            rw [k27, e27]; exact hf
          · show 0 ≤ (mreads p (ν 29 0).toNat ν').2 28 0 ∧ (mreads p (ν 29 0).toNat ν').2 28 0 ≤ 15
            rw [k28, e28]; exact h28
          · dsimp only; rw [mup_ss]; exact hl
          · show mkd (mreads p (ν 29 0).toNat ν').2 p ((mreads p (ν 29 0).toNat ν').2 27 0).toNat = 2
            rw [k27, e27]; omega
