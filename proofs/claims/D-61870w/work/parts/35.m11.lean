/-! ranges, and what keeps them -/
def mRx (μ : mS) : Prop := ∀ x, x < 24 → (μ 18 x = -1 ∨ (0 ≤ μ 18 x ∧ μ 18 x ≤ 11) ∨ (28 ≤ μ 18 x ∧ μ 18 x ≤ 30)) ∧ (μ 20 x = -1 ∨ (0 ≤ μ 20 x ∧ μ 20 x ≤ 11) ∨ (28 ≤ μ 20 x ∧ μ 20 x ≤ 30)) ∧ (0 ≤ μ 19 x ∧ μ 19 x ≤ 8) ∧ (0 ≤ μ 21 x ∧ μ 21 x ≤ 8)
def mRc (n : Int) (μ : mS) : Prop := (∀ j, j < 6 → 0 ≤ μ 22 j ∧ μ 22 j ≤ n) ∧ (0 ≤ μ 23 0 ∧ μ 23 0 ≤ n) ∧ (2 ≤ μ 24 0 ∧ μ 24 0 ≤ 14) ∧ (-1 ≤ μ 25 0 ∧ μ 25 0 ≤ 30)
def mI (n : Int) (μ : mS) : Prop := mRs μ ∧ mRq μ ∧ mRx μ ∧ mRc n μ
theorem mRq_z {μ μ' : mS} (h0 : ∀ q, μ' 11 q = μ 11 q ∨ μ' 11 q = 0) (h1 : ∀ q, μ' 14 q = μ 14 q ∨ μ' 14 q = 0) (h2 : ∀ q, μ' 17 q = μ 17 q ∨ μ' 17 q = 0) (h4 : μ' 16 = μ 16) (h : mRq μ) : mRq μ' := by
  refine ⟨fun q hq => ?_, by rw [h4]; exact h.2⟩
  have := h.1 q hq
  have a := h0 q
  have b := h1 q
  have c := h2 q
  omega
theorem mRx_z {μ μ' : mS} (h0 : ∀ x, (μ' 18 x = μ 18 x ∨ μ' 18 x = μ 20 x) ∧ (μ' 19 x = μ 19 x ∨ μ' 19 x = μ 21 x) ∧ (μ' 20 x = μ 20 x ∨ μ' 20 x = μ 18 x) ∧ (μ' 21 x = μ 21 x ∨ μ' 21 x = μ 19 x)) (h : mRx μ) : mRx μ' := by
  intro x hx
  have := h x hx
  obtain ⟨a, b, c, d⟩ := h0 x
  rcases a with a | a <;> rcases b with b | b <;> rcases c with c | c <;> rcases d with d | d <;> rw [a, b, c, d] <;> omega
theorem mRx_c {μ μ' : mS} (h18 : μ' 18 = μ 18) (h19 : μ' 19 = μ 19) (h20 : μ' 20 = μ 20) (h21 : μ' 21 = μ 21) (h : mRx μ) : mRx μ' := by
  unfold mRx at h ⊢; rw [h18, h19, h20, h21]; exact h
theorem mRc_c {n : Int} {μ μ' : mS} (h22 : μ' 22 = μ 22) (h23 : μ' 23 = μ 23) (h24 : μ' 24 = μ 24) (h25 : μ' 25 = μ 25) (h : mRc n μ) : mRc n μ' := by
  unfold mRc at h ⊢; rw [h22, h23, h24, h25]; exact h
theorem mRc_le {n m : Int} {μ : mS} (hn : n ≤ m) (h : mRc n μ) : mRc m μ := by
  obtain ⟨a, b, c⟩ := h
  exact ⟨fun j hj => by have := a j hj; omega, by omega, c⟩
theorem mI_le {n m : Int} {μ : mS} (hn : n ≤ m) (h : mI n μ) : mI m μ := ⟨h.1, h.2.1, h.2.2.1, mRc_le hn h.2.2.2⟩
theorem mI_c {n : Int} {μ μ' : mS} (e : ∀ a, a = 0 ∨ a = 1 ∨ a = 4 ∨ a = 11 ∨ a = 14 ∨ a = 17 ∨ a = 16 ∨ a = 18 ∨ a = 19 ∨ a = 20 ∨ a = 21 ∨ a = 22 ∨ a = 23 ∨ a = 24 ∨ a = 25 → μ' a = μ a) (h : mI n μ) : mI n μ' :=
  ⟨mRs_c (e _ (by omega)) (e _ (by omega)) (e _ (by omega)) h.1, mRq_c (e _ (by omega)) (e _ (by omega)) (e _ (by omega)) (e _ (by omega)) h.2.1, mRx_c (e _ (by omega)) (e _ (by omega)) (e _ (by omega)) (e _ (by omega)) h.2.2.1, mRc_c (e _ (by omega)) (e _ (by omega)) (e _ (by omega)) (e _ (by omega)) h.2.2.2⟩
theorem mI_up {n : Int} {μ : mS} {k j : Nat} {v : Int} (hk : k = 2 ∨ k = 3 ∨ k = 5 ∨ k = 6 ∨ k = 7 ∨ k = 8 ∨ k = 9 ∨ k = 10 ∨ k = 12 ∨ k = 13 ∨ k = 15 ∨ 26 ≤ k) (h : mI n μ) : mI n (mup μ k j v) := mI_c (fun a ha => mup_other _ _ _ (by omega)) h
theorem mI_abort {n : Int} {p : Nat} {μ : mS} (h : mI n μ) : mI (n + 1) (mabort p μ) := by
  refine ⟨mRs_c (mabort_k rfl) (mabort_k rfl) (mabort_k rfl) h.1, mRq_z (fun q => ?_) (fun q => ?_) (fun q => ?_) (mabort_k rfl) h.2.1, mRx_z (fun x => ?_) h.2.2.1, ?_⟩
  · simp only [mabort, mdrop, mabortk]; grind
  · simp only [mabort, mdrop, mabortk]; grind
  · simp only [mabort, mdrop, mabortk]; grind
  · simp only [mabort, mdrop, mabortk]; grind
  · obtain ⟨a, b, c⟩ := h.2.2.2
    refine ⟨fun j hj => ?_, ?_, ?_⟩
    · have := a j hj
      have := a 3 (by omega)
      simp only [mabort, mdrop, mabortk]; grind
    · rw [mabort_k rfl]; omega
    · rw [mabort_k rfl, mabort_k rfl]; exact c
theorem mI_absk {n : Int} {S : Nat → Bool} {μ : mS} (h : mI n μ) : mI (n + 6) (mabsk S 6 μ) := by
  refine ⟨mRs_c (mabsk_k rfl) (mabsk_k rfl) (mabsk_k rfl) h.1, mRq_z (fun q => ?_) (fun q => ?_) (fun q => ?_) (mabsk_k rfl) h.2.1, mRx_z (fun x => ?_) h.2.2.1, ?_⟩
  · simp only [mabsk]; grind
  · simp only [mabsk]; grind
  · simp only [mabsk]; grind
  · simp only [mabsk]; grind
  · obtain ⟨a, b, c⟩ := h.2.2.2
    refine ⟨fun j hj => ?_, ?_, ?_⟩
    · have := a j hj
      have := a 3 (by omega)
      have := cnt_b S 6
      simp only [mabsk]; grind
    · rw [mabsk_k rfl]; omega
    · rw [mabsk_k rfl, mabsk_k rfl]; exact c
theorem mI_meet {n : Int} {p i : Nat} {w : Int} {μ : mS} (h : mI n μ) : mI (n + 6) (mmeet p i w μ).2 := by
  unfold mmeet
  split
  · exact mI_up (by omega) (mI_le (by omega) (mI_abort h))
  · exact mI_absk h
theorem mI_reads {n : Int} {p i : Nat} {μ : mS} (h : mI n μ) : mI (n + 6) (mreads p i μ).2 := by
  unfold mreads
  split
  · split
    · exact mI_up (by omega) (mI_meet h)
    · exact mI_meet h
  · exact mI_up (by omega) (mI_le (by omega) h)
theorem mI_copy {n : Int} {f t : Nat} {μ : mS} (hf : f < 105) (h : mI n μ) : mI n (mcopy f t μ) := by
  have e : ∀ a, 4 < a → mcopy f t μ a = μ a := fun a ha => by funext j; simp only [mcopy, mcopyk]; grind
  refine ⟨⟨fun s hs => ?_, fun j hj => ?_⟩, mRq_c (e _ (by omega)) (e _ (by omega)) (e _ (by omega)) (e _ (by omega)) h.2.1, mRx_c (e _ (by omega)) (e _ (by omega)) (e _ (by omega)) (e _ (by omega)) h.2.2.1, mRc_c (e _ (by omega)) (e _ (by omega)) (e _ (by omega)) (e _ (by omega)) h.2.2.2⟩
  · have h1 := h.1.1 s hs
    have h2 := h.1.1 f hf
    by_cases es : s = t
    · have e0 : ∀ a, a ≤ 2 → mcopy f t μ a s = μ a f := fun a ha => by simp only [mcopy, mcopyk]; rw [if_pos ⟨ha, es⟩]
      rw [e0 0 (by omega), e0 1 (by omega)]; exact h2
    · have e0 : ∀ a, a ≤ 2 → mcopy f t μ a s = μ a s := fun a ha => by simp only [mcopy, mcopyk]; rw [if_neg (by omega), if_neg (by omega)]
      rw [e0 0 (by omega), e0 1 (by omega)]; exact h1
  · simp only [mcopy, mcopyk]
    rw [if_neg (by omega)]
    split
    · exact h.1.2 _ (by omega)
    · exact h.1.2 j hj
theorem mI_writes {n : Int} {p i : Nat} {μ : mS} (hi : i < 15) (h : mI n μ) : mI (n + 6) (mwrites p i μ).2 := by
  unfold mwrites
  split
  · split
    · exact mI_copy (by omega) (mI_up (by omega) (mI_up (by omega) (mI_meet h)))
    · exact mI_meet h
  · exact mI_le (by omega) h
theorem mI_enter {n : Int} {p : Nat} {μ : mS} (h : mI n μ) : mI (n + 1) (menter p μ) := by
  have e : ∀ a, a = 0 ∨ a = 1 ∨ a = 4 ∨ a = 11 ∨ a = 14 ∨ a = 17 ∨ a = 16 ∨ a = 18 ∨ a = 19 ∨ a = 22 ∨ a = 24 ∨ a = 25 → menter p μ a = μ a := by
    intro a ha; funext j; simp only [menter, menterk]; grind (splits := 20)
  refine ⟨mRs_c (e _ (by omega)) (e _ (by omega)) (e _ (by omega)) h.1, mRq_c (e _ (by omega)) (e _ (by omega)) (e _ (by omega)) (e _ (by omega)) h.2.1, mRx_z (fun x => ?_) h.2.2.1, ?_⟩
  · rw [e 18 (by omega), e 19 (by omega)]
    refine ⟨Or.inl rfl, Or.inl rfl, ?_, ?_⟩ <;> (simp only [menter, menterk]; grind)
  · obtain ⟨a, b, c⟩ := h.2.2.2
    refine ⟨fun j hj => ?_, ?_, ?_⟩
    · rw [e 22 (by omega)]; have := a j hj; omega
    · simp only [menter, menterk]; grind
    · rw [e 24 (by omega), e 25 (by omega)]; exact c
theorem mI_walk {p : Nat} {z ms fl : Int} : ∀ (m k : Nat) (n : Int) (μ : mS), mI n μ → mI (n + 6 * m) (mwalk p z ms fl k m μ).2 := by
  intro m
  induction m with
  | zero => intro k n μ h; exact mI_le (by omega) h
  | succ m ih =>
    intro k n μ h
    have hr := mI_reads (p := p) (i := (μ 29 0).toNat) h
    rw [mwalk]
    split
    · exact mI_le (by omega) hr
    · split
      · exact mI_le (by omega) hr
      · split
        · exact mI_le (by omega) (mI_up (by omega) hr)
        · exact mI_le (by omega) (ih (k + 1) (n + 6) _ (mI_up (by omega) hr))
theorem mI_toh {p : Nat} {z ms fl : Int} {n : Int} {μ : mS} (h : mI n μ) : mI (n + 30) (mtoh p z ms fl μ).2 := by
  have hl := mplen_le z 4 0
  have hw := mI_walk (p := p) (z := z) (ms := ms) (fl := fl) (mplen z 0 4 - 1) 0 n (mup μ 29 0 0) (mI_up (by omega) h)
  unfold mtoh
  split
  · exact mI_le (by omega) h
  · split
    · exact mI_le (by omega) hw
    · unfold mtoh2
      have hr := mI_reads (p := p) (i := (mup (mup (mwalk p z ms fl 0 (mplen z 0 4 - 1) (mup μ 29 0 0)).2 27 0 ((mwalk p z ms fl 0 (mplen z 0 4 - 1) (mup μ 29 0 0)).2 29 0)) 28 0 (dig z (mplen z 0 4 - 1)) 27 0).toNat) (mI_up (k := 28) (j := 0) (v := dig z (mplen z 0 4 - 1)) (by omega) (mI_up (k := 27) (j := 0) (v := (mwalk p z ms fl 0 (mplen z 0 4 - 1) (mup μ 29 0 0)).2 29 0) (by omega) hw))
      split
      · exact mI_le (by omega) hr
      · split
        · exact mI_le (by omega) hr
        · exact mI_le (by omega) (mI_up (by omega) hr)
