/-! the plain law (10): inside a call -/
/-- what a process can reach -/
def rch (μ : mS) (p i : Nat) : Prop := mgr μ p i ∧ i < 12 ∧ ¬ mkd μ p i = 0
/-- inside a call of p -/
def kIn (p : Nat) (c : Int) (μ : mS) : Prop := kInv μ ∧ mI c μ ∧ mL c μ ∧ kB μ ∧ μ 9 p = 1 ∧ (∀ q, q < 6 → q ≠ p → μ 9 q = 1 → 0 < μ 11 q) ∧ (∀ q, q < 6 → 0 < μ 11 q → μ 9 q = 1) ∧ (μ 11 p = 0 → ∀ q, q < 6 → q ≠ p → μ 9 q = 1 → μ 12 q < μ 12 p)
def kJn (p : Nat) (c : Int) (μ : mS) : Prop := kIn p c μ ∧ (0 ≤ μ 29 0 → rch μ p (μ 29 0).toNat)
theorem kIn_le {p : Nat} {c c' : Int} {μ : mS} (h : kIn p c μ) (hc : c ≤ c') : kIn p c' μ := by
  obtain ⟨h1, h2, h3, h4⟩ := h
  exact ⟨h1, mI_le hc h2, fun s hs => by have := h3 s hs; omega, h4⟩
theorem kSw_of {μ : mS} {c : Int} (h : kInvS μ) (hI : mI c μ) (h11 : ∀ q, q < 6 → μ 9 q = 1 → 0 < μ 11 q) : kSw μ := by
  obtain ⟨hC, hP, -⟩ := h
  refine ⟨h11, fun q i hq hi g w h1 => ?_, hC.2.1, hC.2.2.1, hI.1, hI.2.2.1⟩
  have := ((((hP q hq).1 g).1.2.2.2.1 i (by omega) w).1 hi).2.1 h1
  omega
theorem mabort_v {μ : mS} {p a : Nat} (ha : ¬ (a = 5 ∨ a = 6 ∨ a = 9 ∨ a = 11 ∨ a = 17 ∨ a = 18 ∨ a = 19 ∨ a = 22)) : mabort p μ a = μ a := by
  funext j
  simp only [mabort, mdrop, mabortk]
  rw [if_neg (by omega), if_neg (by omega), if_neg (by omega), if_neg (by omega), if_neg (by omega)]
theorem kInv_abort {μ : mS} {p : Nat} (g : μ 9 p = 1) (hr : mRs μ) (hx : mRx μ) (h : kInv μ) : kInv (mabort p μ) := by
  refine kInv_abs (S := fun q => decide (q = p)) hr hx h (fun q hq y => by have := of_decide_eq_true y; subst this; exact g) (fun a ha => mabort_v (by omega)) (fun q hq y => ?_) (fun q hq y => ?_)
  · have := of_decide_eq_true y
    subst this
    refine ⟨⟨fun s hs => ⟨?_, ?_⟩, ?_⟩, ?_, ?_, fun d hd => ?_⟩
    · simp only [mabort, mdrop]; grind
    · simp only [mabort, mdrop]; grind
    · simp [mabort, mdrop]
    · simp [mabort, mdrop]
    · simp [mabort, mdrop]
    · simp only [mabort, mdrop, mabortk]; grind
  · have n := of_decide_eq_false y
    refine ⟨fun i hi => ⟨?_, ?_⟩, ?_, ?_, ?_, ?_, fun d hd => ?_⟩ <;> simp only [mabort, mdrop, mabortk] <;> rw [if_neg (by omega), if_neg (by omega), if_neg (by omega), if_neg (by omega), if_neg (by omega)]
theorem kInv_absk {μ : mS} {S : Nat → Bool} (hS : ∀ q, q < 6 → S q = true → μ 9 q = 1) (hr : mRs μ) (hx : mRx μ) (h : kInv μ) : kInv (mabsk S 6 μ) := by
  refine kInv_abs (S := S) hr hx h hS (fun a ha => mabsk_k (by rcases ha with ha | ha | ha | ha | ha | ha <;> first | (have : a = 0 ∨ a = 1 ∨ a = 2 ∨ a = 3 ∨ a = 4 := by omega); (rcases this with rfl | rfl | rfl | rfl | rfl <;> rfl) | (subst ha; rfl))) (fun q hq y => ?_) (fun q hq y => ?_)
  · have e15 : ∀ s, s < 15 → (15 * q + s) / 15 = q := fun s hs => by omega
    have e4 : ∀ d, d < 4 → (4 * q + d) / 4 = q := fun d hd => by omega
    refine ⟨⟨fun s hs => ⟨?_, ?_⟩, ?_⟩, ?_, ?_, fun d hd => ?_⟩
    · simp [mabsk, e15 s hs, y, hq]
    · simp [mabsk, e15 s hs, y, hq]
    · simp [mabsk, y, hq]
    · simp [mabsk, y, hq]
    · simp [mabsk, y, hq]
    · simp [mabsk, e4 d hd, y, hq]
  · have e15 : ∀ s, s < 15 → (15 * q + s) / 15 = q := fun s hs => by omega
    have e4 : ∀ d, d < 4 → (4 * q + d) / 4 = q := fun d hd => by omega
    refine ⟨fun i hi => ⟨?_, ?_⟩, ?_, ?_, ?_, ?_, fun d hd => ?_⟩
    · simp [mabsk, e15 i hi, y]
    · simp [mabsk, e15 i hi, y]
    · simp [mabsk, y]
    · simp [mabsk, y]
    · simp [mabsk, y]
    · simp [mabsk, y]
    · simp [mabsk, e4 d hd, y]
theorem kNeed_of {p : Nat} {c : Int} {μ : mS} (hp : p < 6) (h : kIn p c μ) (hc : c ≤ 800000) : kNeed p μ := by
  obtain ⟨h1, h2, h3, h4, h5, h6, h7, h8⟩ := h
  have hab := kInv_abort h5 h2.1 h2.2.2.1 h1
  have v9 : ∀ q, mabort p μ 9 q = if q = p then 0 else μ 9 q := fun q => by simp only [mabort, mdrop, mabortk]; grind
  have v11 : ∀ q, mabort p μ 11 q = if q = p then 0 else μ 11 q := fun q => by simp only [mabort, mdrop, mabortk]; grind
  have q1 := h2.2.1.1 p hp
  have rc := h2.2.2.2.1 3 (by omega)
  refine ⟨⟨rc.1, by omega⟩, h5, q1.1, ⟨h6, fun y q hq z => ?_, kSw_of (c := c + 1) (kInvS_of hab) (mI_abort h2) (fun q hq g => ?_)⟩, fun i w hi hw w5 q hq => ?_, h2.1⟩
  · by_cases e : q = p
    · subst e; omega
    · exact h8 y q hq e (h7 q hq z)
  · rw [v9] at g
    rw [v11]
    by_cases e : q = p
    · rw [if_pos e] at g; omega
    · rw [if_neg e] at g ⊢; exact h6 q hq e g
  · by_cases e : q = p
    · exact mcf_f (Or.inl e)
    · by_cases g : μ 9 q = 1
      · have := (h1.2.2.2.1 p q hp hq (fun y => e y.symm) h5 g).1 i hi w5
        exact mcf_f (Or.inr (Or.inr ⟨this.1, Or.inr this.2⟩))
      · exact mcf_f (Or.inr (Or.inl g))
