/-! the model's members: meeting, reading, writing -/
section ML
variable {G : gG} {σ : gS} {hm fr : Nat} {μ : mS} {Q : mQ}
def mold (μ : mS) (p i : Nat) (w : Int) : Bool := (List.range 6).any (fun q => mcf μ p i w q && decide (μ 12 q ≤ μ 12 p))
theorem mold_t {μ : mS} {p i : Nat} {w : Int} {q : Nat} (hq : q < 6) (h : mcf μ p i w q = true) (h2 : μ 12 q ≤ μ 12 p) : mold μ p i w = true := by
  unfold mold
  rw [List.any_eq_true]
  exact ⟨q, List.mem_range.mpr hq, by rw [h, decide_eq_true h2]; rfl⟩
theorem mold_f {μ : mS} {p i : Nat} {w : Int} (h : ∀ q, q < 6 → mcf μ p i w q = true → μ 12 p < μ 12 q) : mold μ p i w = false := by
  rw [Bool.eq_false_iff]
  intro h9
  unfold mold at h9
  rw [List.any_eq_true] at h9
  obtain ⟨q, hq, h8⟩ := h9
  rw [Bool.and_eq_true] at h8
  have := h q (List.mem_range.mp hq) h8.1
  have := of_decide_eq_true h8.2
  omega
def mmeet (p i : Nat) (w : Int) (μ : mS) : Bool × mS := if mold μ p i w = true then (false, mup (mabort p μ) 26 0 2) else (true, mabsk (mcf μ p i w) 6 μ)
theorem mabsk_9 (S : Nat → Bool) (k : Nat) (μ : mS) (j : Nat) (h : k ≤ j) : mabsk S k μ 9 j = μ 9 j := by
  simp only [mabsk]; grind
theorem mabsk_5 (S : Nat → Bool) (k : Nat) (μ : mS) (j a : Nat) (ha : a = 5 ∨ a = 6) (h : k ≤ j / 15) : mabsk S k μ a j = μ a j := by
  simp only [mabsk]; grind
theorem mcf_t {μ : mS} {p i q : Nat} {w : Int} (h1 : q ≠ p) (h2 : μ 9 q = 1) (h3 : μ 5 (15 * q + i) = 1 ∨ (w = 1 ∧ μ 6 (15 * q + i) = 1)) : mcf μ p i w q = true := decide_eq_true ⟨h1, h2, h3⟩
theorem mcf_f {μ : mS} {p i q : Nat} {w : Int} (h : q = p ∨ μ 9 q ≠ 1 ∨ (μ 5 (15 * q + i) ≠ 1 ∧ (w ≠ 1 ∨ μ 6 (15 * q + i) ≠ 1))) : mcf μ p i w q = false := decide_eq_false (by grind)
theorem cnt_b (S : Nat → Bool) : ∀ k : Nat, 0 ≤ cnt S k ∧ cnt S k ≤ k := by
  intro k
  induction k with
  | zero => exact ⟨by simp [cnt], by simp [cnt]⟩
  | succ n ih =>
    have : b2i (S n) = 0 ∨ b2i (S n) = 1 := by cases S n <;> simp [b2i]
    simp only [cnt]; omega
theorem tX5_meet (hG : gGood G) (hb : gBase G ≤ hm) {p i w : Int} (hp : 0 ≤ p ∧ p < 6) (hi : 0 ≤ i ∧ i < 15) (hw : w = 0 ∨ w = 1) (hc : 0 ≤ μ 22 3 ∧ μ 22 3 ≤ 1000000) (hQ1 : (mmeet p.toNat i.toNat w μ).1 = true → Q (some 1) (mmeet p.toNat i.toNat w μ).2) (hQ0 : (mmeet p.toNat i.toNat w μ).1 = false → Q (some 0) (mmeet p.toNat i.toNat w μ).2) : bx 0 (gOKm G σ hm mX5_meet (fr + 2) [vr 0, vi p, vi i, vi w] μ Q) := by
  have key2 : ∀ k : Nat, k ≤ 6 → mold μ p.toNat i.toNat w = false → bx 0 (mW G σ hm mX5_meet (fr + 2) Q 100 [(0, vr 0), (1, vi p), (2, vi i), (3, vi w), (4, vi k)] [] (mabsk (mcf μ p.toNat i.toNat w) k μ)) := by
    refine dn 6 fun k hk ih hf => ?_
    have e1 : (15 * (k : Int) + i).toNat = 15 * k + i.toNat := by omega
    have e2 : (k : Int).toNat = k := rfl
    have e3 := mabsk_9 (mcf μ p.toNat i.toNat w) k μ k (by omega)
    have e4 := mabsk_5 (mcf μ p.toNat i.toNat w) k μ (15 * k + i.toNat) 5 (by omega) (by omega)
    have e5 := mabsk_5 (mcf μ p.toNat i.toNat w) k μ (15 * k + i.toNat) 6 (by omega) (by omega)
    have e6 := cnt_b (mcf μ p.toNat i.toNat w) k
    have e7 : mabsk (mcf μ p.toNat i.toNat w) k μ 22 3 = μ 22 3 + cnt (mcf μ p.toNat i.toNat w) k := by simp only [mabsk]; simp
    refine okM_l (M := mX5_meet) hG hb rfl okX5_meet (fun pc => Nat.beq pc 100) ?_
    repeat' (first | refine tX5_aborted hG hb ?_ ?_ ?_ | ((conv => whnf); first | refine And.intro ?_ ?_ | intro h9) | exact rfl | omega | (simp only [mlen]; omega) | exact Nat.le_of_ble_eq_true rfl | exact Or.inl rfl | exact Or.inr rfl | assumption | (show (_ : Int) ≤ _; grind) | (show (_ : Int) < _; grind))
    · have : k = 6 := by omega
      subst this
      have e8 : mmeet p.toNat i.toNat w μ = (true, mabsk (mcf μ p.toNat i.toNat w) 6 μ) := by unfold mmeet; rw [hf]; rfl
      rw [e8] at hQ1
      exact hQ1 rfl
    all_goals rw [e1] at *
    all_goals clear hQ1 hQ0 hG hb hc
    all_goals first
      | refine mWe (ih (by omega) hf) (mabsk_f (mcf_f ?_)); clear ih; grind
      | refine mWe (ih (by omega) hf) (mabsk_t (mcf_t ?_ ?_ ?_)) <;> clear ih <;> grind
  have key1 : ∀ k : Nat, k ≤ 6 → (∀ q, q < k → mcf μ p.toNat i.toNat w q = true → μ 12 p.toNat < μ 12 q) → bx 0 (mW G σ hm mX5_meet (fr + 2) Q 3 [(0, vr 0), (1, vi p), (2, vi i), (3, vi w), (4, vi k)] [] μ) := by
    refine dn 6 fun k hk ih hf => ?_
    have e1 : (15 * (k : Int) + i).toNat = 15 * k + i.toNat := by omega
    have e2 : (k : Int).toNat = k := rfl
    refine okM_l (M := mX5_meet) hG hb rfl okX5_meet (fun pc => Nat.beq pc 3 || Nat.beq pc 100) ?_
    repeat' (first | refine tX5_aborted hG hb ?_ ?_ ?_ | ((conv => whnf); first | refine And.intro ?_ ?_ | intro h9) | exact rfl | omega | (simp only [mlen]; omega) | exact Nat.le_of_ble_eq_true rfl | exact Or.inl rfl | exact Or.inr rfl | assumption | (show (_ : Int) ≤ _; grind) | (show (_ : Int) < _; grind))
    · exact mWe (key2 0 (by omega) (mold_f fun q hq => hf q (by omega))) (mabsk_0 _ _).symm
    all_goals rw [e1] at *
    all_goals clear hG hb hc key2
    all_goals first
      | have e8 : mmeet p.toNat i.toNat w μ = (false, mup (mabort p.toNat μ) 26 0 2) := by
          clear ih hQ1 hQ0
          unfold mmeet
          rw [if_pos (mold_t (q := k) (by omega) (mcf_t (by omega) (by grind) (by grind)) (by assumption))]
        rw [e8] at hQ0
        exact hQ0 rfl
      | refine ih (by omega) (fun q hq hc => ?_)
        by_cases h8 : q < k
        · exact hf q h8 hc
        · have h7 : q = k := by omega
          subst h7
          clear ih hQ1 hQ0
          simp only [mcf, decide_eq_true_eq] at hc
          grind
  refine okM_e (M := mX5_meet) hG hb rfl okX5_meet (fun pc => Nat.beq pc 3) ?_
  repeat' (first | ((conv => whnf); first | refine And.intro ?_ ?_ | intro h9) | exact rfl | omega | (simp only [mlen]; omega) | exact Nat.le_of_ble_eq_true rfl | exact Or.inl rfl | exact Or.inr rfl | assumption | (show (_ : Int) ≤ _; grind) | (show (_ : Int) < _; grind))
  exact key1 0 (by omega) (fun q hq => by omega)
def mreads (p i : Nat) (μ : mS) : Bool × mS := if μ 5 (15 * p + i) = 0 then (if (mmeet p i 0 μ).1 = true then (true, mup (mmeet p i 0 μ).2 6 (15 * p + i) 1) else (false, (mmeet p i 0 μ).2)) else (true, mup μ 6 (15 * p + i) 1)
theorem tX5_reads (hG : gGood G) (hb : gBase G ≤ hm) {p i : Int} (hp : 0 ≤ p ∧ p < 6) (hi : 0 ≤ i ∧ i < 15) (hc : 0 ≤ μ 22 3 ∧ μ 22 3 ≤ 1000000) (hQ1 : (mreads p.toNat i.toNat μ).1 = true → Q (some 1) (mreads p.toNat i.toNat μ).2) (hQ0 : (mreads p.toNat i.toNat μ).1 = false → Q (some 0) (mreads p.toNat i.toNat μ).2) : bx 0 (gOKm G σ hm mX5_reads (fr + 3) [vr 0, vi p, vi i] μ Q) := by
  have e1 : (15 * p + i).toNat = 15 * p.toNat + i.toNat := by omega
  refine okM (M := mX5_reads) hG hb rfl okX5_reads ?_
  unfold mreads at hQ1 hQ0
  repeat' (first | refine tX5_meet hG hb ?_ ?_ ?_ ?_ ?_ ?_ | ((conv => whnf); first | refine And.intro ?_ ?_ | intro h9) | exact rfl | omega | (simp only [mlen]; omega) | exact Nat.le_of_ble_eq_true rfl | exact Or.inl rfl | exact Or.inr rfl | assumption | (show (_ : Int) ≤ _; grind) | (show (_ : Int) < _; grind))
  all_goals rw [e1] at *
  all_goals grind
def mwrites (p i : Nat) (μ : mS) : Bool × mS := if μ 5 (15 * p + i) = 0 then (if (mmeet p i 1 μ).1 = true then (true, mcopy i (15 + 15 * p + i) (mup (mup (mmeet p i 1 μ).2 5 (15 * p + i) 1) 7 i 1)) else (false, (mmeet p i 1 μ).2)) else (true, μ)
theorem tX5_writes (hG : gGood G) (hb : gBase G ≤ hm) {p i : Int} (hp : 0 ≤ p ∧ p < 6) (hi : 0 ≤ i ∧ i < 15) (hc : 0 ≤ μ 22 3 ∧ μ 22 3 ≤ 1000000) (hQ1 : (mwrites p.toNat i.toNat μ).1 = true → Q (some 1) (mwrites p.toNat i.toNat μ).2) (hQ0 : (mwrites p.toNat i.toNat μ).1 = false → Q (some 0) (mwrites p.toNat i.toNat μ).2) : bx 0 (gOKm G σ hm mX5_writes (fr + 3) [vr 0, vi p, vi i] μ Q) := by
  have e1 : (15 * p + i).toNat = 15 * p.toNat + i.toNat := by omega
  have e2 : (15 + 15 * p + i).toNat = 15 + 15 * p.toNat + i.toNat := by omega
  refine okM (M := mX5_writes) hG hb rfl okX5_writes ?_
  unfold mwrites at hQ1 hQ0
  repeat' (first | refine tX5_meet hG hb ?_ ?_ ?_ ?_ ?_ ?_ | refine tX5_copy hG hb ?_ ?_ ?_ ?_ | ((conv => whnf); first | refine And.intro ?_ ?_ | intro h9) | exact rfl | omega | (simp only [mlen]; omega) | exact Nat.le_of_ble_eq_true rfl | exact Or.inl rfl | exact Or.inr rfl | assumption | (show (_ : Int) ≤ _; grind) | (show (_ : Int) < _; grind))
  all_goals try rw [e2]
  all_goals rw [e1] at *
  all_goals grind
end ML
