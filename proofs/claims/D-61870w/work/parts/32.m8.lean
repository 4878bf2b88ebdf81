/-! the model's members: paths and directories -/
section ML
variable {G : gG} {σ : gS} {hm fr : Nat} {μ : mS} {Q : mQ}
def mof (μ : mS) (p i : Nat) : Nat := if μ 5 (15 * p + i) = 0 then i else 15 + 15 * p + i
theorem tX5_ofn (hG : gGood G) (hb : gBase G ≤ hm) {p i : Int} (hp : 0 ≤ p ∧ p < 6) (hi : 0 ≤ i ∧ i < 15) (hQ : ∀ c : Nat, c = mof μ p.toNat i.toNat → c < 105 → Q (some (c : Int)) μ) : bx 0 (gOKm G σ hm mX5_of fr [vr 0, vi p, vi i] μ Q) := by
  refine tX5_of hG hb hp hi (fun h => ?_) (fun h => ?_)
  · have := hQ (15 + 15 * p.toNat + i.toNat) (by rw [mof, if_neg h]) (by omega)
    rwa [show ((15 + 15 * p.toNat + i.toNat : Nat) : Int) = 15 + 15 * p + i by omega] at this
  · have := hQ i.toNat (by rw [mof, if_pos h]) (by omega)
    rwa [show ((i.toNat : Nat) : Int) = i by omega] at this
theorem dig_r (z : Int) (k : Nat) : 0 ≤ dig z k ∧ dig z k ≤ 15 := by unfold dig; omega
/-- a path: four digits, none over nine, none after a nought -/
def mdok (z : Int) : Nat → Bool
  | 0 => true
  | k + 1 => mdok z k && decide (dig z k ≤ 9 ∧ (dig z k = 0 ∨ k = 0 ∨ ¬ dig z (k - 1) = 0))
def mpath (z : Int) : Bool := decide (0 ≤ z ∧ z < 65536) && mdok z 4
theorem mdok_f {z : Int} : ∀ {n k : Nat}, k ≤ n → mdok z k = false → mdok z n = false := by
  intro n
  induction n with
  | zero => intro k h1 h2; have : k = 0 := by omega
            subst this; exact h2
  | succ n ih =>
    intro k h1 h2
    by_cases e : k = n + 1
    · subst e; exact h2
    · rw [mdok, ih (by omega) h2]; rfl
theorem mpath_f {z : Int} {k : Nat} (hk : k ≤ 4) (h : mdok z k = false) : mpath z = false := by
  rw [mpath, mdok_f hk h, Bool.and_false]
theorem tX5_isPath (hG : gGood G) (hb : gBase G ≤ hm) {z : Int} (hz : inR z) (hQ1 : mpath z = true → Q (some 1) μ) (hQ0 : mpath z = false → Q (some 0) μ) : bx 0 (gOKm G σ hm mX5_isPath fr [vi z] μ Q) := by
  have key : ∀ k : Nat, k ≤ 4 → mdok z k = true → ∀ b : Int, b = (if k = 0 then 0 else if dig z (k - 1) = 0 then 1 else 0) → bx 0 (mW G σ hm mX5_isPath fr Q 4 [(0, vi z), (1, vi b), (2, vi k)] [] μ) := by
    refine dn 4 fun k hk ih hd b hb9 => ?_
    have e0 := ushr16 z hz
    have e2 := dig_r z k
    have e3 : b = 0 ∨ b = 1 := by rw [hb9]; split <;> (try split) <;> omega
    by_cases h4 : k < 4
    · have e1 := ushr15 z k h4
      refine okM_l (M := mX5_isPath) hG hb rfl okX5_isPath (fun pc => Nat.beq pc 4) ?_
      repeat' (first | ((conv => whnf); first | refine And.intro ?_ ?_ | (intro h9; try simp only [oki23, oki24, oki25, oki26, oki27, oki28, oki29, oki30, e1] at h9)) | exact rfl | omega | (simp only [mlen]; omega) | exact Nat.le_of_ble_eq_true rfl | exact Or.inl rfl | exact Or.inr rfl | assumption | (show (_ : Int) ≤ _; grind) | (show (_ : Int) < _; grind) | (simp only [oki23, oki24, oki25, oki26, oki27, oki28, oki29, oki30, e1]; done) | (simp only [mlen, oki23, oki24, oki25, oki26, oki27, oki28, oki29, oki30, e1]; omega))
      all_goals clear e1
      · refine hQ0 (mpath_f (k := k + 1) (by omega) ?_)
        rw [mdok, decide_eq_false (by omega), Bool.and_false]
      · refine mW_d 3 (ih (by omega) ?_ _ ?_)
        · rw [mdok, hd, decide_eq_true (by omega)]; rfl
        · rw [if_neg (by omega), Nat.add_sub_cancel, if_pos (by omega)]
      · refine mW_d 3 (ih (by omega) ?_ _ ?_)
        · rw [mdok, hd, decide_eq_true ?_]
          · rfl
          · by_cases hk0 : k = 0
            · omega
            · rw [if_neg hk0] at hb9
              by_cases h7 : dig z (k - 1) = 0
              · rw [if_pos h7] at hb9; omega
              · exact ⟨by omega, Or.inr (Or.inr h7)⟩
        · rw [if_neg (by omega), Nat.add_sub_cancel, if_neg (by omega)]
      · refine hQ0 (mpath_f (k := k + 1) (by omega) ?_)
        rw [mdok, decide_eq_false ?_, Bool.and_false]
        by_cases hk0 : k = 0
        · subst hk0
          exact absurd hb9 (by assumption)
        · rw [if_neg hk0] at hb9
          by_cases h7 : dig z (k - 1) = 0
          · omega
          · rw [if_neg h7] at hb9; omega
    · have hk4 : k = 4 := by omega
      subst hk4
      refine okM_l (M := mX5_isPath) hG hb rfl okX5_isPath (fun pc => Nat.beq pc 4) ?_
      repeat' (first | ((conv => whnf); first | refine And.intro ?_ ?_ | (intro h9; try simp only [oki23, oki24, oki25, oki26, oki27, oki28, oki29, oki30, e0] at h9)) | exact rfl | omega | (simp only [mlen]; omega) | exact Nat.le_of_ble_eq_true rfl | exact Or.inl rfl | exact Or.inr rfl | assumption | (show (_ : Int) ≤ _; grind) | (show (_ : Int) < _; grind) | (simp only [oki23, oki24, oki25, oki26, oki27, oki28, oki29, oki30, e0]; done) | (simp only [mlen, oki23, oki24, oki25, oki26, oki27, oki28, oki29, oki30, e0]; omega))
      · refine hQ0 ?_
        rw [mpath, decide_eq_false (by omega), Bool.false_and]
      · refine hQ1 ?_
        rw [mpath, hd, decide_eq_true (by omega), Bool.true_and]
  refine okM_e (M := mX5_isPath) hG hb rfl okX5_isPath (fun pc => Nat.beq pc 4) ?_
  repeat' (first | ((conv => whnf); first | refine And.intro ?_ ?_ | intro h9) | exact rfl | omega | (simp only [mlen]; omega) | exact Nat.le_of_ble_eq_true rfl | exact Or.inl rfl | exact Or.inr rfl | assumption | (show (_ : Int) ≤ _; grind) | (show (_ : Int) < _; grind))
  exact key 0 (by omega) rfl 0 rfl
def mplen (z : Int) (k : Nat) : Nat → Nat
  | 0 => k
  | n + 1 => if dig z k = 0 then k else mplen z (k + 1) n
theorem mplen_le (z : Int) : ∀ (n k : Nat), mplen z k n ≤ k + n := by
  intro n
  induction n with
  | zero => intro k; exact Nat.le_refl _
  | succ n ih => intro k; rw [mplen]; have := ih (k + 1); split <;> omega
theorem tX5_length (hG : gGood G) (hb : gBase G ≤ hm) {z : Int} (hz : inR z) (hQ : Q (some (mplen z 0 4 : Nat)) μ) : bx 0 (gOKm G σ hm mX5_length fr [vi z] μ Q) := by
  have key : ∀ k : Nat, k ≤ 4 → Q (some (mplen z k (4 - k) : Nat)) μ → bx 0 (mW G σ hm mX5_length fr Q 2 [(0, vi z), (1, vi k)] [] μ) := by
    refine dn 4 fun k hk ih hQ => ?_
    have e2 := dig_r z k
    by_cases h4 : k < 4
    · have e1 := ushr15 z k h4
      refine okM_l (M := mX5_length) hG hb rfl okX5_length (fun pc => Nat.beq pc 2) ?_
      rw [show 4 - k = (4 - (k + 1)) + 1 by omega, mplen] at hQ
      repeat' (first | ((conv => whnf); first | refine And.intro ?_ ?_ | (intro h9; try simp only [oki23, oki24, oki25, oki26, oki27, oki28, oki29, oki30, e1] at h9)) | exact rfl | omega | (simp only [mlen]; omega) | exact Nat.le_of_ble_eq_true rfl | exact Or.inl rfl | exact Or.inr rfl | assumption | (show (_ : Int) ≤ _; grind) | (show (_ : Int) < _; grind) | (simp only [oki23, oki24, oki25, oki26, oki27, oki28, oki29, oki30, e1]; done) | (simp only [mlen, oki23, oki24, oki25, oki26, oki27, oki28, oki29, oki30, e1]; omega))
      · rw [if_pos (by omega)] at hQ
        exact hQ
      · rw [if_neg (by omega)] at hQ
        exact ih (by omega) hQ
    · have hk4 : k = 4 := by omega
      subst hk4
      refine okM_l (M := mX5_length) hG hb rfl okX5_length (fun pc => Nat.beq pc 2) ?_
      repeat' (first | ((conv => whnf); first | refine And.intro ?_ ?_ | intro h9) | exact rfl | omega | (simp only [mlen]; omega) | exact Nat.le_of_ble_eq_true rfl | exact Or.inl rfl | exact Or.inr rfl | assumption | (show (_ : Int) ≤ _; grind) | (show (_ : Int) < _; grind))
  refine okM_e (M := mX5_length) hG hb rfl okX5_length (fun pc => Nat.beq pc 2) ?_
  repeat' (first | ((conv => whnf); first | refine And.intro ?_ ?_ | intro h9) | exact rfl | omega | (simp only [mlen]; omega) | exact Nat.le_of_ble_eq_true rfl | exact Or.inl rfl | exact Or.inr rfl | assumption | (show (_ : Int) ≤ _; grind) | (show (_ : Int) < _; grind))
  exact key 0 (by omega) hQ
def mfind (μ : mS) (c : Nat) (n : Int) (k : Nat) : Nat → Int
  | 0 => -1
  | m + 1 => if μ 3 (8 * c + k) = n then μ 4 (8 * c + k) else mfind μ c n (k + 1) m
theorem tX5_under (hG : gGood G) (hb : gBase G ≤ hm) {p i n : Int} (hp : 0 ≤ p ∧ p < 6) (hi : 0 ≤ i ∧ i < 15) (hn : inR n) (hm9 : ∀ s, s < 105 → 0 ≤ μ 1 s ∧ μ 1 s ≤ 8) (hQ : Q (some (mfind μ (mof μ p.toNat i.toNat) n 0 (μ 1 (mof μ p.toNat i.toNat)).toNat)) μ) : bx 0 (gOKm G σ hm mX5_under (fr + 1) [vr 0, vi p, vi i, vi n] μ Q) := by
  generalize hc9 : mof μ p.toNat i.toNat = c at hQ
  have hc : c < 105 := by rw [← hc9, mof]; split <;> omega
  have h1 := hm9 c hc
  have key : ∀ k : Nat, k ≤ (μ 1 c).toNat → Q (some (mfind μ c n k ((μ 1 c).toNat - k))) μ → bx 0 (mW G σ hm mX5_under (fr + 1) Q 11 [(0, vr 0), (1, vi p), (2, vi i), (3, vi n), (4, vi c), (5, vi k)] [] μ) := by
    refine dn (μ 1 c).toNat fun k hk ih hQ => ?_
    have e1 : (8 * (c : Int) + k).toNat = 8 * c + k := by omega
    refine okM_l (M := mX5_under) hG hb rfl okX5_under (fun pc => Nat.beq pc 11) ?_
    repeat' (first | ((conv => whnf); first | refine And.intro ?_ ?_ | (intro h9; try simp only [oki23, oki24, oki25, oki26, oki27, oki28, oki29, oki30, e1, Int.toNat_natCast] at h9)) | exact rfl | omega | (simp only [mlen]; omega) | exact Nat.le_of_ble_eq_true rfl | exact Or.inl rfl | exact Or.inr rfl | assumption | (show (_ : Int) ≤ _; grind) | (show (_ : Int) < _; grind) | (simp only [oki23, oki24, oki25, oki26, oki27, oki28, oki29, oki30, e1, Int.toNat_natCast]; done) | (simp only [mlen, oki23, oki24, oki25, oki26, oki27, oki28, oki29, oki30, e1, Int.toNat_natCast]; omega))
    · rw [show (μ 1 c).toNat - k = 0 by omega] at hQ
      exact hQ
    · rw [show (μ 1 c).toNat - k = ((μ 1 c).toNat - (k + 1)) + 1 by omega, mfind, if_neg (by assumption)] at hQ
      exact ih (by omega) hQ
    · rw [show (μ 1 c).toNat - k = ((μ 1 c).toNat - (k + 1)) + 1 by omega, mfind, if_pos (by assumption)] at hQ
      rw [e1]
      exact hQ
  refine okM_e (M := mX5_under) hG hb rfl okX5_under (fun pc => Nat.beq pc 11) ?_
  repeat' (first | refine tX5_ofn hG hb ?_ ?_ ?_ | ((conv => whnf); first | refine And.intro ?_ ?_ | intro h9) | exact rfl | omega | (simp only [mlen]; omega) | exact Nat.le_of_ble_eq_true rfl | exact Or.inl rfl | exact Or.inr rfl | assumption | (show (_ : Int) ≤ _; grind) | (show (_ : Int) < _; grind))
  rename_i x hx
  rw [hc9] at hx
  subst hx
  exact key 0 (by omega) hQ
def mappend (p i : Nat) (n v : Int) (μ : mS) : mS := mup (mup (mup μ 1 (15 + 15 * p + i) (μ 1 (15 + 15 * p + i) + 1)) 3 (8 * (15 + 15 * p + i) + (μ 1 (15 + 15 * p + i)).toNat) n) 4 (8 * (15 + 15 * p + i) + (μ 1 (15 + 15 * p + i)).toNat) v
theorem tX5_append (hG : gGood G) (hb : gBase G ≤ hm) {p i n v : Int} (hp : 0 ≤ p ∧ p < 6) (hi : 0 ≤ i ∧ i < 15) (hn : inR n) (hv : inR v) (hm9 : 0 ≤ μ 1 (15 + 15 * p.toNat + i.toNat) ∧ μ 1 (15 + 15 * p.toNat + i.toNat) < 8) (hQ : Q none (mappend p.toNat i.toNat n v μ)) : bx 0 (gOKm G σ hm mX5_append fr [vr 0, vi p, vi i, vi n, vi v] μ Q) := by
  have e1 : (15 + 15 * p + i).toNat = 15 + 15 * p.toNat + i.toNat := by omega
  have e2 : (8 * (15 + 15 * p + i) + μ 1 (15 + 15 * p.toNat + i.toNat)).toNat = 8 * (15 + 15 * p.toNat + i.toNat) + (μ 1 (15 + 15 * p.toNat + i.toNat)).toNat := by omega
  refine okM (M := mX5_append) hG hb rfl okX5_append ?_
  repeat' (first | ((conv => whnf); first | refine And.intro ?_ ?_ | (intro h9; try simp only [oki23, oki24, oki25, oki26, oki27, oki28, oki29, oki30, e1, e2] at h9)) | exact rfl | omega | (simp only [mlen]; omega) | exact Nat.le_of_ble_eq_true rfl | exact Or.inl rfl | exact Or.inr rfl | assumption | (show (_ : Int) ≤ _; grind) | (show (_ : Int) < _; grind) | (simp only [oki23, oki24, oki25, oki26, oki27, oki28, oki29, oki30, e1, e2]; done) | (simp only [mlen, oki23, oki24, oki25, oki26, oki27, oki28, oki29, oki30, e1, e2]; omega))
  refine mQe hQ rfl ?_
  simp only [mappend, e1, e2]
def mremk (c : Nat) (n : Int) : Nat → mS → Nat × mS
  | 0, μ => (0, μ)
  | k + 1, μ => if (mremk c n k μ).2 3 (8 * c + k) = n then mremk c n k μ else ((mremk c n k μ).1 + 1, mup (mup (mremk c n k μ).2 3 (8 * c + (mremk c n k μ).1) ((mremk c n k μ).2 3 (8 * c + k))) 4 (8 * c + (mremk c n k μ).1) ((mremk c n k μ).2 4 (8 * c + k)))
theorem mremk_le (c : Nat) (n : Int) (μ : mS) : ∀ k, (mremk c n k μ).1 ≤ k ∧ (mremk c n k μ).2 1 = μ 1 := by
  intro k
  induction k with
  | zero => exact ⟨Nat.le_refl _, rfl⟩
  | succ k ih =>
    rw [mremk]
    split
    · exact ⟨by omega, ih.2⟩
    · refine ⟨by dsimp only; omega, ?_⟩
      rw [← ih.2]
      rfl
def mremove (p i : Nat) (n : Int) (μ : mS) : mS := mup (mremk (15 + 15 * p + i) n (μ 1 (15 + 15 * p + i)).toNat μ).2 1 (15 + 15 * p + i) (mremk (15 + 15 * p + i) n (μ 1 (15 + 15 * p + i)).toNat μ).1
theorem tX5_remove (hG : gGood G) (hb : gBase G ≤ hm) {p i n : Int} (hp : 0 ≤ p ∧ p < 6) (hi : 0 ≤ i ∧ i < 15) (hn : inR n) (hm9 : 0 ≤ μ 1 (15 + 15 * p.toNat + i.toNat) ∧ μ 1 (15 + 15 * p.toNat + i.toNat) ≤ 8) (hQ : Q none (mremove p.toNat i.toNat n μ)) : bx 0 (gOKm G σ hm mX5_remove fr [vr 0, vi p, vi i, vi n] μ Q) := by
  unfold mremove at hQ
  have ec : (15 + 15 * p + i) = ((15 + 15 * p.toNat + i.toNat : Nat) : Int) := by omega
  have hc : 15 + 15 * p.toNat + i.toNat < 105 := by omega
  generalize 15 + 15 * p.toNat + i.toNat = c at *
  have key : ∀ k : Nat, k ≤ (μ 1 c).toNat → bx 0 (mW G σ hm mX5_remove fr Q 17 [(0, vr 0), (1, vi p), (2, vi i), (3, vi n), (4, vi c), (5, vi ((mremk c n k μ).1 : Nat)), (6, vi k)] [] (mremk c n k μ).2) := by
    refine dn (μ 1 c).toNat fun k hk ih => ?_
    obtain ⟨h1, h2⟩ := mremk_le c n μ k
    have e1 : (8 * (c : Int) + k).toNat = 8 * c + k := by omega
    have e2 : (8 * (c : Int) + ((mremk c n k μ).1 : Nat)).toNat = 8 * c + (mremk c n k μ).1 := by omega
    rw [mremk] at ih
    refine okM_l (M := mX5_remove) hG hb rfl okX5_remove (fun pc => Nat.beq pc 17) ?_
    repeat' (first | ((conv => whnf); first | refine And.intro ?_ ?_ | (intro h9; try simp only [oki23, oki24, oki25, oki26, oki27, oki28, oki29, oki30, e1, e2, h2, Int.toNat_natCast] at h9)) | exact rfl | omega | (simp only [mlen]; omega) | exact Nat.le_of_ble_eq_true rfl | exact Or.inl rfl | exact Or.inr rfl | assumption | (show (_ : Int) ≤ _; grind) | (show (_ : Int) < _; grind) | (simp only [oki23, oki24, oki25, oki26, oki27, oki28, oki29, oki30, e1, e2, h2, Int.toNat_natCast]; done) | (simp only [mlen, oki23, oki24, oki25, oki26, oki27, oki28, oki29, oki30, e1, e2, h2, Int.toNat_natCast]; omega))
    · refine mQe hQ rfl ?_
      rw [show k = (μ 1 c).toNat by omega]; rfl
    · rw [if_neg (by assumption)] at ih
      refine mWe (ih (by omega)) ?_
      rw [e1, e2]
      rfl
    · rw [if_pos (by assumption)] at ih
      exact ih (by omega)
  refine okM_e (M := mX5_remove) hG hb rfl okX5_remove (fun pc => Nat.beq pc 17) ?_
  rw [← ec] at key
  repeat' (first | ((conv => whnf); first | refine And.intro ?_ ?_ | intro h9) | exact rfl | omega | (simp only [mlen]; omega) | exact Nat.le_of_ble_eq_true rfl | exact Or.inl rfl | exact Or.inr rfl | assumption | (show (_ : Int) ≤ _; grind) | (show (_ : Int) < _; grind))
  exact key 0 (by omega)
end ML
