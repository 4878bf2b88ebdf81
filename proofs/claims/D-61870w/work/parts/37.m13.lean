/-! the model's public members: questions -/
section ML
variable {G : gG} {σ : gS} {hm fr : Nat} {μ : mS} {Q : mQ}
def mcell (i k : Int) (μ : mS) : Int × mS :=
  if ¬ (0 ≤ i ∧ i ≤ 14) then (0, mup μ 26 0 1)
  else if ¬ μ 0 i.toNat = 0 ∧ 0 ≤ k ∧ k ≤ μ 1 i.toNat - 1 then (μ 3 (8 * i.toNat + k.toNat), mup μ 26 0 0)
  else (0, mup μ 26 0 2)
theorem tX5_cell (hG : gGood G) (hb : gBase G ≤ hm) {i k : Int} (hi : inR i) (hk : inR k) (hI : bx 0 (mI 700000 μ)) (hQ : Q (some (mcell i k μ).1) (mcell i k μ).2) : bx 0 (gOKm G σ hm mX5_cell (fr + 1) [vr 0, vi i, vi k] μ Q) := by
  have hs : 0 ≤ i → i ≤ 14 → _ := fun h1 h2 => (bx_out hI).1.1 i.toNat (by omega)
  have e1 : 0 ≤ i → 0 ≤ k → (8 * i + k).toNat = 8 * i.toNat + k.toNat := fun _ _ => by omega
  unfold mcell at hQ
  refine okM (M := mX5_cell) hG hb rfl okX5_cell ?_
  repeat' (first | refine tX5_is hG hb ?_ ?_ ?_ ?_ ?_ | refine tX5_refuse hG hb ?_ ?_ | ((conv => whnf); first | refine And.intro ?_ ?_ | (intro h9; try simp [oki23, oki24, oki25, oki26, oki27, oki28, oki29, oki30, mup] at h9)) | exact rfl | omega | (simp only [mlen]; omega) | exact Nat.le_of_ble_eq_true rfl | exact Or.inl rfl | exact Or.inr rfl | assumption | (show (_ : Int) ≤ _; grind) | (show (_ : Int) < _; grind) | (simp [oki23, oki24, oki25, oki26, oki27, oki28, oki29, oki30, mup]; done) | (simp [mlen, oki23, oki24, oki25, oki26, oki27, oki28, oki29, oki30, mup]; omega))
  all_goals try rw [e1 (by assumption) (by assumption)] at *
  all_goals try simp only [mup_mm]
  all_goals (conv => whnf)
  all_goals try simp only [mup_mm]
  all_goals (repeat' split at hQ) <;> first | exact hQ | (exfalso; omega) | (exfalso; simp_all; done)
def mcnt3 (μ : mS) (i : Nat) (a : Nat) : Nat → Int := cnt (fun q => decide (μ 9 q = 1 ∧ μ a (15 * q + i) = 1))
def mitem (i w : Int) (μ : mS) : Int × mS :=
  if ¬ (0 ≤ i ∧ i ≤ 14) ∨ ¬ (0 ≤ w ∧ w ≤ 4) then (0, mup μ 26 0 1)
  else if w = 0 then (μ 0 i.toNat, mup μ 26 0 0)
  else if w = 1 then ((if μ 0 i.toNat = 0 then 0 else μ 1 i.toNat), mup μ 26 0 0)
  else if w = 2 then ((if μ 0 i.toNat = 1 then μ 2 i.toNat else 0), mup μ 26 0 0)
  else (mcnt3 μ i.toNat (if w = 3 then 6 else 5) 6, mup μ 26 0 0)
theorem tX5_item (hG : gGood G) (hb : gBase G ≤ hm) {i w : Int} (hi : inR i) (hw : inR w) (hQ : Q (some (mitem i w μ).1) (mitem i w μ).2) : bx 0 (gOKm G σ hm mX5_item (fr + 1) [vr 0, vi i, vi w] μ Q) := by
  unfold mitem at hQ
  have key : ∀ k : Nat, k ≤ 6 → (0 ≤ i ∧ i ≤ 14) → (w = 3 ∨ w = 4) → ∀ c : Int, c = mcnt3 μ i.toNat (if w = 3 then 6 else 5) k → bx 0 (mW G σ hm mX5_item (fr + 1) Q 97 [(0, vr 0), (1, vi i), (2, vi w), (3, vi c), (4, vi k)] [] (mup μ 26 0 0)) := by
    refine dn _ fun k hk ih h1 h2 c hc => ?_
    have e1 : (15 * (k : Int) + i).toNat = 15 * k + i.toNat := by omega
    refine okM_l (M := mX5_item) hG hb rfl okX5_item (fun pc => Nat.beq pc 97) ?_
    repeat' (first | ((conv => whnf); first | refine And.intro ?_ ?_ | (intro h9; try simp [oki23, oki24, oki25, oki26, oki27, oki28, oki29, oki30, mup, e1] at h9)) | exact rfl | omega | (simp only [mlen]; omega) | exact Nat.le_of_ble_eq_true rfl | exact Or.inl rfl | exact Or.inr rfl | assumption | (show (_ : Int) ≤ _; grind) | (show (_ : Int) < _; grind) | (simp [oki23, oki24, oki25, oki26, oki27, oki28, oki29, oki30, mup, e1]; done) | (simp [mlen, oki23, oki24, oki25, oki26, oki27, oki28, oki29, oki30, mup, e1]; omega))
    · rw [show k = 6 by omega] at hc
      subst hc
      rw [if_neg (by omega), if_neg (by omega), if_neg (by omega), if_neg (by omega)] at hQ
      exact hQ
    all_goals refine ih (by omega) h1 h2 _ ?_
    all_goals simp only [hc, mcnt3, cnt]
    · rw [decide_eq_false (by omega)]; simp [b2i]
    · rw [if_neg (by omega)]
      rw [decide_eq_false (by omega)]; simp [b2i]
    · rw [if_neg (by omega)]
      rw [decide_eq_true (by omega)]; simp [b2i]
    · rw [if_pos (by omega)]
      rw [decide_eq_false (by omega)]; simp [b2i]
    · rw [if_pos (by omega)]
      rw [decide_eq_true (by omega)]; simp [b2i]
  refine okM_e (M := mX5_item) hG hb rfl okX5_item (fun pc => Nat.beq pc 97) ?_
  repeat' (first | refine tX5_is hG hb ?_ ?_ ?_ ?_ ?_ | refine tX5_refuse hG hb ?_ ?_ | ((conv => whnf); first | refine And.intro ?_ ?_ | (intro h9; try simp [oki23, oki24, oki25, oki26, oki27, oki28, oki29, oki30, mup] at h9)) | exact rfl | omega | (simp only [mlen]; omega) | exact Nat.le_of_ble_eq_true rfl | exact Or.inl rfl | exact Or.inr rfl | assumption | (show (_ : Int) ≤ _; grind) | (show (_ : Int) < _; grind) | (simp [oki23, oki24, oki25, oki26, oki27, oki28, oki29, oki30, mup]; done) | (simp [mlen, oki23, oki24, oki25, oki26, oki27, oki28, oki29, oki30, mup]; omega))
  all_goals first
    | exact key 0 (by omega) (by omega) (by omega) 0 rfl
    | (conv => whnf
       try simp only [mup_mm]
       (repeat' split at hQ) <;> first | exact hQ | (exfalso; omega) | (exfalso; simp_all; done))
def mlk (p w : Int) (μ : mS) : Int × mS :=
  if ¬ (0 ≤ p ∧ p ≤ 5) ∨ ¬ (0 ≤ w ∧ w ≤ 11) then (0, mup μ 26 0 1)
  else if w = 0 then ((if μ 8 p.toNat = 0 then 0 else 1), mup μ 26 0 0)
  else if w = 1 then (μ 11 p.toNat, mup μ 26 0 0)
  else if w = 2 then ((if μ 10 p.toNat = 0 then 0 else 1), mup μ 26 0 0)
  else if w = 3 then (μ 14 p.toNat, mup μ 26 0 0)
  else if w ≤ 7 then ((if μ 18 (4 * p + w - 4).toNat < 0 then -1 else μ 18 (4 * p + w - 4).toNat % 16), mup μ 26 0 0)
  else ((if μ 18 (4 * p + w - 8).toNat < 0 then -1 else μ 19 (4 * p + w - 8).toNat), mup μ 26 0 0)
theorem tX5_look (hG : gGood G) (hb : gBase G ≤ hm) {p w : Int} (hp : inR p) (hw : inR w) (hQ : Q (some (mlk p w μ).1) (mlk p w μ).2) : bx 0 (gOKm G σ hm mX5_look (fr + 1) [vr 0, vi p, vi w] μ Q) := by
  unfold mlk at hQ
  have e1 := and15 (μ 18 (4 * p + w - 4).toNat)
  refine okM (M := mX5_look) hG hb rfl okX5_look ?_
  have m : ∀ a j, a ≠ 26 → mup μ 26 0 0 a j = μ a j := fun a j h => if_neg (fun q => h q.1)
  have m8 := fun j => m 8 j (by omega)
  have m10 := fun j => m 10 j (by omega)
  have m11 := fun j => m 11 j (by omega)
  have m14 := fun j => m 14 j (by omega)
  have m18 := fun j => m 18 j (by omega)
  have m19 := fun j => m 19 j (by omega)
  clear m
  repeat' (first | refine tX5_is hG hb ?_ ?_ ?_ ?_ ?_ | refine tX5_refuse hG hb ?_ ?_ | ((conv => whnf); first | refine And.intro ?_ ?_ | (intro h9; try simp only [oki23, oki24, oki25, oki26, oki27, oki28, oki29, oki30, not_true_eq_false, not_false_eq_true, m8, m10, m11, m14, m18, m19, e1] at h9)) | exact rfl | omega | (simp only [mlen]; omega) | exact Nat.le_of_ble_eq_true rfl | exact Or.inl rfl | exact Or.inr rfl | assumption | (show (_ : Int) ≤ _; grind) | (show (_ : Int) < _; grind) | (simp only [oki23, oki24, oki25, oki26, oki27, oki28, oki29, oki30, not_true_eq_false, not_false_eq_true, m8, m10, m11, m14, m18, m19, e1]; done) | (simp only [mlen, oki23, oki24, oki25, oki26, oki27, oki28, oki29, oki30, not_true_eq_false, not_false_eq_true, m8, m10, m11, m14, m18, m19, e1]; omega))
  all_goals (conv => whnf)
  all_goals try simp only [mup_mm, m8, m10, m11, m14, m18, m19, e1]
  all_goals (repeat' split at hQ) <;> first | exact hQ | (exfalso; omega) | (exfalso; simp_all; done)
def mcount (w : Int) (μ : mS) : Int × mS :=
  if ¬ (0 ≤ w ∧ w ≤ 5) then (0, mup μ 26 0 1)
  else if w = 0 then (mprocs μ 6, mup μ 26 0 0)
  else if w = 1 then (cnt (fun q => decide (0 < μ 11 q)) 6, mup μ 26 0 0)
  else (μ 22 w.toNat, mup μ 26 0 0)
theorem tX5_count (hG : gGood G) (hb : gBase G ≤ hm) {w : Int} (hw : inR w) (hQ : Q (some (mcount w μ).1) (mcount w μ).2) : bx 0 (gOKm G σ hm mX5_count (fr + 1) [vr 0, vi w] μ Q) := by
  unfold mcount at hQ
  have key : ∀ k : Nat, k ≤ 6 → (0 ≤ w ∧ w ≤ 5) → ∀ c : Int, c = cnt (fun q => decide (0 < μ 11 q)) k → bx 0 (mW G σ hm mX5_count (fr + 1) Q 24 [(0, vr 0), (1, vi w), (2, vi c), (3, vi k)] [] (mup μ 26 0 0)) := by
    refine dn _ fun k hk ih h1 c hc => ?_
    refine okM_l (M := mX5_count) hG hb rfl okX5_count (fun pc => Nat.beq pc 24) ?_
    repeat' (first | refine tX5_processes hG hb ?_ | ((conv => whnf); first | refine And.intro ?_ ?_ | (intro h9; try simp [oki23, oki24, oki25, oki26, oki27, oki28, oki29, oki30, mup] at h9)) | exact rfl | omega | (simp only [mlen]; omega) | exact Nat.le_of_ble_eq_true rfl | exact Or.inl rfl | exact Or.inr rfl | assumption | (show (_ : Int) ≤ _; grind) | (show (_ : Int) < _; grind) | (simp [oki23, oki24, oki25, oki26, oki27, oki28, oki29, oki30, mup]; done) | (simp [mlen, oki23, oki24, oki25, oki26, oki27, oki28, oki29, oki30, mup]; omega))
    · rw [if_neg (by omega), if_neg (by omega), if_neg (by omega)] at hQ
      exact hQ
    · rw [if_neg (by omega), if_neg (by omega), if_pos (by omega)] at hQ
      rw [show k = 6 by omega] at hc
      subst hc
      exact hQ
    · rw [if_neg (by omega), if_pos (by omega)] at hQ
      exact hQ
    · exact ih (by omega) h1 c (by simp only [hc, cnt]; rw [decide_eq_false (by omega)]; simp [b2i])
    · exact ih (by omega) h1 (c + 1) (by simp only [hc, cnt]; rw [decide_eq_true (by omega)]; simp [b2i])
  refine okM_e (M := mX5_count) hG hb rfl okX5_count (fun pc => Nat.beq pc 24) ?_
  repeat' (first | refine tX5_is hG hb ?_ ?_ ?_ ?_ ?_ | refine tX5_refuse hG hb ?_ ?_ | ((conv => whnf); first | refine And.intro ?_ ?_ | (intro h9; try simp [oki23, oki24, oki25, oki26, oki27, oki28, oki29, oki30, mup] at h9)) | exact rfl | omega | (simp only [mlen]; omega) | exact Nat.le_of_ble_eq_true rfl | exact Or.inl rfl | exact Or.inr rfl | assumption | (show (_ : Int) ≤ _; grind) | (show (_ : Int) < _; grind) | (simp [oki23, oki24, oki25, oki26, oki27, oki28, oki29, oki30, mup]; done) | (simp [mlen, oki23, oki24, oki25, oki26, oki27, oki28, oki29, oki30, mup]; omega))
  all_goals first
    | exact key 0 (by omega) (by omega) 0 rfl
    | (conv => whnf
       try simp only [mup_mm]
       (repeat' split at hQ) <;> first | exact hQ | (exfalso; omega) | (exfalso; simp_all; done))
end ML
