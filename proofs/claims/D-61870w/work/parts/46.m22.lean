/-! the model's public members: truncate, read, write -/
section ML
variable {G : gG} {σ : gS} {hm fr : Nat} {μ : mS} {Q : mQ}
theorem tX5_dnc (hG : gGood G) (hb : gBase G ≤ hm) {ν : mS} {p v f c n : Int} (hp : 0 ≤ p ∧ p < 6) (hv : inR f) (hf : inR c) (hI : bx 0 (mI n ν)) (hn9 : n ≤ 800000) (he : ∀ a, 5 < a → a ≠ 19 → μ a = ν a) (hQ : Q (some (mdone p.toNat v f c μ).1) (mdone p.toNat v f c μ).2) : bx 0 (gOKm G σ hm mX5_done (fr + 3) [vr 0, vi p, vi v, vi f, vi c] μ Q) := by
  have h := (bx_out hI)
  have h4 := h.2.2.2
  refine tX5_done hG hb hp hv hf (bx_in (mRq_c (he _ (by omega) (by omega)) (he _ (by omega) (by omega)) (he _ (by omega) (by omega)) (he _ (by omega) (by omega)) h.2.1)) ?_ ?_ (bx_in (fun j hj => ?_)) hQ
  · rw [he 24 (by omega) (by omega)]; exact h4.2.2.1
  · rw [he 25 (by omega) (by omega)]; exact h4.2.2.2
  · rw [he 22 (by omega) (by omega)]; have := h4.1 j hj; omega
def mtrk (c m k : Nat) (ν : mS) : mS := fun a j => if a = 3 ∧ 8 * c + m ≤ j ∧ j < 8 * c + k then 0 else ν a j
theorem mtrk_s {c m k : Nat} {ν : mS} (h : m ≤ k) : mup (mtrk c m k ν) 3 (8 * c + k) 0 = mtrk c m (k + 1) ν := by
  funext a j; simp only [mup, mtrk]; grind
theorem mtrk_0 {c m k : Nat} {ν : mS} (h : k ≤ m) : mtrk c m k ν = ν := by
  funext a j; simp only [mtrk]; rw [if_neg (by omega)]
def mtrunc1 (p : Nat) (i n : Int) (w : Bool × mS) : Int × mS :=
  if w.1 = false then (0, mfail p 2 w.2)
  else mdone p (w.2 1 (15 + 15 * p + i.toNat)) 4 3 (mup (mtrk (15 + 15 * p + i.toNat) (w.2 1 (15 + 15 * p + i.toNat)).toNat n.toNat w.2) 1 (15 + 15 * p + i.toNat) n)
def mtruncate (p d n : Int) (μ : mS) : Int × mS :=
  if mheld μ p d = false ∨ ¬ (0 ≤ n ∧ n ≤ 8) then (0, mup μ 26 0 1)
  else if ¬ μ 10 p.toNat = 0 then (0, mrefuse2 p.toNat μ)
  else if 16 ≤ μ 18 (4 * p.toNat + d.toNat) then (0, mfail p.toNat 3 (menter p.toNat μ))
  else mtrunc1 p.toNat (μ 18 (4 * p.toNat + d.toNat)) n (mwrites p.toNat (μ 18 (4 * p.toNat + d.toNat)).toNat (menter p.toNat μ))
theorem tX5_truncate (hG : gGood G) (hb : gBase G ≤ hm) {p d n : Int} (hp : inR p) (hd : inR d) (hn : inR n) (hI : bx 0 (mI 700000 μ)) (hQ : Q (some (mtruncate p d n μ).1) (mtruncate p d n μ).2) : bx 0 (gOKm G σ hm mX5_truncate (fr + 6) [vr 0, vi p, vi d, vi n] μ Q) := by
  have s103 : ∀ (ν : mS) (i : Int) (m : Nat), 0 ≤ p → p < 6 → 0 ≤ i → i ≤ 14 → 0 ≤ n → n ≤ 8 → m ≤ 8 → bx 0 (mI 710000 ν) → Q (some (mdone p.toNat m 4 3 (mup (mtrk (15 + 15 * p.toNat + i.toNat) m n.toNat ν) 1 (15 + 15 * p.toNat + i.toNat) n)).1) (mdone p.toNat m 4 3 (mup (mtrk (15 + 15 * p.toNat + i.toNat) m n.toNat ν) 1 (15 + 15 * p.toNat + i.toNat) n)).2 → ∀ k : Nat, k ≤ 8 → m ≤ k → (k = m ∨ (k : Int) ≤ n) → bx 0 (mW G σ hm mX5_truncate (fr + 6) Q 103 [(0, vr 0), (1, vi p), (3, vi n), (5, vi (15 + 15 * p + i)), (6, vi m), (7, vi k)] [] (mtrk (15 + 15 * p.toNat + i.toNat) m k ν)) := by
    intro ν i m p0 p6 i0 i14 n0 n8 m8 hI hQ
    refine dn _ fun k hk ih hmk hkn => ?_
    have e1 : (15 + 15 * p + i).toNat = 15 + 15 * p.toNat + i.toNat := by omega
    have e2 : (8 * (15 + 15 * p + i) + (k : Int)).toNat = 8 * (15 + 15 * p.toNat + i.toNat) + k := by omega
    refine okM_l (M := mX5_truncate) hG hb rfl okX5_truncate (fun pc => Nat.beq pc 103) ?_
    repeat' (first | ((conv => whnf); first | refine And.intro ?_ ?_ | (intro h9; try simp only [oki23, oki24, oki25, oki26, oki27, oki28, oki29, oki30, not_true_eq_false, not_false_eq_true, e1] at h9)) | exact rfl | omega | (simp only [mlen]; omega) | exact Nat.le_of_ble_eq_true rfl | exact Or.inl rfl | exact Or.inr rfl | assumption | (show (_ : Int) ≤ _; grind) | (show (_ : Int) < _; grind) | (simp only [oki23, oki24, oki25, oki26, oki27, oki28, oki29, oki30, not_true_eq_false, not_false_eq_true, e1]; done) | (simp only [mlen, oki23, oki24, oki25, oki26, oki27, oki28, oki29, oki30, not_true_eq_false, not_false_eq_true, e1]; omega))
    · rw [e1]
      conv => whnf
      refine tX5_dnc hG hb (by omega) (by omega) (by omega) hI (by omega) (fun a ha _ => ?_) ?_
      · have h1 : a ≠ 1 := by omega
        rw [mup_other _ _ _ h1]
        funext j; simp only [mtrk]; rw [if_neg (by omega)]
      · rcases hkn with h | h
        · have e : mtrk (15 + 15 * p.toNat + i.toNat) m k ν = mtrk (15 + 15 * p.toNat + i.toNat) m n.toNat ν := by
            rw [mtrk_0 (by omega), mtrk_0 (by omega)]
          rw [e]; exact hQ
        · rw [show k = n.toNat by omega]; exact hQ
    · rw [e2]
      exact mWe (ih (by omega) (by omega) (by omega)) (mtrk_s hmk)
  by_cases hh : mheld μ p d = false
  · unfold mtruncate at hQ
    rw [if_pos (Or.inl hh)] at hQ
    refine okM (M := mX5_truncate) hG hb rfl okX5_truncate ?_
    repeat' (first | ((conv => whnf); first | refine And.intro ?_ ?_ | (intro h9; try simp [oki23, oki24, oki25, oki26, oki27, oki28, oki29, oki30, mup, hh] at h9) | refine tX5_isHld hG hb ?_ ?_ ?_ ?_ | refine tX5_refuse hG hb ?_ ?_) | exact rfl | omega | (simp only [mlen]; omega) | exact Nat.le_of_ble_eq_true rfl | exact Or.inl rfl | exact Or.inr rfl | assumption | (show (_ : Int) ≤ _; grind) | (show (_ : Int) < _; grind) | (simp [oki23, oki24, oki25, oki26, oki27, oki28, oki29, oki30, mup, hh]; done) | (simp [mlen, oki23, oki24, oki25, oki26, oki27, oki28, oki29, oki30, mup, hh]; omega))
  have ht := mheld_t (μ := μ) (p := p) (d := d) (by simpa using hh)
  have hx := (bx_out hI).2.2.1 (4 * p.toNat + d.toNat) (by omega)
  have e0 : (4 * p + d).toNat = 4 * p.toNat + d.toNat := by omega
  have k18 : menter p.toNat μ 18 = μ 18 := menter_k (by omega)
  have e1 : ∀ i : Int, 0 ≤ i → (15 + 15 * p + i).toNat = 15 + 15 * p.toNat + i.toNat := fun _ _ => by omega
  unfold mtruncate at hQ
  refine okM_e (M := mX5_truncate) hG hb rfl okX5_truncate (fun pc => Nat.beq pc 103) ?_
  repeat' (first | ((conv => whnf); first | refine And.intro ?_ ?_ | (intro h9; try simp only [oki23, oki24, oki25, oki26, oki27, oki28, oki29, oki30, not_true_eq_false, not_false_eq_true, e0, k18, hh, Bool.true_eq_false, Bool.false_eq_true] at h9) | refine tX5_isHld hG hb ?_ ?_ ?_ ?_ | refine tX5_is hG hb ?_ ?_ ?_ ?_ ?_ | refine tX5_refuse hG hb ?_ ?_ | refine tX5_entr hG hb ?_ (by first | assumption | exact bx_in (mI_up (by omega) (bx_out (by assumption)))) (by omega) ?_ ?_ | refine tX5_wrr hG hb ?_ ?_ (by first | assumption | exact bx_in (mI_up (by omega) (bx_out (by assumption)))) (by omega) ?_ ?_ | refine tX5_fail hG hb ?_ ?_ ?_) | exact rfl | omega | (simp only [mlen]; omega) | exact Nat.le_of_ble_eq_true rfl | exact Or.inl rfl | exact Or.inr rfl | assumption | (show (_ : Int) ≤ _; grind) | (show (_ : Int) < _; grind) | (simp only [oki23, oki24, oki25, oki26, oki27, oki28, oki29, oki30, not_true_eq_false, not_false_eq_true, e0, k18, hh, Bool.true_eq_false, Bool.false_eq_true]; done) | (simp only [mlen, oki23, oki24, oki25, oki26, oki27, oki28, oki29, oki30, not_true_eq_false, not_false_eq_true, e0, k18, hh, Bool.true_eq_false, Bool.false_eq_true]; omega))
  · rename_i r hr ht2 hIr _ _ _ _ _
    have hs := (bx_out hIr).1.1 (15 + 15 * p.toNat + (μ 18 (4 * p.toNat + d.toNat)).toNat) (by omega)
    obtain ⟨m, hm9⟩ : ∃ m : Nat, r.2 1 (15 + 15 * p.toNat + (μ 18 (4 * p.toNat + d.toNat)).toNat) = m := ⟨_, (Int.toNat_of_nonneg hs.2.2.1).symm⟩
    rw [if_neg (by simp [*]), if_neg (by omega), if_neg (by omega), hr, mtrunc1, if_neg (by rw [ht2]; decide), hm9] at hQ
    rw [k18, e0, e1 _ (by omega), hm9]
    exact mW_d 4 (mW_d 2 (mWe (s103 r.2 (μ 18 (4 * p.toNat + d.toNat)) m (by omega) (by omega) (by omega) (by omega) (by omega) (by omega) (by omega) (bx_in (mI_le (by omega) (bx_out hIr))) hQ m (by omega) (by omega) (Or.inl rfl)) (mtrk_0 (by omega)).symm))
  all_goals subst_vars
  all_goals simp only [mtrunc1] at hQ
  all_goals (conv => whnf)
  all_goals (repeat' split at hQ) <;> first | exact hQ | (exfalso; omega) | (exfalso; simp_all; done)
end ML
