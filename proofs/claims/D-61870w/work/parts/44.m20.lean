/-! the model's public members: unlink, rename -/
section ML
variable {G : gG} {σ : gS} {hm fr : Nat} {μ : mS} {Q : mQ}
def munl4 (p : Nat) (dir : Bool) (i : Int) (ν : mS) : Int × mS :=
  if dir = true then mdone p 0 4 5 (mup ν 0 (15 + 15 * p + i.toNat) 0)
  else mdone p (ν 2 (15 + 15 * p + i.toNat) - 1) 4 5 (mup ν 2 (15 + 15 * p + i.toNat) (ν 2 (15 + 15 * p + i.toNat) - 1))
def munl3 (p : Nat) (dir : Bool) (i : Int) (w : Bool × mS) : Int × mS :=
  if w.1 = false then (0, mfail p 2 w.2)
  else if (mwrites p i.toNat w.2).1 = false then (0, mfail p 2 (mwrites p i.toNat w.2).2)
  else munl4 p dir i (mremove p ((mwrites p i.toNat w.2).2 27 0).toNat ((mwrites p i.toNat w.2).2 28 0) (mwrites p i.toNat w.2).2)
def munl2 (p : Nat) (i : Int) (r : Bool × mS) : Int × mS :=
  if r.1 = false then (0, mfail p 2 r.2)
  else if 0 < r.2 1 (mof r.2 p i.toNat) then (0, mfail p 5 r.2)
  else munl3 p true i (mwrites p (r.2 27 0).toNat r.2)
def munl1 (p : Nat) (r : Int × mS) : Int × mS :=
  if ¬ r.1 = 0 then (0, mfail p r.1 r.2)
  else if r.2 29 0 < 0 then (0, mfail p 3 r.2)
  else if mkd r.2 p (r.2 29 0).toNat = 2 then munl2 p (r.2 29 0) (mreads p (r.2 29 0).toNat r.2)
  else munl3 p false (r.2 29 0) (mwrites p (r.2 27 0).toNat r.2)
def munlink (p z : Int) (μ : mS) : Int × mS :=
  if mproc μ p = false ∨ mpath z = false then (0, mup μ 26 0 1)
  else if ¬ μ 10 p.toNat = 0 then (0, mrefuse2 p.toNat μ)
  else munl1 p.toNat (mtoh p.toNat z 3 5 (menter p.toNat μ))
theorem mremk_i {c : Nat} {n : Int} {μ : mS} {k : Nat} : ∀ a, a ≠ 3 → a ≠ 4 → (mremk c n k μ).2 a = μ a := by
  intro a h3 h4
  induction k with
  | zero => rfl
  | succ k ih =>
    rw [mremk]
    split
    · exact ih
    · dsimp only; rw [mup_other _ _ _ h4, mup_other _ _ _ h3, ih]
theorem mremk_4 {c : Nat} {n : Int} {μ : mS} (hR : ∀ j, j < 840 → 0 ≤ μ 4 j ∧ μ 4 j ≤ 11) : ∀ k, 8 * c + k ≤ 840 → ∀ j, j < 840 → 0 ≤ (mremk c n k μ).2 4 j ∧ (mremk c n k μ).2 4 j ≤ 11 := by
  intro k
  induction k with
  | zero => intro _; exact hR
  | succ k ih =>
    intro hk j hj
    have h1 := ih (by omega) j hj
    have h2 := ih (by omega) (8 * c + k) (by omega)
    rw [mremk]
    split
    · exact h1
    · dsimp only
      unfold mup
      split
      · exact h2
      · split
        · exact absurd (by assumption : 4 = 3 ∧ _).1 (by omega)
        · exact h1
theorem mremove_k {p i a : Nat} {n : Int} {μ : mS} (h3 : a ≠ 3) (h4 : a ≠ 4) (h1 : a ≠ 1) : mremove p i n μ a = μ a := by
  unfold mremove; rw [mup_other _ _ _ h1, mremk_i _ h3 h4]
theorem mremove_1 {p i s : Nat} {n : Int} {μ : mS} : mremove p i n μ 1 s = if s = 15 + 15 * p + i then ((mremk (15 + 15 * p + i) n (μ 1 (15 + 15 * p + i)).toNat μ).1 : Int) else μ 1 s := by
  unfold mremove
  unfold mup
  split
  · rename_i h; rw [if_pos h.2]
  · rename_i h; rw [if_neg (fun q => h ⟨rfl, q⟩), mremk_i 1 (by omega) (by omega)]
theorem mI_remove {n : Int} {p i : Nat} {m : Int} {μ : mS} (hp : p < 6) (hi : i < 15) (h : mI n μ) : mI n (mremove p i m μ) := by
  have hs := h.1.1 (15 + 15 * p + i) (by omega)
  have hl := (mremk_le (15 + 15 * p + i) m μ (μ 1 (15 + 15 * p + i)).toNat).1
  have e : ∀ a, a = 0 ∨ a = 11 ∨ a = 14 ∨ a = 17 ∨ a = 16 ∨ a = 18 ∨ a = 19 ∨ a = 20 ∨ a = 21 ∨ a = 22 ∨ a = 23 ∨ a = 24 ∨ a = 25 → mremove p i m μ a = μ a := fun a ha => mremove_k (by omega) (by omega) (by omega)
  refine ⟨⟨fun s hs9 => ?_, fun j hj => ?_⟩, mRq_c (e _ (by omega)) (e _ (by omega)) (e _ (by omega)) (e _ (by omega)) h.2.1, mRx_c (e _ (by omega)) (e _ (by omega)) (e _ (by omega)) (e _ (by omega)) h.2.2.1, mRc_c (e _ (by omega)) (e _ (by omega)) (e _ (by omega)) (e _ (by omega)) h.2.2.2⟩
  · have h1 := h.1.1 s hs9
    rw [e 0 (by omega), mremove_1]
    split
    · rename_i q; subst q; omega
    · exact h1
  · have := mremk_4 (c := 15 + 15 * p + i) (n := m) h.1.2 (μ 1 (15 + 15 * p + i)).toNat (by omega) j hj
    unfold mremove
    rw [mup_other _ _ _ (by omega)]
    exact this
theorem mI_up0 {n : Int} {μ : mS} {s : Nat} (h : mI n μ) : mI n (mup μ 0 s 0) := by
  refine ⟨⟨fun x hx => ?_, h.1.2⟩, mRq_c rfl rfl rfl rfl h.2.1, mRx_c rfl rfl rfl rfl h.2.2.1, mRc_c rfl rfl rfl rfl h.2.2.2⟩
  have h1 := h.1.1 x hx
  have e0 : mup μ 0 s 0 0 x = if x = s then 0 else μ 0 x := by simp [mup]
  have e1 : mup μ 0 s 0 1 x = μ 1 x := rfl
  rw [e0, e1]
  split <;> omega
theorem tX5_rem (hG : gGood G) (hb : gBase G ≤ hm) {p i m n : Int} (hp : 0 ≤ p ∧ p < 6) (hi : 0 ≤ i ∧ i < 15) (hm9 : inR m) (hI : bx 0 (mI n μ)) (hn9 : n ≤ 800000) (hQ : bx 0 (mI n (mremove p.toNat i.toNat m μ)) → Q none (mremove p.toNat i.toNat m μ)) : bx 0 (gOKm G σ hm mX5_remove fr [vr 0, vi p, vi i, vi m] μ Q) := by
  have h1 := (bx_out hI).1.1 (15 + 15 * p.toNat + i.toNat) (by omega)
  exact tX5_remove hG hb hp hi hm9 (by omega) (hQ (bx_in (mI_remove (by omega) (by omega) (bx_out hI))))
theorem tX5_unlink (hG : gGood G) (hb : gBase G ≤ hm) {p z : Int} (hp : inR p) (hz : inR z) (hI : bx 0 (mI 700000 μ)) (hL : bx 0 (mL 700000 μ)) (hQ : Q (some (munlink p z μ).1) (munlink p z μ).2) : bx 0 (gOKm G σ hm mX5_unlink (fr + 6) [vr 0, vi p, vi z] μ Q) := by
  have e1 : ∀ i : Int, 0 ≤ p → 0 ≤ i → (15 + 15 * p + i).toNat = 15 + 15 * p.toNat + i.toNat := fun _ _ _ => by omega
  have s136 : ∀ (ν : mS) (i d : Int), (d = 0 ∨ d = 1) → 0 ≤ p → p < 6 → 0 ≤ i → i ≤ 11 → 0 ≤ ν 27 0 → ν 27 0 ≤ 11 → 0 ≤ ν 28 0 → ν 28 0 ≤ 15 → bx 0 (mI 710000 ν) → mL 700000 ν → Q (some (munl3 p.toNat (decide (d = 1)) i (mwrites p.toNat (ν 27 0).toNat ν)).1) (munl3 p.toNat (decide (d = 1)) i (mwrites p.toNat (ν 27 0).toNat ν)).2 → bx 0 (mW G σ hm mX5_unlink (fr + 6) Q 136 [(0, vr 0), (1, vi p), (4, vi i), (5, vi d)] [] ν) := by
    intro ν i d hd p0 p6 i0 i11 a0 a1 b0 b1 hI hL hQ
    have e1 := e1 i p0 i0
    unfold munl3 munl4 at hQ
    have q2 := mL_writes (p := p.toNat) (i := i.toNat) (by omega) (mL_writes (p := p.toNat) (i := (ν 27 0).toNat) (by omega) hL) (15 + 15 * p.toNat + i.toNat) (by omega)
    have e2 : ∀ (h : Nat) m (w : mS), mremove p.toNat h m w 2 = w 2 := fun h m w => mremove_k (by omega) (by omega) (by omega)
    refine okM_l (M := mX5_unlink) hG hb rfl okX5_unlink (fun pc => false) ?_
    repeat' (first | ((conv => whnf); first | refine And.intro ?_ ?_ | (intro h9; try simp only [oki23, oki24, oki25, oki26, oki27, oki28, oki29, oki30, not_true_eq_false, not_false_eq_true, e1, e2, mup_ss] at h9) | refine tX5_wrr hG hb ?_ ?_ (by first | assumption | exact bx_in (mI_up (by omega) (bx_out (by assumption)))) (by omega) ?_ ?_ | refine tX5_fail hG hb ?_ ?_ ?_ | refine tX5_rem hG hb ?_ ?_ ?_ (by first | assumption | exact bx_in (mI_up (by omega) (bx_out (by assumption)))) (by omega) ?_) | exact rfl | omega | (simp only [mlen]; omega) | exact Nat.le_of_ble_eq_true rfl | exact Or.inl rfl | exact Or.inr rfl | assumption | (show (_ : Int) ≤ _; grind) | (show (_ : Int) < _; grind) | (simp only [oki23, oki24, oki25, oki26, oki27, oki28, oki29, oki30, not_true_eq_false, not_false_eq_true, e1, e2, mup_ss]; done) | (simp only [mlen, oki23, oki24, oki25, oki26, oki27, oki28, oki29, oki30, not_true_eq_false, not_false_eq_true, e1, e2, mup_ss]; omega))
    · subst_vars; rw [e2, e1]; omega
    · simp only [mup_ss, e1, e2]
      conv => whnf
      refine tX5_don hG hb (by omega) (by omega) (by omega) (bx_in (mI_up (by omega) (bx_out (by assumption)))) (by omega) ?_
      subst_vars
      rw [if_neg (by simp only [*]; decide), if_neg (by simp only [*]; decide), if_neg (by decide), e2] at hQ
      exact hQ
    · simp only [e1]
      conv => whnf
      refine tX5_don hG hb (by omega) (by omega) (by omega) (bx_in (mI_up0 (bx_out (by assumption)))) (by omega) ?_
      have hd1 : d = 1 := by omega
      subst_vars
      rw [if_neg (by simp only [*]; decide), if_neg (by simp only [*]; decide), if_pos (by decide)] at hQ
      exact hQ
    · subst_vars
      rw [if_neg (by simp only [*]; decide), if_pos (by assumption)] at hQ
      exact hQ
    · subst_vars
      rw [if_pos (by assumption)] at hQ
      exact hQ
  unfold munlink at hQ
  have hL := bx_out hL
  refine okM_e (M := mX5_unlink) hG hb rfl okX5_unlink (fun pc => Nat.beq pc 136) ?_
  repeat' (first | ((conv => whnf); first | refine And.intro ?_ ?_ | (intro h9; try simp only [oki23, oki24, oki25, oki26, oki27, oki28, oki29, oki30, not_true_eq_false, not_false_eq_true, Int.toNat_natCast] at h9) | refine tX5_isProc hG hb ?_ ?_ ?_ | refine tX5_isPath hG hb ?_ ?_ ?_ | refine tX5_refuse hG hb ?_ ?_ | refine tX5_entr hG hb ?_ (by first | assumption | exact bx_in (mI_up (by omega) (bx_out (by assumption)))) (by omega) ?_ ?_ | refine tX5_toH hG hb ?_ ?_ ?_ ?_ (by first | assumption | exact bx_in (mI_up (by omega) (bx_out (by assumption)))) (by omega) ?_ | refine tX5_fail hG hb ?_ ?_ ?_ | refine tX5_ofn hG hb ?_ ?_ ?_ | refine tX5_rdr hG hb ?_ ?_ (by first | assumption | exact bx_in (mI_up (by omega) (bx_out (by assumption)))) (by omega) ?_ ?_) | exact rfl | omega | (simp only [mlen]; omega) | exact Nat.le_of_ble_eq_true rfl | exact Or.inl rfl | exact Or.inr rfl | assumption | (show (_ : Int) ≤ _; grind) | (show (_ : Int) < _; grind) | (simp only [oki23, oki24, oki25, oki26, oki27, oki28, oki29, oki30, not_true_eq_false, not_false_eq_true, Int.toNat_natCast]; done) | (simp only [mlen, oki23, oki24, oki25, oki26, oki27, oki28, oki29, oki30, not_true_eq_false, not_false_eq_true, Int.toNat_natCast]; omega))
  all_goals subst_vars
  · rw [if_neg (by simp [*]), if_neg (by omega), munl1, if_neg (by omega), if_neg (by omega), if_neg (by simp only [mkd]; omega)] at hQ
    refine mW_d 3 (mW_d 2 (s136 _ _ 0 (Or.inl rfl) (by omega) (by omega) (by omega) (by omega) (by omega) (by omega) (by omega) (by omega) (bx_in (mI_le (by omega) (bx_out ‹bx 0 (mI (700000 + 1 + 30) _)›))) (mL_c ?_ hL) hQ))
    rw [mtoh_k rfl (by omega) (by omega) (by omega), menter_k (by omega)]
  · rw [if_neg (by simp [*]), if_neg (by omega), munl1, if_neg (by omega), if_neg (by omega), if_pos (by simp only [mkd]; omega), munl2, if_neg (by simp [*]), if_neg (by omega)] at hQ
    refine mW_d 3 (mW_d 2 (s136 _ _ 1 (Or.inr rfl) (by omega) (by omega) (by omega) (by omega) (by omega) (by omega) (by omega) (by omega) (bx_in (mI_le (by omega) (bx_out ‹bx 0 (mI (700000 + 1 + 30 + 6) _)›))) (mL_c ?_ hL) hQ))
    rw [mreads_k rfl, mtoh_k rfl (by omega) (by omega) (by omega), menter_k (by omega)]
  all_goals simp only [munl1, munl2] at hQ
  all_goals (conv => whnf)
  all_goals (repeat' split at hQ) <;> first | exact hQ | (exfalso; omega) | (exfalso; simp_all; done) | (exfalso; simp only [mkd] at *; omega) | (simp_all; done) | (exfalso; simp only [mkd] at *; simp_all; omega)
end ML
