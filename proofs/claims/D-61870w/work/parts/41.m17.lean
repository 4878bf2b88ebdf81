/-! the model's public members: open, directory, size, pipe -/
theorem mfd_r (μ : mS) (p : Nat) : ∀ n d : Nat, mfd μ p d n = -1 ∨ ((d : Int) ≤ mfd μ p d n ∧ mfd μ p d n < d + n ∧ μ 18 (4 * p + (mfd μ p d n).toNat) < 0) := by
  intro n
  induction n with
  | zero => intro i; exact Or.inl rfl
  | succ n ih =>
    intro i
    rw [mfd]
    split
    · exact Or.inr ⟨by omega, by omega, by rename_i h; exact h⟩
    · rcases ih (i + 1) with h | h
      · exact Or.inl h
      · exact Or.inr ⟨by omega, by omega, h.2.2⟩
theorem mI_desc {n : Int} {μ : mS} {x : Nat} {i pl : Int} (hi : i = -1 ∨ (0 ≤ i ∧ i ≤ 11) ∨ (28 ≤ i ∧ i ≤ 30)) (hp : 0 ≤ pl ∧ pl ≤ 8) (h : mI n μ) : mI n (mup (mup μ 18 x i) 19 x pl) := by
  refine ⟨mRs_c rfl rfl rfl h.1, mRq_c rfl rfl rfl rfl h.2.1, fun y hy => ?_, mRc_c rfl rfl rfl rfl h.2.2.2⟩
  have h1 := h.2.2.1 y hy
  have e18 : mup (mup μ 18 x i) 19 x pl 18 y = if y = x then i else μ 18 y := by simp [mup]
  have e19 : mup (mup μ 18 x i) 19 x pl 19 y = if y = x then pl else μ 19 y := by simp [mup]
  rw [e18, e19]
  refine ⟨?_, h1.2.1, ?_, h1.2.2.2⟩
  · split
    · exact hi
    · exact h1.1
  · split
    · exact hp
    · exact h1.2.2.1
section ML
variable {G : gG} {σ : gS} {hm fr : Nat} {μ : mS} {Q : mQ}
theorem tX5_fdn (hG : gGood G) (hb : gBase G ≤ hm) {p d : Int} (hp : 0 ≤ p ∧ p < 6) (hd : 0 ≤ d ∧ d ≤ 4) (hQ : ∀ x : Int, mfd μ p.toNat d.toNat (4 - d.toNat) = x → (x = -1 ∨ (d ≤ x ∧ x ≤ 3)) → Q (some x) μ) : bx 0 (gOKm G σ hm mX5_freeDescriptor fr [vr 0, vi p, vi d] μ Q) := by
  refine tX5_freeDescriptor hG hb hp hd (hQ _ rfl ?_)
  have := mfd_r μ p.toNat (4 - d.toNat) d.toNat
  omega
def mopen3 (p : Nat) (d i : Int) (ν : mS) : Int × mS := mdone p d 4 5 (mup (mup ν 18 (4 * p + d.toNat) i) 19 (4 * p + d.toNat) 0)
def mopen2 (p : Nat) (d : Int) (r : Int × mS) : Int × mS := if r.1 < 0 then (0, mfail p 4 r.2) else mopen3 p d r.1 r.2
def mopen1 (p : Nat) (how : Int) (r : Int × mS) : Int × mS :=
  if ¬ r.1 = 0 then (0, mfail p r.1 r.2)
  else if r.2 29 0 < 0 ∧ how = 0 then (0, mfail p 3 r.2)
  else if 0 ≤ r.2 29 0 ∧ (how = 2 ∨ mkd r.2 p (r.2 29 0).toNat = 2) then (0, mfail p 5 r.2)
  else if mfd r.2 p 0 4 < 0 then (0, mfail p 4 r.2)
  else if r.2 29 0 < 0 then mopen2 p (mfd r.2 p 0 4) (mmake p 1 r.2)
  else mopen3 p (mfd r.2 p 0 4) (r.2 29 0) r.2
def mopen (p z how : Int) (μ : mS) : Int × mS :=
  if mproc μ p = false ∨ mpath z = false ∨ ¬ (0 ≤ how ∧ how ≤ 2) then (0, mup μ 26 0 1)
  else if ¬ μ 10 p.toNat = 0 then (0, mrefuse2 p.toNat μ)
  else mopen1 p.toNat how (mtoh p.toNat z 3 5 (menter p.toNat μ))
theorem tX5_open (hG : gGood G) (hb : gBase G ≤ hm) {p z how : Int} (hp : inR p) (hz : inR z) (hh : inR how) (hI : bx 0 (mI 700000 μ)) (hQ : Q (some (mopen p z how μ).1) (mopen p z how μ).2) : bx 0 (gOKm G σ hm mX5_open (fr + 6) [vr 0, vi p, vi z, vi how] μ Q) := by
  have h0 : (0 : Int).toNat = 0 := rfl
  have h4 : (4 - 0 : Nat) = 4 := rfl
  have e1 : ∀ d : Int, 0 ≤ p → 0 ≤ d → (4 * p + d).toNat = 4 * p.toNat + d.toNat := fun _ _ _ => by omega
  unfold mopen at hQ
  refine okM (M := mX5_open) hG hb rfl okX5_open ?_
  repeat' (first | ((conv => whnf); first | refine And.intro ?_ ?_ | (intro h9; try simp only [oki23, oki24, oki25, oki26, oki27, oki28, oki29, oki30, not_true_eq_false, not_false_eq_true, h0, h4, Int.toNat_natCast] at h9) | refine tX5_isProc hG hb ?_ ?_ ?_ | refine tX5_isPath hG hb ?_ ?_ ?_ | refine tX5_is hG hb ?_ ?_ ?_ ?_ ?_ | refine tX5_refuse hG hb ?_ ?_ | refine tX5_entr hG hb ?_ (by first | assumption | exact bx_in (mI_up (by omega) (bx_out (by assumption)))) (by omega) ?_ ?_ | refine tX5_toH hG hb ?_ ?_ ?_ ?_ (by first | assumption | exact bx_in (mI_up (by omega) (bx_out (by assumption)))) (by omega) ?_ | refine tX5_fail hG hb ?_ ?_ ?_ | refine tX5_ofn hG hb ?_ ?_ ?_ | refine tX5_fdn hG hb ?_ ?_ ?_ | refine tX5_make hG hb ?_ ?_ ?_ ?_ ?_ (by first | assumption | exact bx_in (mI_up (by omega) (bx_out (by assumption)))) (by omega) ?_) | exact rfl | omega | (simp only [mlen]; omega) | exact Nat.le_of_ble_eq_true rfl | exact Or.inl rfl | exact Or.inr rfl | assumption | (show (_ : Int) ≤ _; grind) | (show (_ : Int) < _; grind) | (simp only [oki23, oki24, oki25, oki26, oki27, oki28, oki29, oki30, not_true_eq_false, not_false_eq_true, h0, h4, Int.toNat_natCast]; done) | (simp only [mlen, oki23, oki24, oki25, oki26, oki27, oki28, oki29, oki30, not_true_eq_false, not_false_eq_true, h0, h4, Int.toNat_natCast]; omega))
  all_goals try (refine tX5_don hG hb (by omega) (by omega) (by omega) (bx_in (mI_desc (by omega) (by omega) (bx_out (by assumption)))) (by omega) ?_)
  all_goals try rw [e1 _ (by omega) (by omega)]
  all_goals subst_vars
  all_goals simp only [mopen1, mopen2, mopen3, mkd] at hQ
  all_goals (conv => whnf)
  all_goals (repeat' split at hQ) <;> first | exact hQ | (exfalso; omega) | (exfalso; simp_all; done)
end ML
