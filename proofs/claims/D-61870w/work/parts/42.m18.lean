/-! the model's public members: directory, size, pipe, link -/
section ML
variable {G : gG} {σ : gS} {hm fr : Nat} {μ : mS} {Q : mQ}
theorem tX5_rdr (hG : gGood G) (hb : gBase G ≤ hm) {p i n : Int} (hp : 0 ≤ p ∧ p < 6) (hi : 0 ≤ i ∧ i < 15) (hI : bx 0 (mI n μ)) (hn9 : n ≤ 800000) (hQ1 : ∀ r : Bool × mS, mreads p.toNat i.toNat μ = r → r.1 = true → bx 0 (mI (n + 6) r.2) → r.2 27 0 = μ 27 0 → r.2 28 0 = μ 28 0 → r.2 29 0 = μ 29 0 → Q (some 1) r.2) (hQ0 : ∀ r : Bool × mS, mreads p.toNat i.toNat μ = r → r.1 = false → Q (some 0) r.2) : bx 0 (gOKm G σ hm mX5_reads (fr + 3) [vr 0, vi p, vi i] μ Q) := by
  have hc := (bx_out hI).2.2.2.1 3 (by omega)
  have h2 := mI_reads (p := p.toNat) (i := i.toNat) (bx_out hI)
  exact tX5_reads hG hb hp hi (by omega) (fun h => hQ1 _ rfl h (bx_in h2) (by rw [mreads_k rfl]) (by rw [mreads_k rfl]) (by rw [mreads_k rfl])) (fun h => hQ0 _ rfl h)
theorem tX5_wrr (hG : gGood G) (hb : gBase G ≤ hm) {p i n : Int} (hp : 0 ≤ p ∧ p < 6) (hi : 0 ≤ i ∧ i < 15) (hI : bx 0 (mI n μ)) (hn9 : n ≤ 800000) (hQ1 : ∀ r : Bool × mS, mwrites p.toNat i.toNat μ = r → r.1 = true → bx 0 (mI (n + 6) r.2) → r.2 27 0 = μ 27 0 → r.2 28 0 = μ 28 0 → r.2 29 0 = μ 29 0 → r.2 0 (15 + 15 * p.toNat + i.toNat) = mkd μ p.toNat i.toNat → Q (some 1) r.2) (hQ0 : ∀ r : Bool × mS, mwrites p.toNat i.toNat μ = r → r.1 = false → Q (some 0) r.2) : bx 0 (gOKm G σ hm mX5_writes (fr + 3) [vr 0, vi p, vi i] μ Q) := by
  have hc := (bx_out hI).2.2.2.1 3 (by omega)
  have h2 := mI_writes (p := p.toNat) (i := i.toNat) (by omega) (bx_out hI)
  exact tX5_writes hG hb hp hi (by omega) (fun h => hQ1 _ rfl h (bx_in h2) (by rw [mwrites_k rfl (by omega) (by omega)]) (by rw [mwrites_k rfl (by omega) (by omega)]) (by rw [mwrites_k rfl (by omega) (by omega)]) (mwrites_v (by omega) h 0 (by omega))) (fun h => hQ0 _ rfl h)
theorem tX5_wlk (hG : gGood G) (hb : gBase G ≤ hm) {p z s ms fl n : Int} (hp : 0 ≤ p ∧ p < 6) (hz : inR z) (hs : 0 ≤ s ∧ s ≤ 4) (hms : inR ms ∧ ms ≠ 0) (hfl : inR fl ∧ fl ≠ 0) (hI : bx 0 (mI n μ)) (hn9 : n ≤ 800000) (hQ : ∀ r : Int × mS, mwalk p.toNat z ms fl 0 s.toNat (mup μ 29 0 0) = r → bx 0 (mI (n + 24) r.2) → inR r.1 → (r.1 = 0 → 0 ≤ r.2 29 0 ∧ r.2 29 0 ≤ 11) → Q (some r.1) r.2) : bx 0 (gOKm G σ hm mX5_walk (fr + 4) [vr 0, vi p, vi z, vi s, vi ms, vi fl] μ Q) := by
  have hc := (bx_out hI).2.2.2.1 3 (by omega)
  have h1 := (mwalk_r (z := z) (ms := ms) (fl := fl) (p := p.toNat) (by omega) s.toNat 0 (mup μ 29 0 0) (mRs_c rfl rfl rfl (bx_out hI).1) (by rw [mup_ss]; omega)).2.2
  have h2 := mI_walk (p := p.toNat) (z := z) (ms := ms) (fl := fl) s.toNat 0 n (mup μ 29 0 0) (mI_up (by omega) (bx_out hI))
  refine tX5_walk hG hb hp hz hs hms.1 hfl.1 (bx_in (bx_out hI).1) (by omega) (hQ _ rfl (bx_in (mI_le (by omega) h2)) ?_ ?_)
  · rcases h1 with h | h | h | h
    · rw [h.1]; decide
    · rw [h]; decide
    · rw [h]; exact hfl.1
    · rw [h]; exact hms.1
  · intro h0
    rcases h1 with h | h | h | h
    · exact h.2
    · rw [h] at h0; cases h0
    · rw [h] at h0; exact absurd h0 hfl.2
    · rw [h] at h0; exact absurd h0 hms.2
theorem tX5_len (hG : gGood G) (hb : gBase G ≤ hm) {z : Int} (hz : inR z) (hQ : mplen z 0 4 ≤ 4 → Q (some (mplen z 0 4 : Nat)) μ) : bx 0 (gOKm G σ hm mX5_length fr [vi z] μ Q) := tX5_length hG hb hz (hQ (by have := mplen_le z 4 0; omega))
def mdir2 (p : Nat) (r : Int × mS) : Int × mS := if r.1 < 0 then (0, mfail p 4 r.2) else mdone p r.1 4 5 r.2
def mdir1 (p : Nat) (r : Int × mS) : Int × mS :=
  if ¬ r.1 = 0 then (0, mfail p r.1 r.2)
  else if 0 ≤ r.2 29 0 then (0, mfail p 5 r.2)
  else mdir2 p (mmake p 2 r.2)
def mdirectory (p z : Int) (μ : mS) : Int × mS :=
  if mproc μ p = false ∨ mpath z = false then (0, mup μ 26 0 1)
  else if ¬ μ 10 p.toNat = 0 then (0, mrefuse2 p.toNat μ)
  else mdir1 p.toNat (mtoh p.toNat z 3 5 (menter p.toNat μ))
theorem tX5_directory (hG : gGood G) (hb : gBase G ≤ hm) {p z : Int} (hp : inR p) (hz : inR z) (hI : bx 0 (mI 700000 μ)) (hQ : Q (some (mdirectory p z μ).1) (mdirectory p z μ).2) : bx 0 (gOKm G σ hm mX5_directory (fr + 6) [vr 0, vi p, vi z] μ Q) := by
  unfold mdirectory at hQ
  refine okM (M := mX5_directory) hG hb rfl okX5_directory ?_
  repeat' (first | ((conv => whnf); first | refine And.intro ?_ ?_ | (intro h9; try simp only [oki23, oki24, oki25, oki26, oki27, oki28, oki29, oki30, not_true_eq_false, not_false_eq_true, Int.toNat_natCast] at h9) | refine tX5_isProc hG hb ?_ ?_ ?_ | refine tX5_isPath hG hb ?_ ?_ ?_ | refine tX5_refuse hG hb ?_ ?_ | refine tX5_entr hG hb ?_ (by first | assumption | exact bx_in (mI_up (by omega) (bx_out (by assumption)))) (by omega) ?_ ?_ | refine tX5_toH hG hb ?_ ?_ ?_ ?_ (by first | assumption | exact bx_in (mI_up (by omega) (bx_out (by assumption)))) (by omega) ?_ | refine tX5_fail hG hb ?_ ?_ ?_ | refine tX5_make hG hb ?_ ?_ ?_ ?_ ?_ (by first | assumption | exact bx_in (mI_up (by omega) (bx_out (by assumption)))) (by omega) ?_ | refine tX5_don hG hb ?_ ?_ ?_ (by first | assumption | exact bx_in (mI_up (by omega) (bx_out (by assumption)))) (by omega) ?_) | exact rfl | omega | (simp only [mlen]; omega) | exact Nat.le_of_ble_eq_true rfl | exact Or.inl rfl | exact Or.inr rfl | assumption | (show (_ : Int) ≤ _; grind) | (show (_ : Int) < _; grind) | (simp only [oki23, oki24, oki25, oki26, oki27, oki28, oki29, oki30, not_true_eq_false, not_false_eq_true, Int.toNat_natCast]; done) | (simp only [mlen, oki23, oki24, oki25, oki26, oki27, oki28, oki29, oki30, not_true_eq_false, not_false_eq_true, Int.toNat_natCast]; omega))
  all_goals subst_vars
  all_goals simp only [mdir1, mdir2] at hQ
  all_goals (conv => whnf)
  all_goals (repeat' split at hQ) <;> first | exact hQ | (exfalso; omega) | (exfalso; simp_all; done)
def msize1 (p : Nat) (r : Int × mS) : Int × mS := if ¬ r.1 = 0 then (0, mfail p r.1 r.2) else if (mreads p (r.2 29 0).toNat r.2).1 = false then (0, mfail p 2 (mreads p (r.2 29 0).toNat r.2).2) else mdone p ((mreads p (r.2 29 0).toNat r.2).2 1 (mof (mreads p (r.2 29 0).toNat r.2).2 p ((mreads p (r.2 29 0).toNat r.2).2 29 0).toNat)) 9 9 (mreads p (r.2 29 0).toNat r.2).2
def msize (p z : Int) (μ : mS) : Int × mS :=
  if mproc μ p = false ∨ mpath z = false then (0, mup μ 26 0 1)
  else if ¬ μ 10 p.toNat = 0 then (0, mrefuse2 p.toNat μ)
  else msize1 p.toNat (mwalk p.toNat z 3 4 0 (mplen z 0 4) (mup (menter p.toNat μ) 29 0 0))
theorem tX5_size (hG : gGood G) (hb : gBase G ≤ hm) {p z : Int} (hp : inR p) (hz : inR z) (hI : bx 0 (mI 700000 μ)) (hQ : Q (some (msize p z μ).1) (msize p z μ).2) : bx 0 (gOKm G σ hm mX5_size (fr + 6) [vr 0, vi p, vi z] μ Q) := by
  unfold msize at hQ
  refine okM (M := mX5_size) hG hb rfl okX5_size ?_
  repeat' (first | ((conv => whnf); first | refine And.intro ?_ ?_ | (intro h9; try simp only [oki23, oki24, oki25, oki26, oki27, oki28, oki29, oki30, not_true_eq_false, not_false_eq_true, Int.toNat_natCast] at h9) | refine tX5_isProc hG hb ?_ ?_ ?_ | refine tX5_isPath hG hb ?_ ?_ ?_ | refine tX5_refuse hG hb ?_ ?_ | refine tX5_entr hG hb ?_ (by first | assumption | exact bx_in (mI_up (by omega) (bx_out (by assumption)))) (by omega) ?_ ?_ | refine tX5_len hG hb ?_ ?_ | refine tX5_wlk hG hb ?_ ?_ ?_ ?_ ?_ (by first | assumption | exact bx_in (mI_up (by omega) (bx_out (by assumption)))) (by omega) ?_ | refine tX5_rdr hG hb ?_ ?_ (by first | assumption | exact bx_in (mI_up (by omega) (bx_out (by assumption)))) (by omega) ?_ ?_ | refine tX5_fail hG hb ?_ ?_ ?_ | refine tX5_ofn hG hb ?_ ?_ ?_ | refine tX5_don hG hb ?_ ?_ ?_ (by first | assumption | exact bx_in (mI_up (by omega) (bx_out (by assumption)))) (by omega) ?_) | exact rfl | omega | (simp only [mlen]; omega) | exact Nat.le_of_ble_eq_true rfl | exact Or.inl rfl | exact Or.inr rfl | assumption | (show (_ : Int) ≤ _; grind) | (show (_ : Int) < _; grind) | (simp only [oki23, oki24, oki25, oki26, oki27, oki28, oki29, oki30, not_true_eq_false, not_false_eq_true, Int.toNat_natCast]; done) | (simp only [mlen, oki23, oki24, oki25, oki26, oki27, oki28, oki29, oki30, not_true_eq_false, not_false_eq_true, Int.toNat_natCast]; omega))
  all_goals subst_vars
  all_goals simp only [msize1] at hQ
  all_goals (conv => whnf)
  all_goals (repeat' split at hQ) <;> first | exact hQ | (exfalso; omega) | (exfalso; simp_all; done)
end ML
