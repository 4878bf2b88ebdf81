/-! the model's public members: making -/
section ML
variable {G : gG} {σ : gS} {hm fr : Nat} {μ : mS} {Q : mQ}
theorem tX5_rd (hG : gGood G) (hb : gBase G ≤ hm) {p i n : Int} (hp : 0 ≤ p ∧ p < 6) (hi : 0 ≤ i ∧ i < 15) (hI : bx 0 (mI n μ)) (hn9 : n ≤ 800000) (hQ1 : ∀ ν, mreads p.toNat i.toNat μ = (true, ν) → bx 0 (mI (n + 6) ν) → Q (some 1) ν) (hQ0 : ∀ ν, mreads p.toNat i.toNat μ = (false, ν) → Q (some 0) ν) : bx 0 (gOKm G σ hm mX5_reads (fr + 3) [vr 0, vi p, vi i] μ Q) := by
  have hc := (bx_out hI).2.2.2.1 3 (by omega)
  have h2 := mI_reads (p := p.toNat) (i := i.toNat) (bx_out hI)
  refine tX5_reads hG hb hp hi (by omega) (fun h => hQ1 _ (Prod.ext h rfl) (bx_in h2)) (fun h => hQ0 _ (Prod.ext h rfl))
theorem tX5_wr (hG : gGood G) (hb : gBase G ≤ hm) {p i n : Int} (hp : 0 ≤ p ∧ p < 6) (hi : 0 ≤ i ∧ i < 15) (hI : bx 0 (mI n μ)) (hn9 : n ≤ 800000) (hQ1 : ∀ ν, mwrites p.toNat i.toNat μ = (true, ν) → bx 0 (mI (n + 6) ν) → Q (some 1) ν) (hQ0 : ∀ ν, mwrites p.toNat i.toNat μ = (false, ν) → Q (some 0) ν) : bx 0 (gOKm G σ hm mX5_writes (fr + 3) [vr 0, vi p, vi i] μ Q) := by
  have hc := (bx_out hI).2.2.2.1 3 (by omega)
  have h2 := mI_writes (p := p.toNat) (i := i.toNat) (by omega) (bx_out hI)
  refine tX5_writes hG hb hp hi (by omega) (fun h => hQ1 _ (Prod.ext h rfl) (bx_in h2)) (fun h => hQ0 _ (Prod.ext h rfl))
theorem tX5_toH (hG : gGood G) (hb : gBase G ≤ hm) {p z ms fl n : Int} (hp : 0 ≤ p ∧ p < 6) (hz : inR z) (hms : inR ms ∧ ms ≠ 0) (hfl : inR fl ∧ fl ≠ 0) (hI : bx 0 (mI n μ)) (hn9 : n ≤ 800000) (hQ : ∀ r : Int × mS, mtoh p.toNat z ms fl μ = r → bx 0 (mI (n + 30) r.2) → inR r.1 → (r.1 = 0 → (0 ≤ r.2 27 0 ∧ r.2 27 0 ≤ 11) ∧ (0 ≤ r.2 28 0 ∧ r.2 28 0 ≤ 15) ∧ (-1 ≤ r.2 29 0 ∧ r.2 29 0 ≤ 11) ∧ mkd r.2 p.toNat (r.2 27 0).toNat = 2) → Q (some r.1) r.2) : bx 0 (gOKm G σ hm mX5_toHolder (fr + 5) [vr 0, vi p, vi z, vi ms, vi fl] μ Q) := by
  have hc := (bx_out hI).2.2.2.1 3 (by omega)
  have h1 := mtoh_r (p := p.toNat) (z := z) (by omega) (bx_out hI).1 hms.2 hfl.2
  have h2 := mI_toh (p := p.toNat) (z := z) (ms := ms) (fl := fl) (bx_out hI)
  refine tX5_toHolder hG hb hp hz hms hfl (bx_in (bx_out hI).1) (by omega) (hQ _ rfl (bx_in h2) ?_ ?_)
  · rcases h1 with h | h | h | h
    · rw [h.1]; decide
    · rw [h]; decide
    · rw [h]; exact hfl.1
    · rw [h]; exact hms.1
  · intro h0
    rcases h1 with h | h | h | h
    · exact h.2
    · rw [h] at h0; cases h0
    · rw [h] at h0; exact absurd h0 hfl.2
    · rw [h] at h0; exact absurd h0 hms.2
theorem tX5_don (hG : gGood G) (hb : gBase G ≤ hm) {p v f c n : Int} (hp : 0 ≤ p ∧ p < 6) (hv : inR f) (hf : inR c) (hI : bx 0 (mI n μ)) (hn9 : n ≤ 800000) (hQ : Q (some (mdone p.toNat v f c μ).1) (mdone p.toNat v f c μ).2) : bx 0 (gOKm G σ hm mX5_done (fr + 3) [vr 0, vi p, vi v, vi f, vi c] μ Q) := by
  have h := (bx_out hI)
  exact tX5_done hG hb hp hv hf (bx_in h.2.1) h.2.2.2.2.2.1 h.2.2.2.2.2.2 (bx_in (fun j hj => by have := h.2.2.2.1 j hj; omega)) hQ
theorem tX5_entr (hG : gGood G) (hb : gBase G ≤ hm) {p n : Int} (hp : 0 ≤ p ∧ p < 6) (hI : bx 0 (mI n μ)) (hn9 : n ≤ 800000) (hQ1 : μ 10 p.toNat = 0 → bx 0 (mI (n + 1) (menter p.toNat μ)) → Q (some 1) (menter p.toNat μ)) (hQ0 : μ 10 p.toNat = 1 → Q (some 0) (mrefuse2 p.toNat μ)) : bx 0 (gOKm G σ hm mX5_enter fr [vr 0, vi p] μ Q) := by
  have h := (bx_out hI).2.2.2.2.1
  exact tX5_enter hG hb hp (by omega) (fun q => hQ1 q (bx_in (mI_enter (bx_out hI)))) hQ0
theorem mcreate_1 {p i s : Nat} {k : Int} {μ : mS} : mcreate p i k μ 1 s = if s = 15 + 15 * p + i then 0 else μ 1 s := by
  simp only [mcreate, mcopy, mcopyk]; grind
def mmake (p : Nat) (k : Int) (μ : mS) : Int × mS :=
  if mspare μ 1 11 < 0 then (-1, μ)
  else if (mwrites p (μ 27 0).toNat μ).1 = false then (-1, (mwrites p (μ 27 0).toNat μ).2)
  else if (mwrites p (μ 27 0).toNat μ).2 1 (15 + 15 * p + (μ 27 0).toNat) = 5 then (-1, (mwrites p (μ 27 0).toNat μ).2)
  else (mspare μ 1 11, mappend p (μ 27 0).toNat (μ 28 0) (mspare μ 1 11) (mcreate p (mspare μ 1 11).toNat k (mwrites p (μ 27 0).toNat μ).2))
theorem tX5_make (hG : gGood G) (hb : gBase G ≤ hm) {p k n : Int} (hp : 0 ≤ p ∧ p < 6) (hk : 1 ≤ k ∧ k ≤ 2) (h27 : 0 ≤ μ 27 0 ∧ μ 27 0 ≤ 11) (h28 : 0 ≤ μ 28 0 ∧ μ 28 0 ≤ 15) (hkd : mkd μ p.toNat (μ 27 0).toNat = 2) (hI : bx 0 (mI n μ)) (hn9 : n ≤ 800000) (hQ : ∀ r : Int × mS, mmake p.toNat k μ = r → bx 0 (mI (n + 6) r.2) → (-1 ≤ r.1 ∧ r.1 ≤ 11) → Q (some r.1) r.2) : bx 0 (gOKm G σ hm mX5_make (fr + 4) [vr 0, vi p, vi k] μ Q) := by
  have hs := mspare_r μ 11 1
  have e27 : (mwrites p.toNat (μ 27 0).toNat μ).2 27 = μ 27 := mwrites_k rfl (by omega) (by omega)
  have e28 : (mwrites p.toNat (μ 27 0).toNat μ).2 28 = μ 28 := mwrites_k rfl (by omega) (by omega)
  have hI' := bx_out hI
  have e0 : (15 + 15 * p + μ 27 0).toNat = 15 + 15 * p.toNat + (μ 27 0).toNat := by omega
  have hc := hI'.2.2.2.1 3 (by omega)
  have hw := mI_writes (p := p.toNat) (i := (μ 27 0).toNat) (by omega) hI'
  have hw1 := hw.1.1 (15 + 15 * p.toNat + (μ 27 0).toNat) (by omega)
  have hw2 : (mwrites p.toNat (μ 27 0).toNat μ).1 = true → (mwrites p.toNat (μ 27 0).toNat μ).2 0 (15 + 15 * p.toNat + (μ 27 0).toNat) = 2 := fun h => by rw [mwrites_v (by omega) h 0 (by omega)]; exact hkd
  have hsp : (11 + 1 - 1 : Int).toNat = 11 := rfl
  have hi1 : (1 : Int).toNat = 1 := rfl
  refine okM (M := mX5_make) hG hb rfl okX5_make ?_
  repeat' (first | refine tX5_spare hG hb ?_ ?_ ?_ | refine tX5_writes hG hb ?_ ?_ ?_ ?_ ?_ | refine tX5_create hG hb ?_ ?_ ?_ ?_ | ((conv => whnf); first | refine And.intro ?_ ?_ | (intro h9; try simp only [oki23, oki24, oki25, oki26, oki27, oki28, oki29, oki30, not_true_eq_false, not_false_eq_true, e27, e28, hsp, hi1, e0] at h9)) | exact rfl | omega | (simp only [mlen]; omega) | exact Nat.le_of_ble_eq_true rfl | exact Or.inl rfl | exact Or.inr rfl | assumption | (show (_ : Int) ≤ _; grind) | (show (_ : Int) < _; grind) | (simp only [oki23, oki24, oki25, oki26, oki27, oki28, oki29, oki30, not_true_eq_false, not_false_eq_true, e27, e28, hsp, hi1, e0]; done) | (simp only [mlen, oki23, oki24, oki25, oki26, oki27, oki28, oki29, oki30, not_true_eq_false, not_false_eq_true, e27, e28, hsp, hi1, e0]; omega))
  · refine hQ (-1, μ) ?_ (bx_in (mI_le (by omega) hI')) ?_
    · unfold mmake; rw [if_pos (by assumption)]
    · dsimp only; omega
  · have ht : (mwrites p.toNat (μ 27 0).toNat μ).1 = true := by assumption
    have h2 := hw2 ht
    have h5 : (mwrites p.toNat (μ 27 0).toNat μ).2 1 (15 + 15 * p.toNat + (μ 27 0).toNat) < 5 := by omega
    simp only [e27, e28, hsp, hi1]
    conv => whnf
    refine tX5_append hG hb hp (by omega) (by omega) (by omega) ?_ ?_
    · rw [mcreate_1]
      split <;> omega
    · refine hQ (mspare μ 1 11, mappend p.toNat (μ 27 0).toNat (μ 28 0) (mspare μ 1 11) (mcreate p.toNat (mspare μ 1 11).toNat k (mwrites p.toNat (μ 27 0).toNat μ).2)) ?_ (bx_in (mI_append (by omega) ?_ (mI_create (by omega) (by omega) hw))) (by dsimp only; omega)
      · unfold mmake
        rw [if_neg (by assumption), if_neg (by rw [ht]; decide), if_neg (by omega)]
      · rw [mcreate_1]
        split <;> omega
  · refine hQ (-1, (mwrites p.toNat (μ 27 0).toNat μ).2) ?_ (bx_in hw) (by dsimp only; omega)
    unfold mmake
    rw [if_neg (by assumption), if_neg (by simp only [*]; decide), if_pos (by assumption)]
  · refine hQ (-1, (mwrites p.toNat (μ 27 0).toNat μ).2) ?_ (bx_in hw) (by dsimp only; omega)
    unfold mmake
    rw [if_neg (by assumption), if_pos (by assumption)]
end ML
