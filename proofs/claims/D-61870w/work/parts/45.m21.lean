/-! the model's public members: rename -/
theorem mfind_cc {μ ν : mS} (h3 : ν 3 = μ 3) (h4 : ν 4 = μ 4) {c : Nat} {n : Int} : ∀ m k : Nat, mfind ν c n k m = mfind μ c n k m := by
  intro m
  induction m with
  | zero => intro k; rfl
  | succ m ih => intro k; rw [mfind, mfind, h3, h4, ih]
theorem mlook_c {μ ν : mS} (h : ∀ a, a ≤ 5 → ν a = μ a) (p i : Nat) (n : Int) : mlook ν p i n = mlook μ p i n := by
  have e : mof ν p i = mof μ p i := by unfold mof; rw [h 5 (by omega)]
  unfold mlook
  rw [e, h 1 (by omega)]
  exact mfind_cc (h 3 (by omega)) (h 4 (by omega)) _ _
theorem mtoh_f {p : Nat} {z ms fl : Int} {μ : mS} (hms : ms ≠ 0) (hfl : fl ≠ 0) (h : (mtoh p z ms fl μ).1 = 0) : mlook (mtoh p z ms fl μ).2 p ((mtoh p z ms fl μ).2 27 0).toNat ((mtoh p z ms fl μ).2 28 0) = (mtoh p z ms fl μ).2 29 0 := by
  unfold mtoh at h ⊢
  split at h
  · exact absurd h hfl
  · rename_i h1
    rw [if_neg h1]
    split at h
    · rename_i h2
      exact absurd h h2
    · rename_i h2
      rw [if_neg h2]
      generalize mup (mup (mwalk p z ms fl 0 (mplen z 0 4 - 1) (mup μ 29 0 0)).2 27 0 ((mwalk p z ms fl 0 (mplen z 0 4 - 1) (mup μ 29 0 0)).2 29 0)) 28 0 (dig z (mplen z 0 4 - 1)) = ν at *
      unfold mtoh2 at h ⊢
      split at h
      · cases h
      · rename_i h3
        rw [if_neg h3]
        split at h
        · exact absurd h hfl
        · rename_i h4
          rw [if_neg h4]
          dsimp only
          rw [mup_ss, mup_other _ _ _ (by omega : (27:Nat) ≠ 29), mup_other _ _ _ (by omega : (28:Nat) ≠ 29), mreads_k rfl, mreads_k rfl]
          exact mlook_c (fun a ha => mup_other _ _ _ (by omega)) _ _ _
theorem mren_lt {p h f : Nat} {old n : Int} {ν : mS} {r1 r2 : Bool × mS} (hp : p < 6) (hf : f < 15) (hh : h < 15) (hr1 : mwrites p f ν = r1) (ht1 : r1.1 = true) (hr2 : mwrites p h r1.2 = r2) (ht2 : r2.1 = true) (hI : mI n r2.2) (hk : mkd ν p h = 2) (hm5 : h = f ∨ ¬ r2.2 1 (15 + 15 * p + h) = 5) (hex : h = f → ∃ j, j < (ν 1 (mof ν p f)).toNat ∧ ν 3 (8 * mof ν p f + j) = old) (hm8 : ν 1 (mof ν p f) ≤ 8) : mremove p f old r2.2 1 (15 + 15 * p + h) < 5 := by
  have v1 : mview p ν r1.2 := by rw [← hr1]; exact mview_writes hf (by rw [hr1]; exact ht1)
  have v2 : mview p r1.2 r2.2 := by rw [← hr2]; exact mview_writes hh (by rw [hr2]; exact ht2)
  have v := mview_trans v1 v2
  have w5 : ¬ r2.2 5 (15 * p + h) = 0 := by rw [← hr2]; exact mwrites_5 (by rw [hr2]; exact ht2)
  have em : mof r2.2 p h = 15 + 15 * p + h := by unfold mof; rw [if_neg w5]
  have hk2 : r2.2 0 (15 + 15 * p + h) = 2 := by rw [← em, (v h hh).1 0 (by omega)]; exact hk
  have hs := hI.1.1 (15 + 15 * p + h) (by omega)
  rw [mremove_1]
  split
  · rename_i e
    have e : h = f := by omega
    subst e
    obtain ⟨j, hj, hj2⟩ := hex rfl
    have e1 : r2.2 1 (15 + 15 * p + h) = ν 1 (mof ν p h) := by rw [← em, (v h hh).1 1 (by omega)]
    have e3 : r2.2 3 (8 * (15 + 15 * p + h) + j) = old := by rw [← em, (v h hh).2 3 j (by omega) (by omega)]; exact hj2
    have := mremk_lt (c := 15 + 15 * p + h) (n := old) (μ := r2.2) (r2.2 1 (15 + 15 * p + h)).toNat ⟨j, by rw [e1]; exact hj, e3⟩
    omega
  · clear hex; omega
section ML
variable {G : gG} {σ : gS} {hm fr : Nat} {μ : mS} {Q : mQ}
/-- whether a path begins another, as the code asks it -/
def mbeg (z z2 : Int) : Bool := decide (mplen z 0 4 ≤ mplen z2 0 4 ∧ (Int32.ofInt z2 &&& Int32.ofInt ((Int32.ofInt 1 <<< (Int32.ofInt (4 * (mplen z 0 4 : Nat)) &&& 31)).toInt - 1)).toInt = z)
def mren4 (p : Nat) (i f : Int) (old : Int) (w : Bool × mS) : Int × mS :=
  if w.1 = false then (0, mfail p 2 w.2)
  else if ¬ w.2 27 0 = f ∧ w.2 1 (15 + 15 * p + (w.2 27 0).toNat) = 5 then (0, mfail p 4 w.2)
  else mdone p i 4 5 (mappend p (w.2 27 0).toNat (w.2 28 0) i (mremove p f.toNat old w.2))
def mren3 (p : Nat) (i f : Int) (old : Int) (w : Bool × mS) : Int × mS := if w.1 = false then (0, mfail p 2 w.2) else mren4 p i f old (mwrites p (w.2 27 0).toNat w.2)
def mren2 (p : Nat) (i f : Int) (old : Int) (r : Int × mS) : Int × mS := if ¬ r.1 = 0 then (0, mfail p r.1 r.2) else if 0 ≤ r.2 29 0 then (0, mfail p 5 r.2) else mren3 p i f old (mwrites p f.toNat r.2)
def mren1 (p : Nat) (z2 : Int) (r : Int × mS) : Int × mS := if ¬ r.1 = 0 then (0, mfail p r.1 r.2) else if r.2 29 0 < 0 then (0, mfail p 3 r.2) else mren2 p (r.2 29 0) (r.2 27 0) (r.2 28 0) (mtoh p z2 3 5 r.2)
def mrename (p z z2 : Int) (μ : mS) : Int × mS :=
  if mproc μ p = false ∨ mpath z = false ∨ mpath z2 = false then (0, mup μ 26 0 1)
  else if ¬ μ 10 p.toNat = 0 then (0, mrefuse2 p.toNat μ)
  else if mbeg z z2 = true then (0, mfail p.toNat 5 (menter p.toNat μ))
  else mren1 p.toNat z2 (mtoh p.toNat z 3 5 (menter p.toNat μ))
theorem tX5_rename (hG : gGood G) (hb : gBase G ≤ hm) {p z z2 : Int} (hp : inR p) (hz : inR z) (hz2 : inR z2) (hI : bx 0 (mI 700000 μ)) (hQ : Q (some (mrename p z z2 μ).1) (mrename p z z2 μ).2) : bx 0 (gOKm G σ hm mX5_rename (fr + 6) [vr 0, vi p, vi z, vi z2] μ Q) := by
  have e1 : ∀ i : Int, 0 ≤ p → 0 ≤ i → (15 + 15 * p + i).toNat = 15 + 15 * p.toNat + i.toNat := fun _ _ _ => by omega
  unfold mrename at hQ
  have ib : inR (Int32.ofInt z2 &&& Int32.ofInt ((Int32.ofInt 1 <<< (Int32.ofInt (4 * (mplen z 0 4 : Nat)) &&& 31)).toInt - 1)).toInt := by
    have := Int32.toInt_lt (Int32.ofInt z2 &&& Int32.ofInt ((Int32.ofInt 1 <<< (Int32.ofInt (4 * (mplen z 0 4 : Nat)) &&& 31)).toInt - 1))
    have := Int32.le_toInt (Int32.ofInt z2 &&& Int32.ofInt ((Int32.ofInt 1 <<< (Int32.ofInt (4 * (mplen z 0 4 : Nat)) &&& 31)).toInt - 1))
    exact ⟨by omega, by omega⟩
  have s157 : ∀ (ν : mS) (i f old : Int), 0 ≤ p → p < 6 → 0 ≤ i → i ≤ 11 → 0 ≤ f → f ≤ 11 → inR old → 0 ≤ ν 27 0 → ν 27 0 ≤ 11 → 0 ≤ ν 28 0 → ν 28 0 ≤ 15 → bx 0 (mI 710000 ν) → mkd ν p.toNat (ν 27 0).toNat = 2 → bx 0 (∃ j, j < (ν 1 (mof ν p.toNat f.toNat)).toNat ∧ ν 3 (8 * mof ν p.toNat f.toNat + j) = old) → Q (some (mren3 p.toNat i f old (mwrites p.toNat f.toNat ν)).1) (mren3 p.toNat i f old (mwrites p.toNat f.toNat ν)).2 → bx 0 (mW G σ hm mX5_rename (fr + 6) Q 157 [(0, vr 0), (1, vi p), (6, vi i), (7, vi f), (8, vi old)] [] ν) := by
    intro ν i f old p0 p6 i0 i11 f0 f11 ho a0 a1 b0 b1 hI hkd hex hQ
    have hm8 := ((bx_out hI).1.1 (mof ν p.toNat f.toNat) (mof_lt (by omega) (by omega)))
    unfold mren3 mren4 at hQ
    have k27 : ∀ (h : Nat) m (w : mS), mremove p.toNat h m w 27 0 = w 27 0 := fun h m w => by rw [mremove_k (by omega) (by omega) (by omega)]
    have k28 : ∀ (h : Nat) m (w : mS), mremove p.toNat h m w 28 0 = w 28 0 := fun h m w => by rw [mremove_k (by omega) (by omega) (by omega)]
    refine okM_l (M := mX5_rename) hG hb rfl okX5_rename (fun pc => false) ?_
    repeat' (first | ((conv => whnf); first | refine And.intro ?_ ?_ | (intro h9; try simp only [oki23, oki24, oki25, oki26, oki27, oki28, oki29, oki30, not_true_eq_false, not_false_eq_true, k27, k28, mup_ss] at h9) | refine tX5_wrr hG hb ?_ ?_ (by first | assumption | exact bx_in (mI_up (by omega) (bx_out (by assumption)))) (by omega) ?_ ?_ | refine tX5_fail hG hb ?_ ?_ ?_ | refine tX5_rem hG hb ?_ ?_ ?_ (by first | assumption | exact bx_in (mI_up (by omega) (bx_out (by assumption)))) (by omega) ?_) | exact rfl | omega | (simp only [mlen]; omega) | exact Nat.le_of_ble_eq_true rfl | exact Or.inl rfl | exact Or.inr rfl | assumption | (show (_ : Int) ≤ _; grind) | (show (_ : Int) < _; grind) | (simp only [oki23, oki24, oki25, oki26, oki27, oki28, oki29, oki30, not_true_eq_false, not_false_eq_true, k27, k28, mup_ss]; done) | (simp only [mlen, oki23, oki24, oki25, oki26, oki27, oki28, oki29, oki30, not_true_eq_false, not_false_eq_true, k27, k28, mup_ss]; omega))
    · rename_i r1 hr1 ht1 hI1 e27 e28 e29 hkf _ _ r2 hr2 ht2 hI2 g27 g28 g29 hk2 _ _ heq hIr _
      have hlt := mren_lt (h := (r1.2 27 0).toNat) (f := f.toNat) (old := old) (p := p.toNat) (by omega) (by omega) (by omega) hr1 ht1 hr2 ht2 (bx_out hI2) (by rw [e27]; exact hkd) (Or.inl (by omega)) (fun _ => bx_out hex) (by omega)
      rw [hr1, if_neg (by rw [ht1]; decide), hr2, if_neg (by rw [ht2]; decide), if_neg (by omega)] at hQ
      simp only [k27, k28]
      conv => whnf
      refine tX5_app hG hb (by omega) (by omega) (by omega) (by omega) (by rw [g27]; exact hlt) hIr (by omega) (fun hI9 => ?_)
      repeat' (first | ((conv => whnf); first | refine And.intro ?_ ?_ | intro h9 | refine tX5_don hG hb ?_ ?_ ?_ (by first | assumption | exact bx_in (mI_up (by omega) (bx_out (by assumption)))) (by omega) ?_) | exact rfl | omega | (simp only [mlen]; omega) | exact Nat.le_of_ble_eq_true rfl | exact Or.inl rfl | exact Or.inr rfl | assumption | (show (_ : Int) ≤ _; grind) | (show (_ : Int) < _; grind))
    · rename_i r1 hr1 ht1 hI1 e27 e28 e29 hkf _ _ r2 hr2 ht2 hI2 g27 g28 g29 hk2 _ _ heq _ _ hm5 hIr _
      rw [g27, e1 _ (by omega) (by omega)] at hm5
      have hlt := mren_lt (h := (r1.2 27 0).toNat) (f := f.toNat) (old := old) (p := p.toNat) (by omega) (by omega) (by omega) hr1 ht1 hr2 ht2 (bx_out hI2) (by rw [e27]; exact hkd) (Or.inr hm5) (fun _ => bx_out hex) (by omega)
      rw [hr1, if_neg (by rw [ht1]; decide), hr2, if_neg (by rw [ht2]; decide), if_neg (by rw [g27]; omega)] at hQ
      simp only [k27, k28]
      conv => whnf
      refine tX5_app hG hb (by omega) (by omega) (by omega) (by omega) (by rw [g27]; exact hlt) hIr (by omega) (fun hI9 => ?_)
      repeat' (first | ((conv => whnf); first | refine And.intro ?_ ?_ | intro h9 | refine tX5_don hG hb ?_ ?_ ?_ (by first | assumption | exact bx_in (mI_up (by omega) (bx_out (by assumption)))) (by omega) ?_) | exact rfl | omega | (simp only [mlen]; omega) | exact Nat.le_of_ble_eq_true rfl | exact Or.inl rfl | exact Or.inr rfl | assumption | (show (_ : Int) ≤ _; grind) | (show (_ : Int) < _; grind))
    · rename_i r1 hr1 ht1 hI1 e27 e28 e29 hkf _ _ r2 hr2 ht2 hI2 g27 g28 g29 hk2 _ _ hne _ _
      rw [e1 _ (by omega) (by omega)] at h9
      rw [hr1, if_neg (by rw [ht1]; decide), hr2, if_neg (by rw [ht2]; decide), if_pos ⟨hne, h9⟩] at hQ
      exact hQ
    · subst_vars
      rw [if_neg (by simp [*]), if_pos (by assumption)] at hQ
      exact hQ
    · subst_vars
      rw [if_pos (by assumption)] at hQ
      exact hQ
  have s74 : 0 ≤ p → p < 6 → bx 0 (mI 700001 (menter p.toNat μ)) → Q (some (mren1 p.toNat z2 (mtoh p.toNat z 3 5 (menter p.toNat μ))).1) (mren1 p.toNat z2 (mtoh p.toNat z 3 5 (menter p.toNat μ))).2 → bx 0 (mW G σ hm mX5_rename (fr + 6) Q 74 [(0, vr 0), (1, vi p), (2, vi z), (3, vi z2)] [] (menter p.toNat μ)) := by
    intro p0 p6 hI hQ
    refine okM_l (M := mX5_rename) hG hb rfl okX5_rename (fun pc => Nat.beq pc 157) ?_
    repeat' (first | ((conv => whnf); first | refine And.intro ?_ ?_ | (intro h9; try simp only [oki23, oki24, oki25, oki26, oki27, oki28, oki29, oki30, not_true_eq_false, not_false_eq_true, Int.toNat_natCast] at h9) | refine tX5_toH hG hb ?_ ?_ ?_ ?_ (by first | assumption | exact bx_in (mI_up (by omega) (bx_out (by assumption)))) (by omega) ?_ | refine tX5_fail hG hb ?_ ?_ ?_) | exact rfl | omega | (simp only [mlen]; omega) | exact Nat.le_of_ble_eq_true rfl | exact Or.inl rfl | exact Or.inr rfl | assumption | (show (_ : Int) ≤ _; grind) | (show (_ : Int) < _; grind) | (simp only [oki23, oki24, oki25, oki26, oki27, oki28, oki29, oki30, not_true_eq_false, not_false_eq_true, Int.toNat_natCast]; done) | (simp only [mlen, oki23, oki24, oki25, oki26, oki27, oki28, oki29, oki30, not_true_eq_false, not_false_eq_true, Int.toNat_natCast]; omega))
    · subst_vars
      rw [mren1, if_pos (by assumption)] at hQ
      exact hQ
    · rename_i r0 hr0 hI0 _ f0 _ _ _ _ _ _ r1 hr1 hI1 _ f1 _ _
      have f0 := f0 (by omega)
      have f1 := f1 (by omega)
      have hs := (bx_out hI0).1.1 (mof r0.2 p.toNat (r0.2 27 0).toNat) (mof_lt (by omega) (by omega))
      have hv : mview p.toNat r0.2 r1.2 := by rw [← hr1]; exact mview_toh (by omega) (by omega) (by rw [hr1]; omega)
      have hl : mlook r0.2 p.toNat (r0.2 27 0).toNat (r0.2 28 0) = r0.2 29 0 := by rw [← hr0]; exact mtoh_f (by omega) (by omega) (by rw [hr0]; omega)
      have hl1 := mview_look hv (h := (r0.2 27 0).toNat) (n := r0.2 28 0) (by omega) (by omega)
      rw [hr0, mren1, if_neg (by omega), if_neg (by omega), hr1, mren2, if_neg (by omega), if_neg (by omega)] at hQ
      refine mW_d 5 (mW_d 3 (mW_d 2 (s157 r1.2 (r0.2 29 0) (r0.2 27 0) (r0.2 28 0) (by omega) (by omega) (by omega) (by omega) (by omega) (by omega) (by omega) (by omega) (by omega) (by omega) (by omega) (bx_in (mI_le (by omega) (bx_out hI1))) (by omega) (bx_in ?_) hQ)))
      obtain ⟨j, _, h2, h3⟩ := mfind_ex (μ := r1.2) (c := mof r1.2 p.toNat (r0.2 27 0).toNat) (n := r0.2 28 0) (r1.2 1 (mof r1.2 p.toNat (r0.2 27 0).toNat)).toNat 0 (by
        have : mlook r1.2 p.toNat (r0.2 27 0).toNat (r0.2 28 0) ≠ -1 := by omega
        exact this)
      exact ⟨j, by omega, h3⟩
    all_goals subst_vars
    all_goals simp only [mren1, mren2] at hQ
    all_goals (conv => whnf)
    all_goals (repeat' split at hQ) <;> first | exact hQ | (exfalso; omega) | (exfalso; simp_all; done)
  refine okM_e (M := mX5_rename) hG hb rfl okX5_rename (fun pc => Nat.beq pc 74) ?_
  repeat' (first | ((conv => whnf); first | refine And.intro ?_ ?_ | (intro h9; try simp only [oki23, oki24, oki25, oki26, oki27, oki28, oki29, oki30, not_true_eq_false, not_false_eq_true, Int.toNat_natCast] at h9) | refine tX5_isProc hG hb ?_ ?_ ?_ | refine tX5_isPath hG hb ?_ ?_ ?_ | refine tX5_refuse hG hb ?_ ?_ | refine tX5_entr hG hb ?_ (by first | assumption | exact bx_in (mI_up (by omega) (bx_out (by assumption)))) (by omega) ?_ ?_ | refine tX5_len hG hb ?_ ?_ | refine tX5_fail hG hb ?_ ?_ ?_) | exact rfl | omega | (simp only [mlen]; omega) | exact Nat.le_of_ble_eq_true rfl | exact Or.inl rfl | exact Or.inr rfl | assumption | (show (_ : Int) ≤ _; grind) | (show (_ : Int) < _; grind) | (simp only [oki23, oki24, oki25, oki26, oki27, oki28, oki29, oki30, not_true_eq_false, not_false_eq_true, Int.toNat_natCast]; done) | (simp only [mlen, oki23, oki24, oki25, oki26, oki27, oki28, oki29, oki30, not_true_eq_false, not_false_eq_true, Int.toNat_natCast]; omega))
  · have hbg : mbeg z z2 = false := decide_eq_false (by omega)
    rw [if_neg (by simp [*]), if_neg (by omega), if_neg (by rw [hbg]; decide)] at hQ
    exact mW_d 4 (s74 (by omega) (by omega) (by assumption) hQ)
  · have hbg : mbeg z z2 = false := decide_eq_false (by rintro ⟨_, h⟩; exact h9 h)
    rw [if_neg (by simp [*]), if_neg (by omega), if_neg (by rw [hbg]; decide)] at hQ
    exact mW_d 4 (s74 (by omega) (by omega) (by assumption) hQ)
  · have hbg : mbeg z z2 = true := decide_eq_true ⟨by omega, h9⟩
    rw [if_neg (by simp [*]), if_neg (by omega), if_pos hbg] at hQ
    exact hQ
  all_goals (conv => whnf)
  all_goals (repeat' split at hQ) <;> first | exact hQ | (exfalso; omega) | (exfalso; simp_all; done)
end ML
