/-! the model's public members: read, write -/
section ML
variable {G : gG} {σ : gS} {hm fr : Nat} {μ : mS} {Q : mQ}
theorem tX5_wrs (hG : gGood G) (hb : gBase G ≤ hm) {p i n : Int} (hp : 0 ≤ p ∧ p < 6) (hi : 0 ≤ i ∧ i < 15) (hI : bx 0 (mI n μ)) (hn9 : n ≤ 800000) (hQ1 : ∀ r : Bool × mS, mwrites p.toNat i.toNat μ = r → r.1 = true → bx 0 (mI (n + 6) r.2) → 0 ≤ r.2 1 (15 + 15 * p.toNat + i.toNat) → r.2 1 (15 + 15 * p.toNat + i.toNat) ≤ 8 → Q (some 1) r.2) (hQ0 : ∀ r : Bool × mS, mwrites p.toNat i.toNat μ = r → r.1 = false → Q (some 0) r.2) : bx 0 (gOKm G σ hm mX5_writes (fr + 3) [vr 0, vi p, vi i] μ Q) :=
  tX5_wrr hG hb hp hi hI hn9 (fun r h1 h2 h3 _ _ _ _ => by
    have hs := (bx_out h3).1.1 (15 + 15 * p.toNat + i.toNat) (by omega)
    exact hQ1 r h1 h2 h3 hs.2.2.1 hs.2.2.2.1) hQ0
def mshk (c k : Nat) (ν : mS) : mS := fun a j => if a = 3 ∧ 8 * c ≤ j ∧ j < 8 * c + k then ν 3 (j + 1) else if a = 1 ∧ j = c then ν 1 c - 1 else ν a j
theorem mshk_s {c k : Nat} {ν : mS} : mup (mshk c k ν) 3 (8 * c + k) (mshk c k ν 3 (8 * c + k + 1)) = mshk c (k + 1) ν := by
  funext a j; simp only [mup, mshk]; grind
theorem mshk_0 {c : Nat} {ν : mS} : mup ν 1 c (ν 1 c - 1) = mshk c 0 ν := by
  funext a j; simp only [mup, mshk]; grind
def mread2 (p : Nat) (i : Int) (w : Bool × mS) : Int × mS :=
  if w.1 = false then (0, mfail p 2 w.2)
  else if w.2 1 (15 + 15 * p + i.toNat) = 0 then (0, mfail p 3 w.2)
  else mdone p (w.2 3 (8 * (15 + 15 * p + i.toNat))) 9 9 (mshk (15 + 15 * p + i.toNat) (w.2 1 (15 + 15 * p + i.toNat) - 1).toNat w.2)
def mread3 (p x : Nat) (i : Int) (r : Bool × mS) : Int × mS :=
  if r.1 = false then (0, mfail p 2 r.2)
  else if r.2 1 (mof r.2 p i.toNat) ≤ r.2 19 x then (0, mfail p 3 r.2)
  else mdone p (r.2 3 (8 * mof r.2 p i.toNat + (r.2 19 x).toNat)) 9 9 (mup r.2 19 x (r.2 19 x + 1))
def mread (p d : Int) (μ : mS) : Int × mS :=
  if mheld μ p d = false then (0, mup μ 26 0 1)
  else if ¬ μ 10 p.toNat = 0 then (0, mrefuse2 p.toNat μ)
  else if 16 ≤ μ 18 (4 * p.toNat + d.toNat) then (if μ 19 (4 * p.toNat + d.toNat) = 1 then (0, mfail p.toNat 4 (menter p.toNat μ)) else mread2 p.toNat (μ 18 (4 * p.toNat + d.toNat) - 16) (mwrites p.toNat (μ 18 (4 * p.toNat + d.toNat) - 16).toNat (menter p.toNat μ)))
  else mread3 p.toNat (4 * p.toNat + d.toNat) (μ 18 (4 * p.toNat + d.toNat)) (mreads p.toNat (μ 18 (4 * p.toNat + d.toNat)).toNat (menter p.toNat μ))
theorem readS (hG : gGood G) (hb : gBase G ≤ hm) {p : Int} : ∀ (ν : mS) (i v : Int) (m : Nat), 0 ≤ p → p < 6 → 0 ≤ i → i ≤ 14 → ν 1 (15 + 15 * p.toNat + i.toNat) = m + 1 → m ≤ 7 → bx 0 (mI 710000 ν) → Q (some (mdone p.toNat v 9 9 (mshk (15 + 15 * p.toNat + i.toNat) m ν)).1) (mdone p.toNat v 9 9 (mshk (15 + 15 * p.toNat + i.toNat) m ν)).2 → ∀ k : Nat, k ≤ m → bx 0 (mW G σ hm mX5_read (fr + 6) Q 138 [(0, vr 0), (1, vi p), (5, vi (15 + 15 * p + i)), (6, vi v), (7, vi k)] [] (mshk (15 + 15 * p.toNat + i.toNat) k ν)) := by
  intro ν i v m p0 p6 i0 i14 hm9 m8 hI hQ
  refine dn _ fun k hk ih => ?_
  have e1 : (15 + 15 * p + i).toNat = 15 + 15 * p.toNat + i.toNat := by omega
  have e2 : (8 * (15 + 15 * p + i) + (k : Int)).toNat = 8 * (15 + 15 * p.toNat + i.toNat) + k := by omega
  have e3 : (8 * (15 + 15 * p + i) + (k : Int) + 1).toNat = 8 * (15 + 15 * p.toNat + i.toNat) + k + 1 := by omega
  have e4 : mshk (15 + 15 * p.toNat + i.toNat) k ν 1 (15 + 15 * p.toNat + i.toNat) = m := by simp [mshk, hm9]
  refine okM_l (M := mX5_read) hG hb rfl okX5_read (fun pc => Nat.beq pc 138) ?_
  repeat' (first | ((conv => whnf); first | refine And.intro ?_ ?_ | (intro h9; try simp only [oki23, oki24, oki25, oki26, oki27, oki28, oki29, oki30, not_true_eq_false, not_false_eq_true, e1, e4] at h9)) | exact rfl | omega | (simp only [mlen]; omega) | exact Nat.le_of_ble_eq_true rfl | exact Or.inl rfl | exact Or.inr rfl | assumption | (simp only [oki23, oki24, oki25, oki26, oki27, oki28, oki29, oki30, not_true_eq_false, not_false_eq_true, e1, e4]; done) | (simp only [mlen, oki23, oki24, oki25, oki26, oki27, oki28, oki29, oki30, not_true_eq_false, not_false_eq_true, e1, e4]; omega))
  · conv => whnf
    refine tX5_dnc hG hb (by omega) (by omega) (by omega) hI (by omega) (fun a ha _ => ?_) ?_
    · funext j; simp only [mshk]; rw [if_neg (by omega), if_neg (by omega)]
    · rw [show k = m by omega]; exact hQ
  · rw [e2, e3]
    exact mWe (ih (by omega)) mshk_s
theorem readF (hG : gGood G) (hb : gBase G ≤ hm) {p : Int} : ∀ (ν : mS) (i x : Int), 0 ≤ p → p < 6 → 0 ≤ i → i ≤ 14 → 0 ≤ x → x < 24 → bx 0 (mI 710000 ν) → Q (some (mread3 p.toNat x.toNat i (true, ν)).1) (mread3 p.toNat x.toNat i (true, ν)).2 → bx 0 (mW G σ hm mX5_read (fr + 6) Q 213 [(0, vr 0), (1, vi p), (3, vi x), (4, vi i)] [] ν) := by
  intro ν i x p0 p6 i0 i14 x0 x24 hI hQ
  have hx := (bx_out hI).2.2.1 x.toNat (by omega)
  have hx1 := hx.2.2.1
  have hs := (bx_out hI).1.1 (mof ν p.toNat i.toNat) (mof_lt (by omega) (by omega))
  clear hx
  unfold mread3 at hQ
  rw [if_neg (show ¬ (true, ν).1 = false from Bool.noConfusion)] at hQ
  dsimp only at hQ
  have hml : mof ν p.toNat i.toNat < 105 := mof_lt (by omega) (by omega)
  refine okM_l (M := mX5_read) hG hb rfl okX5_read (fun pc => false) ?_
  repeat' (first | ((conv => whnf); first | refine And.intro ?_ ?_ | (intro h9; try simp only [oki23, oki24, oki25, oki26, oki27, oki28, oki29, oki30, not_true_eq_false, not_false_eq_true, Int.toNat_natCast] at h9) | refine tX5_ofn hG hb ?_ ?_ ?_ | refine tX5_fail hG hb ?_ ?_ ?_) | exact rfl | omega | (simp only [mlen]; omega) | exact Nat.le_of_ble_eq_true rfl | exact Or.inl rfl | exact Or.inr rfl | assumption | (simp only [oki23, oki24, oki25, oki26, oki27, oki28, oki29, oki30, not_true_eq_false, not_false_eq_true, Int.toNat_natCast]; done) | (simp only [mlen, oki23, oki24, oki25, oki26, oki27, oki28, oki29, oki30, not_true_eq_false, not_false_eq_true, Int.toNat_natCast]; omega))
  all_goals subst_vars
  · simp only [mlen]; omega
  · rw [if_neg (by omega)] at hQ
    have e8 : (8 * ((mof ν p.toNat i.toNat : Nat) : Int) + ν 19 x.toNat).toNat = 8 * mof ν p.toNat i.toNat + (ν 19 x.toNat).toNat := by omega
    have e9 : ∀ y, mup ν 19 x.toNat (ν 19 x.toNat + 1) 3 y = ν 3 y := fun _ => rfl
    simp only [e8, e9]
    conv => whnf
    refine tX5_dnc (ν := ν) hG hb (by omega) (by omega) (by omega) hI (by omega) (fun a ha h19 => mup_other _ _ _ h19) ?_
    exact hQ
  · rw [if_pos (by omega)] at hQ
    exact hQ
set_option maxHeartbeats 8000000 in
theorem tX5_read (hG : gGood G) (hb : gBase G ≤ hm) {p d : Int} (hp : inR p) (hd : inR d) (hI : bx 0 (mI 700000 μ)) (hQ : Q (some (mread p d μ).1) (mread p d μ).2) : bx 0 (gOKm G σ hm mX5_read (fr + 6) [vr 0, vi p, vi d] μ Q) := by
  have s138 := readS (σ := σ) (fr := fr) (Q := Q) hG hb (p := p)
  by_cases hh : mheld μ p d = false
  · unfold mread at hQ
    rw [if_pos hh] at hQ
    refine okM (M := mX5_read) hG hb rfl okX5_read ?_
    repeat' (first | ((conv => whnf); first | refine And.intro ?_ ?_ | (intro h9; try simp [oki23, oki24, oki25, oki26, oki27, oki28, oki29, oki30, mup, hh] at h9) | refine tX5_isHld hG hb ?_ ?_ ?_ ?_ | refine tX5_refuse hG hb ?_ ?_) | exact rfl | omega | (simp only [mlen]; omega) | exact Nat.le_of_ble_eq_true rfl | exact Or.inl rfl | exact Or.inr rfl | assumption | (simp [oki23, oki24, oki25, oki26, oki27, oki28, oki29, oki30, mup, hh]; done) | (simp [mlen, oki23, oki24, oki25, oki26, oki27, oki28, oki29, oki30, mup, hh]; omega))
  have ht := mheld_t (μ := μ) (p := p) (d := d) (by simpa using hh)
  have hx := (bx_out hI).2.2.1 (4 * p.toNat + d.toNat) (by omega)
  have hx18 := hx.1
  have hx19 := hx.2.2.1
  clear hx
  have e0 : (4 * p + d).toNat = 4 * p.toNat + d.toNat := by omega
  have k18 : menter p.toNat μ 18 = μ 18 := menter_k (by omega)
  have k19 : menter p.toNat μ 19 = μ 19 := menter_k (by omega)
  have e1 : ∀ i : Int, 0 ≤ i → (15 + 15 * p + i).toNat = 15 + 15 * p.toNat + i.toNat := fun _ _ => by omega
  have e5 : ∀ i : Int, 0 ≤ i → (8 * (15 + 15 * p + i)).toNat = 8 * (15 + 15 * p.toNat + i.toNat) := fun _ _ => by omega
  have e6 : μ 18 (4 * p.toNat + d.toNat) + -16 = μ 18 (4 * p.toNat + d.toNat) - 16 := by omega
  unfold mread at hQ
  rw [if_neg hh] at hQ
  by_cases h10 : μ 10 p.toNat = 0
  · rw [if_neg (by omega)] at hQ
    by_cases hpi : 16 ≤ μ 18 (4 * p.toNat + d.toNat)
    · have hi : 28 ≤ μ 18 (4 * p.toNat + d.toNat) ∧ μ 18 (4 * p.toNat + d.toNat) ≤ 30 := by omega
      clear hx18
      rw [if_pos hpi] at hQ
      generalize hx9 : μ 18 (4 * p.toNat + d.toNat) = i9 at *
      refine okM_e (M := mX5_read) hG hb rfl okX5_read (fun pc => Nat.beq pc 138) ?_
      have e7 := e1 (i9 - 16) (by omega)
      have e8 := e5 (i9 - 16) (by omega)
      repeat' (first | ((conv => whnf); first | refine And.intro ?_ ?_ | (intro h9; try simp only [oki23, oki24, oki25, oki26, oki27, oki28, oki29, oki30, not_true_eq_false, not_false_eq_true, e0, k18, k19, hx9, e6, e7, e8, hh, Bool.true_eq_false, Bool.false_eq_true] at h9) | refine tX5_isHld hG hb ?_ ?_ ?_ ?_ | refine tX5_refuse hG hb ?_ ?_ | refine tX5_entr hG hb ?_ (by first | assumption | exact bx_in (mI_up (by omega) (bx_out (by assumption)))) (by omega) ?_ ?_ | refine tX5_wrs hG hb ?_ ?_ (by first | assumption | exact bx_in (mI_up (by omega) (bx_out (by assumption)))) (by omega) ?_ ?_ | refine tX5_fail hG hb ?_ ?_ ?_) | exact rfl | omega | (simp only [mlen]; omega) | exact Nat.le_of_ble_eq_true rfl | exact Or.inl rfl | exact Or.inr rfl | assumption | (simp only [oki23, oki24, oki25, oki26, oki27, oki28, oki29, oki30, not_true_eq_false, not_false_eq_true, e0, k18, k19, hx9, e6, e7, e8, hh, Bool.true_eq_false, Bool.false_eq_true]; done) | (simp only [mlen, oki23, oki24, oki25, oki26, oki27, oki28, oki29, oki30, not_true_eq_false, not_false_eq_true, e0, k18, k19, hx9, e6, e7, e8, hh, Bool.true_eq_false, Bool.false_eq_true]; omega))
      · rename_i r hr ht2 hIr hr0 hr8 _ _ hne _
        obtain ⟨m, hm9⟩ : ∃ m : Nat, r.2 1 (15 + 15 * p.toNat + (i9 - 16).toNat) = m + 1 := ⟨(r.2 1 (15 + 15 * p.toNat + (i9 - 16).toNat) - 1).toNat, by omega⟩
        rw [if_neg (by assumption), hr, mread2, if_neg (by rw [ht2]; decide), if_neg hne, show (r.2 1 (15 + 15 * p.toNat + (i9 - 16).toNat) - 1).toNat = m by omega] at hQ
        rw [k18, e0, hx9, e6, e7, e8]
        exact mW_d 4 (mW_d 3 (mW_d 2 (mWe (s138 r.2 (i9 - 16) (r.2 3 (8 * (15 + 15 * p.toNat + (i9 - 16).toNat))) m (by omega) (by omega) (by omega) (by omega) hm9 (by omega) (bx_in (mI_le (by omega) (bx_out hIr))) hQ 0 (by omega)) mshk_0)))
      · rename_i r hr ht2 hIr _ _ _ _
        rw [if_neg (by assumption), hr, mread2, if_neg (by rw [ht2]; decide), if_pos h9] at hQ
        exact hQ
      · rename_i r hr hf2
        rw [if_neg (by assumption), hr, mread2, if_pos hf2] at hQ
        exact hQ
      · rw [if_pos (by assumption)] at hQ
        exact hQ
    · have hi : 0 ≤ μ 18 (4 * p.toNat + d.toNat) ∧ μ 18 (4 * p.toNat + d.toNat) ≤ 11 := by omega
      clear hx18
      rw [if_neg hpi] at hQ
      generalize hx9 : μ 18 (4 * p.toNat + d.toNat) = i9 at *
      refine okM_e (M := mX5_read) hG hb rfl okX5_read (fun pc => Nat.beq pc 213) ?_
      repeat' (first | ((conv => whnf); first | refine And.intro ?_ ?_ | (intro h9; try simp only [oki23, oki24, oki25, oki26, oki27, oki28, oki29, oki30, not_true_eq_false, not_false_eq_true, e0, k18, k19, hx9, hh, Bool.true_eq_false, Bool.false_eq_true] at h9) | refine tX5_isHld hG hb ?_ ?_ ?_ ?_ | refine tX5_refuse hG hb ?_ ?_ | refine tX5_entr hG hb ?_ (by first | assumption | exact bx_in (mI_up (by omega) (bx_out (by assumption)))) (by omega) ?_ ?_ | refine tX5_rdr hG hb ?_ ?_ (by first | assumption | exact bx_in (mI_up (by omega) (bx_out (by assumption)))) (by omega) ?_ ?_ | refine tX5_fail hG hb ?_ ?_ ?_) | exact rfl | omega | (simp only [mlen]; omega) | exact Nat.le_of_ble_eq_true rfl | exact Or.inl rfl | exact Or.inr rfl | assumption | (simp only [oki23, oki24, oki25, oki26, oki27, oki28, oki29, oki30, not_true_eq_false, not_false_eq_true, e0, k18, k19, hx9, hh, Bool.true_eq_false, Bool.false_eq_true]; done) | (simp only [mlen, oki23, oki24, oki25, oki26, oki27, oki28, oki29, oki30, not_true_eq_false, not_false_eq_true, e0, k18, k19, hx9, hh, Bool.true_eq_false, Bool.false_eq_true]; omega))
      · rename_i r hr ht2 hIr _ _ _
        rw [hr] at hQ
        rw [k18, e0, hx9]
        have er : r = (true, r.2) := Prod.ext ht2 rfl
        rw [er] at hQ
        exact mW_d 2 (readF hG hb r.2 i9 (4 * p + d) (by omega) (by omega) (by omega) (by omega) (by omega) (by omega) (bx_in (mI_le (by omega) (bx_out hIr))) (by rw [e0]; exact hQ))
      · rename_i r hr hf2
        rw [hr, mread3, if_pos hf2] at hQ
        exact hQ
  · rw [if_pos h10] at hQ
    refine okM_e (M := mX5_read) hG hb rfl okX5_read (fun pc => false) ?_
    repeat' (first | ((conv => whnf); first | refine And.intro ?_ ?_ | (intro h9; try simp only [oki23, oki24, oki25, oki26, oki27, oki28, oki29, oki30, not_true_eq_false, not_false_eq_true, hh, h10, Bool.true_eq_false, Bool.false_eq_true] at h9) | refine tX5_isHld hG hb ?_ ?_ ?_ ?_ | refine tX5_refuse hG hb ?_ ?_ | refine tX5_entr hG hb ?_ (by first | assumption | exact bx_in (mI_up (by omega) (bx_out (by assumption)))) (by omega) ?_ ?_) | exact rfl | omega | (simp only [mlen]; omega) | exact Nat.le_of_ble_eq_true rfl | exact Or.inl rfl | exact Or.inr rfl | assumption | (simp only [oki23, oki24, oki25, oki26, oki27, oki28, oki29, oki30, not_true_eq_false, not_false_eq_true, hh, h10, Bool.true_eq_false, Bool.false_eq_true]; done) | (simp only [mlen, oki23, oki24, oki25, oki26, oki27, oki28, oki29, oki30, not_true_eq_false, not_false_eq_true, hh, h10, Bool.true_eq_false, Bool.false_eq_true]; omega))
end ML
