/-! the model's public members: write -/
section ML
variable {G : gG} {σ : gS} {hm fr : Nat} {μ : mS} {Q : mQ}
def mfilk (c k : Nat) (ν : mS) : mS := fun a j => if a = 3 ∧ 8 * c + (ν 1 c).toNat ≤ j ∧ j < 8 * c + (ν 1 c).toNat + k then 0 else if a = 1 ∧ j = c then ν 1 c + k else ν a j
theorem mfilk_s {c k : Nat} {ν : mS} : mup (mup (mfilk c k ν) 3 (8 * c + (ν 1 c).toNat + k) 0) 1 c (ν 1 c + k + 1) = mfilk c (k + 1) ν := by
  funext a j; simp only [mup, mfilk]; grind (splits := 20)
theorem mfilk_0 {c : Nat} {ν : mS} : mfilk c 0 ν = ν := by
  funext a j; simp only [mfilk]; grind
def mwrt3 (p x : Nat) (pipe : Bool) (c : Nat) (t v : Int) (ν : mS) : Int × mS :=
  mdone p (mfilk c (t + 1 - ν 1 c).toNat ν 1 c) 3 4 (if pipe = true then mup (mfilk c (t + 1 - ν 1 c).toNat ν) 3 (8 * c + t.toNat) v else mup (mup (mfilk c (t + 1 - ν 1 c).toNat ν) 3 (8 * c + t.toNat) v) 19 x (ν 19 x + 1))
theorem wrS (hG : gGood G) (hb : gBase G ≤ hm) {p : Int} : ∀ (ν : mS) (c : Nat) (x v t : Int) (pipe : Bool), 0 ≤ p → p < 6 → c < 105 → 0 ≤ x → x < 24 → inR v → 0 ≤ t → t ≤ 7 → 0 ≤ ν 1 c → ν 1 c ≤ 8 → 0 ≤ ν 19 x.toNat → ν 19 x.toNat ≤ 8 → bx 0 (mI 710000 ν) → Q (some (mwrt3 p.toNat x.toNat pipe c t v ν).1) (mwrt3 p.toNat x.toNat pipe c t v ν).2 → ∀ k : Nat, k ≤ (t + 1 - ν 1 c).toNat → bx 0 (mW G σ hm mX5_write (fr + 6) Q 160 [(0, vr 0), (1, vi p), (3, vi v), (4, vi x), (6, vi (b2i pipe)), (7, vi c), (8, vi t)] [] (mfilk c k ν)) := by
  intro ν c x v t pipe p0 p6 c105 x0 x24 hv t0 t7 m0 m8 y0 y8 hI hQ
  refine dn _ fun k hk ih => ?_
  have e1 : (8 * (c : Int) + (ν 1 c + k)).toNat = 8 * c + (ν 1 c).toNat + k := by omega
  have e2 : (8 * (c : Int) + t).toNat = 8 * c + t.toNat := by omega
  have e4 : mfilk c k ν 1 c = ν 1 c + k := by simp [mfilk]
  have e5 : ∀ y z, mup (mfilk c k ν) 3 y z 1 c = ν 1 c + k := fun y z => e4
  have e6 : ∀ y z, mup (mfilk c k ν) 3 y z 19 x.toNat = ν 19 x.toNat := fun y z => by show mfilk c k ν 19 x.toNat = _; simp [mfilk]
  have eb := b2i_r pipe
  refine okM_l (M := mX5_write) hG hb rfl okX5_write (fun pc => Nat.beq pc 160) ?_
  repeat' (first | ((conv => whnf); first | refine And.intro ?_ ?_ | (intro h9; try simp only [oki23, oki24, oki25, oki26, oki27, oki28, oki29, oki30, not_true_eq_false, not_false_eq_true, e4, e5, e6, Int.toNat_natCast] at h9)) | exact rfl | omega | (simp only [mlen]; omega) | exact Nat.le_of_ble_eq_true rfl | exact Or.inl rfl | exact Or.inr rfl | assumption | (simp only [oki23, oki24, oki25, oki26, oki27, oki28, oki29, oki30, not_true_eq_false, not_false_eq_true, e4, e5, e6, Int.toNat_natCast]; done) | (simp only [mlen, oki23, oki24, oki25, oki26, oki27, oki28, oki29, oki30, not_true_eq_false, not_false_eq_true, e4, e5, e6, Int.toNat_natCast]; omega))
  · have hp1 := b2i_1 h9
    have hkk : k = (t + 1 - ν 1 c).toNat := by omega
    subst hkk
    subst hp1
    unfold mwrt3 at hQ
    rw [if_pos rfl] at hQ
    simp only [e2, Int.toNat_natCast]
    conv => whnf
    refine tX5_dnc (ν := ν) hG hb (by omega) (by omega) (by omega) hI (by omega) (fun a ha h19 => ?_) ?_
    · have h3 : a ≠ 3 := by omega
      rw [mup_other _ _ _ h3]
      funext j; simp only [mfilk]; rw [if_neg (by omega), if_neg (by omega)]
    · exact hQ
  · have hp0 := b2i_0 ‹b2i pipe = 0›
    have hkk : k = (t + 1 - ν 1 c).toNat := by omega
    subst hkk
    subst hp0
    unfold mwrt3 at hQ
    rw [if_neg (by decide)] at hQ
    simp only [e2, e6, Int.toNat_natCast]
    conv => whnf
    refine tX5_dnc (ν := ν) hG hb (by omega) (by omega) (by omega) hI (by omega) (fun a ha h19 => ?_) ?_
    · have h3 : a ≠ 3 := by omega
      rw [mup_other _ _ _ h19, mup_other _ _ _ h3]
      funext j; simp only [mfilk]; rw [if_neg (by omega), if_neg (by omega)]
    · exact hQ
  · simp only [Int.toNat_natCast, e4, e5, e1]
    exact mWe (ih (by omega)) mfilk_s
def mwrt2 (p x : Nat) (pipe : Bool) (i v : Int) (w : Bool × mS) : Int × mS :=
  if w.1 = false then (0, mfail p 2 w.2)
  else if (if pipe = true then w.2 1 (15 + 15 * p + (i % 16).toNat) else w.2 19 x) = (if pipe = true then 6 else 8) then (0, mfail p 3 w.2)
  else mwrt3 p x pipe (15 + 15 * p + (i % 16).toNat) (if pipe = true then w.2 1 (15 + 15 * p + (i % 16).toNat) else w.2 19 x) v w.2
def mwrite (p d v : Int) (μ : mS) : Int × mS :=
  if mheld μ p d = false then (0, mup μ 26 0 1)
  else if ¬ μ 10 p.toNat = 0 then (0, mrefuse2 p.toNat μ)
  else if 16 ≤ μ 18 (4 * p.toNat + d.toNat) ∧ μ 19 (4 * p.toNat + d.toNat) = 0 then (0, mfail p.toNat 4 (menter p.toNat μ))
  else mwrt2 p.toNat (4 * p.toNat + d.toNat) (decide (16 ≤ μ 18 (4 * p.toNat + d.toNat))) (μ 18 (4 * p.toNat + d.toNat)) v (mwrites p.toNat (μ 18 (4 * p.toNat + d.toNat) % 16).toNat (menter p.toNat μ))
theorem wrX (hG : gGood G) (hb : gBase G ≤ hm) {p : Int} : ∀ (ν : mS) (i x v : Int) (pipe : Bool), 0 ≤ p → p < 6 → 0 ≤ i % 16 → i % 16 < 15 → 0 ≤ x → x < 24 → inR v → bx 0 (mI 700001 ν) → (pipe = true → mkd ν p.toNat (i % 16).toNat = 3) → Q (some (mwrt2 p.toNat x.toNat pipe i v (mwrites p.toNat (i % 16).toNat ν)).1) (mwrt2 p.toNat x.toNat pipe i v (mwrites p.toNat (i % 16).toNat ν)).2 → bx 0 (mW G σ hm mX5_write (fr + 6) Q 77 [(0, vr 0), (1, vi p), (3, vi v), (4, vi x), (5, vi i), (6, vi (b2i pipe))] [] ν) := by
  intro ν i x v pipe p0 p6 i0 i15 x0 x24 hv hI hpp hQ
  have ea := and15 i
  have e1 : (15 + 15 * p + i % 16) = ((15 + 15 * p.toNat + (i % 16).toNat : Nat) : Int) := by omega
  have eb := b2i_r pipe
  refine okM_l (M := mX5_write) hG hb rfl okX5_write (fun pc => Nat.beq pc 160) ?_
  repeat' (first | ((conv => whnf); first | refine And.intro ?_ ?_ | (intro h9; try simp only [oki23, oki24, oki25, oki26, oki27, oki28, oki29, oki30, not_true_eq_false, not_false_eq_true, ea, e1, Int.toNat_natCast] at h9) | refine tX5_wrr hG hb ?_ ?_ (by first | assumption | exact bx_in (mI_up (by omega) (bx_out (by assumption)))) (by omega) ?_ ?_ | refine tX5_fail hG hb ?_ ?_ ?_) | exact rfl | omega | (simp only [mlen]; omega) | exact Nat.le_of_ble_eq_true rfl | exact Or.inl rfl | exact Or.inr rfl | assumption | (simp only [oki23, oki24, oki25, oki26, oki27, oki28, oki29, oki30, not_true_eq_false, not_false_eq_true, ea, e1, Int.toNat_natCast]; done) | (simp only [mlen, oki23, oki24, oki25, oki26, oki27, oki28, oki29, oki30, not_true_eq_false, not_false_eq_true, ea, e1, Int.toNat_natCast]; omega))
  · rename_i r hr ht2 hIr _ _ _ hk _ hb0 _ _
    have hs := (bx_out hIr).1.1 (15 + 15 * p.toNat + (i % 16).toNat) (by omega)
    have hy := ((bx_out hIr).2.2.1 x.toNat (by omega)).2.2.1
    have hp0 := b2i_0 hb0
    subst hp0
    rw [hr, mwrt2, if_neg (by rw [ht2]; decide), if_neg (show ¬ (false = true) by decide), if_neg (show ¬ (false = true) by decide), if_neg (by assumption)] at hQ
    rw [ea, e1]
    exact mW_d 5 (mWe (wrS hG hb r.2 (15 + 15 * p.toNat + (i % 16).toNat) x v (r.2 19 x.toNat) false p0 p6 (by omega) x0 x24 hv (by omega) (by omega) (by omega) (by omega) (by omega) (by omega) (bx_in (mI_le (by omega) (bx_out hIr))) hQ 0 (by omega)) mfilk_0.symm)
  · rename_i r hr ht2 hIr _ _ _ hk _ hb0 _ _
    have hp0 := b2i_0 hb0
    subst hp0
    rw [hr, mwrt2, if_neg (by rw [ht2]; decide), if_neg (show ¬ (false = true) by decide), if_neg (show ¬ (false = true) by decide), if_pos (by assumption)] at hQ
    exact hQ
  · rename_i r hr ht2 hIr _ _ _ hk _ hb0 _ _
    have hs := (bx_out hIr).1.1 (15 + 15 * p.toNat + (i % 16).toNat) (by omega)
    have hy := ((bx_out hIr).2.2.1 x.toNat (by omega)).2.2.1
    have hp0 := b2i_1 hb0
    subst hp0
    have h3 := hpp rfl
    rw [hr, mwrt2, if_neg (by rw [ht2]; decide), if_pos rfl, if_pos rfl, if_neg (by assumption)] at hQ
    rw [ea, e1, Int.toNat_natCast]
    exact mW_d 5 (mWe (wrS hG hb r.2 (15 + 15 * p.toNat + (i % 16).toNat) x v (r.2 1 (15 + 15 * p.toNat + (i % 16).toNat)) true p0 p6 (by omega) x0 x24 hv (by omega) (by omega) (by omega) (by omega) (by omega) (by omega) (bx_in (mI_le (by omega) (bx_out hIr))) hQ 0 (by omega)) mfilk_0.symm)
  · rename_i r hr ht2 hIr _ _ _ hk _ hb0 _ _
    have hp0 := b2i_1 hb0
    subst hp0
    rw [hr, mwrt2, if_neg (by rw [ht2]; decide), if_pos rfl, if_pos rfl, if_pos (by assumption)] at hQ
    exact hQ
  · rename_i r hr hf2
    rw [hr, mwrt2, if_pos hf2] at hQ
    exact hQ
set_option maxHeartbeats 8000000 in
theorem tX5_write (hG : gGood G) (hb : gBase G ≤ hm) {p d v : Int} (hp : inR p) (hd : inR d) (hv : inR v) (hI : bx 0 (mI 700000 μ)) (hK : mheld μ p d = true → 16 ≤ μ 18 (4 * p.toNat + d.toNat) → mkd μ p.toNat (μ 18 (4 * p.toNat + d.toNat) % 16).toNat = 3) (hQ : Q (some (mwrite p d v μ).1) (mwrite p d v μ).2) : bx 0 (gOKm G σ hm mX5_write (fr + 6) [vr 0, vi p, vi d, vi v] μ Q) := by
  by_cases hh : mheld μ p d = false
  · unfold mwrite at hQ
    rw [if_pos hh] at hQ
    refine okM (M := mX5_write) hG hb rfl okX5_write ?_
    repeat' (first | ((conv => whnf); first | refine And.intro ?_ ?_ | (intro h9; try simp [oki23, oki24, oki25, oki26, oki27, oki28, oki29, oki30, mup, hh] at h9) | refine tX5_isHld hG hb ?_ ?_ ?_ ?_ | refine tX5_refuse hG hb ?_ ?_) | exact rfl | omega | (simp only [mlen]; omega) | exact Nat.le_of_ble_eq_true rfl | exact Or.inl rfl | exact Or.inr rfl | assumption | (simp [oki23, oki24, oki25, oki26, oki27, oki28, oki29, oki30, mup, hh]; done) | (simp [mlen, oki23, oki24, oki25, oki26, oki27, oki28, oki29, oki30, mup, hh]; omega))
  have hh2 : mheld μ p d = true := by simpa using hh
  have ht := mheld_t hh2
  have hK := hK hh2
  have hx := (bx_out hI).2.2.1 (4 * p.toNat + d.toNat) (by omega)
  have hx18 := hx.1
  have hx19 := hx.2.2.1
  clear hx
  have e0 : (4 * p + d).toNat = 4 * p.toNat + d.toNat := by omega
  have k18 : menter p.toNat μ 18 = μ 18 := menter_k (by omega)
  have k19 : menter p.toNat μ 19 = μ 19 := menter_k (by omega)
  have kk : ∀ i, mkd (menter p.toNat μ) p.toNat i = mkd μ p.toNat i := fun i => by unfold mkd mof; rw [menter_k (by omega), menter_k (by omega)]
  unfold mwrite at hQ
  rw [if_neg hh] at hQ
  by_cases h10 : μ 10 p.toNat = 0
  · rw [if_neg (by omega)] at hQ
    have h15 : 0 ≤ μ 18 (4 * p.toNat + d.toNat) % 16 ∧ μ 18 (4 * p.toNat + d.toNat) % 16 < 15 := by omega
    clear hx18
    generalize hx9 : μ 18 (4 * p.toNat + d.toNat) = i9 at *
    refine okM_e (M := mX5_write) hG hb rfl okX5_write (fun pc => Nat.beq pc 77) ?_
    repeat' (first | ((conv => whnf); first | refine And.intro ?_ ?_ | (intro h9; try simp only [oki23, oki24, oki25, oki26, oki27, oki28, oki29, oki30, not_true_eq_false, not_false_eq_true, e0, k18, k19, hx9, hh, Bool.true_eq_false, Bool.false_eq_true] at h9) | refine tX5_isHld hG hb ?_ ?_ ?_ ?_ | refine tX5_refuse hG hb ?_ ?_ | refine tX5_entr hG hb ?_ (by first | assumption | exact bx_in (mI_up (by omega) (bx_out (by assumption)))) (by omega) ?_ ?_ | refine tX5_fail hG hb ?_ ?_ ?_) | exact rfl | omega | (simp only [mlen]; omega) | exact Nat.le_of_ble_eq_true rfl | exact Or.inl rfl | exact Or.inr rfl | assumption | (simp only [oki23, oki24, oki25, oki26, oki27, oki28, oki29, oki30, not_true_eq_false, not_false_eq_true, e0, k18, k19, hx9, hh, Bool.true_eq_false, Bool.false_eq_true]; done) | (simp only [mlen, oki23, oki24, oki25, oki26, oki27, oki28, oki29, oki30, not_true_eq_false, not_false_eq_true, e0, k18, k19, hx9, hh, Bool.true_eq_false, Bool.false_eq_true]; omega))
    · rw [if_neg (by omega), decide_eq_false (by omega)] at hQ
      rw [k18, e0, hx9]
      exact mW_d 2 (wrX hG hb (menter p.toNat μ) i9 (4 * p + d) v false (by omega) (by omega) (by omega) (by omega) (by omega) (by omega) hv (by assumption) (fun h => absurd h (by decide)) (by rw [e0]; exact hQ))
    · rw [if_neg (by omega), decide_eq_true (by omega)] at hQ
      rw [k18, e0, hx9]
      exact mW_d 2 (wrX hG hb (menter p.toNat μ) i9 (4 * p + d) v true (by omega) (by omega) (by omega) (by omega) (by omega) (by omega) hv (by assumption) (fun _ => by rw [kk]; exact hK (by omega)) (by rw [e0]; exact hQ))
    · rw [if_pos ⟨by omega, h9⟩] at hQ
      exact hQ
  · rw [if_pos h10] at hQ
    refine okM_e (M := mX5_write) hG hb rfl okX5_write (fun pc => false) ?_
    repeat' (first | ((conv => whnf); first | refine And.intro ?_ ?_ | (intro h9; try simp only [oki23, oki24, oki25, oki26, oki27, oki28, oki29, oki30, not_true_eq_false, not_false_eq_true, hh, h10, Bool.true_eq_false, Bool.false_eq_true] at h9) | refine tX5_isHld hG hb ?_ ?_ ?_ ?_ | refine tX5_refuse hG hb ?_ ?_ | refine tX5_entr hG hb ?_ (by first | assumption | exact bx_in (mI_up (by omega) (bx_out (by assumption)))) (by omega) ?_ ?_) | exact rfl | omega | (simp only [mlen]; omega) | exact Nat.le_of_ble_eq_true rfl | exact Or.inl rfl | exact Or.inr rfl | assumption | (simp only [oki23, oki24, oki25, oki26, oki27, oki28, oki29, oki30, not_true_eq_false, not_false_eq_true, hh, h10, Bool.true_eq_false, Bool.false_eq_true]; done) | (simp only [mlen, oki23, oki24, oki25, oki26, oki27, oki28, oki29, oki30, not_true_eq_false, not_false_eq_true, hh, h10, Bool.true_eq_false, Bool.false_eq_true]; omega))
end ML
