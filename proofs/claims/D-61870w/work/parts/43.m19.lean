/-! the model's public members: pipe, link, unlink, rename -/
def mL (n : Int) (μ : mS) : Prop := ∀ s, s < 105 → -n ≤ μ 2 s ∧ μ 2 s ≤ n
theorem mL_c {n : Int} {μ μ' : mS} (e : μ' 2 = μ 2) (h : mL n μ) : mL n μ' := by unfold mL at h ⊢; rw [e]; exact h
theorem mL_copy {n : Int} {f t : Nat} {μ : mS} (hf : f < 105) (h : mL n μ) : mL n (mcopy f t μ) := by
  intro s hs
  have h1 := h s hs
  have h2 := h f hf
  have e : mcopy f t μ 2 s = if s = t then μ 2 f else μ 2 s := by simp [mcopy, mcopyk]
  rw [e]; split <;> assumption
theorem mL_writes {n : Int} {p i : Nat} {μ : mS} (hi : i < 15) (h : mL n μ) : mL n (mwrites p i μ).2 := by
  unfold mwrites
  split
  · split
    · exact mL_copy (by omega) (mL_c (show (mmeet p i 1 μ).2 2 = μ 2 from mmeet_k rfl) h)
    · exact mL_c (mmeet_k rfl) h
  · exact h
theorem mwalk_k {p a : Nat} {z ms fl : Int} (h : mkeep a = true) (h29 : a ≠ 29) : ∀ (n k : Nat) (μ : mS), (mwalk p z ms fl k n μ).2 a = μ a := by
  intro n
  induction n with
  | zero => intro k μ; rfl
  | succ n ih =>
    intro k μ
    rw [mwalk]
    split
    · exact mreads_k h
    · split
      · exact mreads_k h
      · split
        · dsimp only; rw [mup_other _ _ _ h29]; exact mreads_k h
        · rw [ih, mup_other _ _ _ h29]; exact mreads_k h
theorem mtoh_k {p a : Nat} {z ms fl : Int} {μ : mS} (h : mkeep a = true) (h27 : a ≠ 27) (h28 : a ≠ 28) (h29 : a ≠ 29) : (mtoh p z ms fl μ).2 a = μ a := by
  unfold mtoh
  split
  · rfl
  · split
    · rw [mwalk_k h h29, mup_other _ _ _ h29]
    · unfold mtoh2
      have e : mup (mup (mwalk p z ms fl 0 (mplen z 0 4 - 1) (mup μ 29 0 0)).2 27 0 ((mwalk p z ms fl 0 (mplen z 0 4 - 1) (mup μ 29 0 0)).2 29 0)) 28 0 (dig z (mplen z 0 4 - 1)) a = μ a := by
        rw [mup_other _ _ _ h28, mup_other _ _ _ h27, mwalk_k h h29, mup_other _ _ _ h29]
      split
      · rw [mreads_k h, e]
      · split
        · rw [mreads_k h, e]
        · dsimp only; rw [mup_other _ _ _ h29, mreads_k h, e]
theorem mwrites_w {p i : Nat} {μ : mS} (h5 : ¬ μ 5 (15 * p + i) = 0) : mwrites p i μ = (true, μ) := by
  unfold mwrites; rw [if_neg h5]
theorem mwrites_o {p i s a : Nat} {μ : mS} (ha : a ≤ 2) (hs : s ≠ 15 + 15 * p + i) : (mwrites p i μ).2 a s = μ a s := by
  have hk : (mmeet p i 1 μ).2 a = μ a := mmeet_k (by rcases (by omega : a = 0 ∨ a = 1 ∨ a = 2) with e | e | e <;> subst e <;> rfl)
  unfold mwrites
  split
  · split
    · dsimp only
      rw [← hk]
      simp only [mcopy, mcopyk]
      rw [if_neg (by omega), if_neg (by omega), mup_other _ _ _ (by omega), mup_other _ _ _ (by omega)]
    · rw [hk]
  · rfl
theorem mwrites_5 {p i : Nat} {μ : mS} (h : (mwrites p i μ).1 = true) : ¬ (mwrites p i μ).2 5 (15 * p + i) = 0 := by
  unfold mwrites at h ⊢
  by_cases h5 : μ 5 (15 * p + i) = 0
  · rw [if_pos h5] at h ⊢
    by_cases hm : (mmeet p i 1 μ).1 = true
    · rw [if_pos hm]
      dsimp only
      rw [mcopy_hi (by omega)]
      simp [mup]
    · rw [if_neg hm] at h; cases h
  · rw [if_neg h5]; exact h5
theorem mww {p h i a : Nat} {μ : mS} (h5 : ¬ μ 5 (15 * p + h) = 0) (ha : a ≤ 2) : (mwrites p i μ).2 a (15 + 15 * p + h) = μ a (15 + 15 * p + h) := by
  by_cases e : i = h
  · subst e; rw [mwrites_w h5]
  · exact mwrites_o ha (by omega)
section ML
variable {G : gG} {σ : gS} {hm fr : Nat} {μ : mS} {Q : mQ}
theorem tX5_spr (hG : gGood G) (hb : gBase G ≤ hm) {f t : Int} (hf : 0 ≤ f ∧ f ≤ t + 1) (ht : t < 15) (hQ : ∀ x : Int, mspare μ f.toNat (t + 1 - f).toNat = x → (x = -1 ∨ (f ≤ x ∧ x ≤ t)) → Q (some x) μ) : bx 0 (gOKm G σ hm mX5_spare fr [vr 0, vi f, vi t] μ Q) := by
  have := mspare_r μ (t + 1 - f).toNat f.toNat
  exact tX5_spare hG hb hf ht (hQ _ rfl (by omega))
def mpipe3 (p : Nat) (d w i : Int) (ν : mS) : Int × mS := mdone p (d + 8 * w) 9 9 (mup (mup (mup (mup (mcreate p i.toNat 3 ν) 18 (4 * p + d.toNat) (16 + i)) 19 (4 * p + d.toNat) 0) 18 (4 * p + w.toNat) (16 + i)) 19 (4 * p + w.toNat) 1)
def mpipe1 (p : Nat) (ν : mS) : Int × mS :=
  if mfd ν p 0 4 < 0 then (0, mfail p 3 ν)
  else if mfd ν p (mfd ν p 0 4 + 1).toNat (4 - (mfd ν p 0 4 + 1).toNat) < 0 ∨ mspare ν 12 3 < 0 then (0, mfail p 3 ν)
  else mpipe3 p (mfd ν p 0 4) (mfd ν p (mfd ν p 0 4 + 1).toNat (4 - (mfd ν p 0 4 + 1).toNat)) (mspare ν 12 3) ν
def mpipe (p : Int) (μ : mS) : Int × mS :=
  if mproc μ p = false then (0, mup μ 26 0 1)
  else if ¬ μ 10 p.toNat = 0 then (0, mrefuse2 p.toNat μ)
  else mpipe1 p.toNat (menter p.toNat μ)
theorem tX5_pipe (hG : gGood G) (hb : gBase G ≤ hm) {p : Int} (hp : inR p) (hI : bx 0 (mI 700000 μ)) (hQ : Q (some (mpipe p μ).1) (mpipe p μ).2) : bx 0 (gOKm G σ hm mX5_pipe (fr + 6) [vr 0, vi p] μ Q) := by
  have h0 : (0 : Int).toNat = 0 := rfl
  have h4 : (4 - 0 : Nat) = 4 := rfl
  have h12 : (12 : Int).toNat = 12 := rfl
  have h3 : (14 + 1 - 12 : Int).toNat = 3 := rfl
  have e1 : ∀ d : Int, 0 ≤ p → 0 ≤ d → (4 * p + d).toNat = 4 * p.toNat + d.toNat := fun _ _ _ => by omega
  unfold mpipe at hQ
  refine okM (M := mX5_pipe) hG hb rfl okX5_pipe ?_
  repeat' (first | ((conv => whnf); first | refine And.intro ?_ ?_ | (intro h9; try simp only [oki23, oki24, oki25, oki26, oki27, oki28, oki29, oki30, not_true_eq_false, not_false_eq_true, h0, h4, h12, h3, Int.toNat_natCast] at h9) | refine tX5_isProc hG hb ?_ ?_ ?_ | refine tX5_refuse hG hb ?_ ?_ | refine tX5_entr hG hb ?_ (by first | assumption | exact bx_in (mI_up (by omega) (bx_out (by assumption)))) (by omega) ?_ ?_ | refine tX5_fdn hG hb ?_ ?_ ?_ | refine tX5_spr hG hb ?_ ?_ ?_ | refine tX5_create hG hb ?_ ?_ ?_ ?_ | refine tX5_fail hG hb ?_ ?_ ?_) | exact rfl | omega | (simp only [mlen]; omega) | exact Nat.le_of_ble_eq_true rfl | exact Or.inl rfl | exact Or.inr rfl | assumption | (show (_ : Int) ≤ _; grind) | (show (_ : Int) < _; grind) | (simp only [oki23, oki24, oki25, oki26, oki27, oki28, oki29, oki30, not_true_eq_false, not_false_eq_true, h0, h4, h12, h3, Int.toNat_natCast]; done) | (simp only [mlen, oki23, oki24, oki25, oki26, oki27, oki28, oki29, oki30, not_true_eq_false, not_false_eq_true, h0, h4, h12, h3, Int.toNat_natCast]; omega))
  all_goals try (refine tX5_don hG hb (by omega) (by omega) (by omega) (bx_in (mI_desc (by omega) (by omega) (mI_desc (by omega) (by omega) (mI_create (by omega) (by omega) (bx_out (by assumption)))))) (by omega) ?_; rw [e1 _ (by omega) (by omega), e1 _ (by omega) (by omega)])
  all_goals subst_vars
  all_goals simp only [mpipe1, mpipe3] at hQ
  all_goals (conv => whnf)
  all_goals (repeat' split at hQ) <;> first | exact hQ | (exfalso; omega) | (exfalso; simp_all; done)
def mlink4 (p : Nat) (i : Int) (w : Bool × mS) : Int × mS := if w.1 = false then (0, mfail p 2 w.2) else mdone p (w.2 2 (15 + 15 * p + i.toNat) + 1) 4 5 (mup (mappend p (w.2 27 0).toNat (w.2 28 0) i w.2) 2 (15 + 15 * p + i.toNat) (w.2 2 (15 + 15 * p + i.toNat) + 1))
def mlink3 (p : Nat) (i : Int) (w : Bool × mS) : Int × mS := if w.1 = false then (0, mfail p 2 w.2) else if w.2 1 (15 + 15 * p + (w.2 27 0).toNat) = 5 then (0, mfail p 4 w.2) else mlink4 p i (mwrites p i.toNat w.2)
def mlink2 (p : Nat) (i : Int) (r : Int × mS) : Int × mS := if ¬ r.1 = 0 then (0, mfail p r.1 r.2) else if 0 ≤ r.2 29 0 then (0, mfail p 5 r.2) else mlink3 p i (mwrites p (r.2 27 0).toNat r.2)
def mlink1 (p : Nat) (z : Int) (r : Int × mS) : Int × mS := if ¬ r.1 = 0 then (0, mfail p r.1 r.2) else if mkd r.2 p (r.2 29 0).toNat = 2 then (0, mfail p 5 r.2) else mlink2 p (r.2 29 0) (mtoh p z 3 5 r.2)
def mlink (p z z2 : Int) (μ : mS) : Int × mS :=
  if mproc μ p = false ∨ mpath z = false ∨ mpath z2 = false then (0, mup μ 26 0 1)
  else if ¬ μ 10 p.toNat = 0 then (0, mrefuse2 p.toNat μ)
  else mlink1 p.toNat z2 (mwalk p.toNat z 3 5 0 (mplen z 0 4) (mup (menter p.toNat μ) 29 0 0))
theorem tX5_app (hG : gGood G) (hb : gBase G ≤ hm) {p i m v n : Int} (hp : 0 ≤ p ∧ p < 6) (hi : 0 ≤ i ∧ i < 15) (hm9 : inR m) (hv : 0 ≤ v ∧ v ≤ 11) (hk : μ 1 (15 + 15 * p.toNat + i.toNat) < 5) (hI : bx 0 (mI n μ)) (hn9 : n ≤ 800000) (hQ : bx 0 (mI n (mappend p.toNat i.toNat m v μ)) → Q none (mappend p.toNat i.toNat m v μ)) : bx 0 (gOKm G σ hm mX5_append fr [vr 0, vi p, vi i, vi m, vi v] μ Q) := by
  have h1 := (bx_out hI).1.1 (15 + 15 * p.toNat + i.toNat) (by omega)
  exact tX5_append hG hb hp hi hm9 (by omega) (by omega) (hQ (bx_in (mI_append hv hk (bx_out hI))))
theorem tX5_link (hG : gGood G) (hb : gBase G ≤ hm) {p z z2 : Int} (hp : inR p) (hz : inR z) (hz2 : inR z2) (hI : bx 0 (mI 700000 μ)) (hL : bx 0 (mL 700000 μ)) (hQ : Q (some (mlink p z z2 μ).1) (mlink p z z2 μ).2) : bx 0 (gOKm G σ hm mX5_link (fr + 6) [vr 0, vi p, vi z, vi z2] μ Q) := by
  have e1 : ∀ i : Int, 0 ≤ p → 0 ≤ i → (15 + 15 * p + i).toNat = 15 + 15 * p.toNat + i.toNat := fun _ _ _ => by omega
  have s171 : ∀ (w : mS) (i h : Int), w 27 0 = h → 0 ≤ p → p < 6 → 0 ≤ i → i ≤ 11 → 0 ≤ h → h ≤ 11 → 0 ≤ w 28 0 → w 28 0 ≤ 15 → w 1 (15 + 15 * p.toNat + h.toNat) < 5 → ¬ w 5 (15 * p.toNat + h.toNat) = 0 → bx 0 (mI 710000 w) → mL 700000 w → Q (some (mlink4 p.toNat i (mwrites p.toNat i.toNat w)).1) (mlink4 p.toNat i (mwrites p.toNat i.toNat w)).2 → bx 0 (mW G σ hm mX5_link (fr + 6) Q 171 [(0, vr 0), (1, vi p), (5, vi i)] [] w) := by
    intro w i h hh p0 p6 i0 i11 a0 a1 b0 b1 hk h5 hI hL hQ
    subst hh
    have q1 := mww (p := p.toNat) (h := (w 27 0).toNat) (i := i.toNat) (a := 1) h5 (by omega)
    have q2 := mL_writes (p := p.toNat) (i := i.toNat) (by omega) hL (15 + 15 * p.toNat + i.toNat) (by omega)
    have e1 := e1 i p0 i0
    have e2 : ∀ m v, mappend p.toNat (w 27 0).toNat m v (mwrites p.toNat i.toNat w).2 2 = (mwrites p.toNat i.toNat w).2 2 := fun m v => by unfold mappend; rw [mup_other _ _ _ (by omega), mup_other _ _ _ (by omega), mup_other _ _ _ (by omega)]
    have k27 : (mwrites p.toNat i.toNat w).2 27 = w 27 := mwrites_k rfl (by omega) (by omega)
    have k28 : (mwrites p.toNat i.toNat w).2 28 = w 28 := mwrites_k rfl (by omega) (by omega)
    have hw := mI_writes (p := p.toNat) (i := i.toNat) (by omega) (bx_out hI)
    have hw' := bx_in hw
    have hc := (bx_out hI).2.2.2.1 3 (by omega)
    unfold mlink4 at hQ
    refine okM_l (M := mX5_link) hG hb rfl okX5_link (fun pc => false) ?_
    repeat' (first | ((conv => whnf); first | refine And.intro ?_ ?_ | (intro h9; try simp only [oki23, oki24, oki25, oki26, oki27, oki28, oki29, oki30, not_true_eq_false, not_false_eq_true, e1, e2, k27, k28, mup_ss] at h9) | refine tX5_writes hG hb ?_ ?_ ?_ ?_ ?_ | refine tX5_fail hG hb ?_ ?_ ?_ | refine tX5_app hG hb ?_ ?_ ?_ ?_ ?_ (by first | assumption | exact bx_in (mI_up (by omega) (bx_out (by assumption)))) (by omega) ?_) | exact rfl | omega | (simp only [mlen]; omega) | exact Nat.le_of_ble_eq_true rfl | exact Or.inl rfl | exact Or.inr rfl | assumption | (show (_ : Int) ≤ _; grind) | (show (_ : Int) < _; grind) | (simp only [oki23, oki24, oki25, oki26, oki27, oki28, oki29, oki30, not_true_eq_false, not_false_eq_true, e1, e2, k27, k28, mup_ss]; done) | (simp only [mlen, oki23, oki24, oki25, oki26, oki27, oki28, oki29, oki30, not_true_eq_false, not_false_eq_true, e1, e2, k27, k28, mup_ss]; omega))
    · rw [if_neg (by simp only [*]; decide)] at hQ
      simp only [k27, k28, e1, e2] at hQ ⊢
      conv => whnf
      refine tX5_don hG hb (by omega) (by omega) (by omega) (bx_in (mI_up (by omega) (bx_out (by assumption)))) (by omega) ?_
      exact hQ
    · rw [if_pos (by assumption)] at hQ
      exact hQ
  unfold mlink at hQ
  refine okM_e (M := mX5_link) hG hb rfl okX5_link (fun pc => Nat.beq pc 171) ?_
  repeat' (first | ((conv => whnf); first | refine And.intro ?_ ?_ | (intro h9; try simp only [oki23, oki24, oki25, oki26, oki27, oki28, oki29, oki30, not_true_eq_false, not_false_eq_true, Int.toNat_natCast] at h9) | refine tX5_isProc hG hb ?_ ?_ ?_ | refine tX5_isPath hG hb ?_ ?_ ?_ | refine tX5_refuse hG hb ?_ ?_ | refine tX5_entr hG hb ?_ (by first | assumption | exact bx_in (mI_up (by omega) (bx_out (by assumption)))) (by omega) ?_ ?_ | refine tX5_len hG hb ?_ ?_ | refine tX5_wlk hG hb ?_ ?_ ?_ ?_ ?_ (by first | assumption | exact bx_in (mI_up (by omega) (bx_out (by assumption)))) (by omega) ?_ | refine tX5_ofn hG hb ?_ ?_ ?_ | refine tX5_toH hG hb ?_ ?_ ?_ ?_ (by first | assumption | exact bx_in (mI_up (by omega) (bx_out (by assumption)))) (by omega) ?_ | refine tX5_fail hG hb ?_ ?_ ?_ | refine tX5_wrr hG hb ?_ ?_ (by first | assumption | exact bx_in (mI_up (by omega) (bx_out (by assumption)))) (by omega) ?_ ?_) | exact rfl | omega | (simp only [mlen]; omega) | exact Nat.le_of_ble_eq_true rfl | exact Or.inl rfl | exact Or.inr rfl | assumption | (show (_ : Int) ≤ _; grind) | (show (_ : Int) < _; grind) | (simp only [oki23, oki24, oki25, oki26, oki27, oki28, oki29, oki30, not_true_eq_false, not_false_eq_true, Int.toNat_natCast]; done) | (simp only [mlen, oki23, oki24, oki25, oki26, oki27, oki28, oki29, oki30, not_true_eq_false, not_false_eq_true, Int.toNat_natCast]; omega))
  rotate_left
  · rename_i r0 hr0 _ _ h29 _ _ x hx _ _ hx2 _ r1 hr1 _ _ f1 _ _ _ _ r hr ht hIr e27 e28 e29 hkd _ _ _
    have hm5 := h9
    subst hx
    have f1 := f1 (by omega)
    have hsl := (bx_out hIr).1.1 (15 + 15 * p.toNat + (r1.2 27 0).toNat) (by omega)
    rw [e27, e1 _ (by omega) (by omega)] at hm5
    rw [if_neg (by rw [‹mproc μ p = true›, ‹mpath z = true›, ‹mpath z2 = true›]; decide), if_neg (by omega), hr0, mlink1, if_neg (by omega), if_neg (by simp only [mkd]; omega), hr1, mlink2, if_neg (by omega), if_neg (by omega), hr, mlink3, if_neg (by rw [ht]; decide), if_neg (by rw [e27]; omega)] at hQ
    refine mW_d 4 (mW_d 3 (mW_d 2 (s171 r.2 (r0.2 29 0) (r1.2 27 0) e27 (by omega) (by omega) (by omega) (by omega) (by omega) (by omega) (by omega) (by omega) (by omega) ?_ (bx_in (mI_le (by omega) (bx_out hIr))) ?_ hQ)))
    · rw [← hr]; exact mwrites_5 (by rw [hr]; exact ht)
    · rw [← hr]
      refine mL_writes (by omega) (mL_c (μ := μ) ?_ (bx_out hL))
      rw [← hr1, mtoh_k rfl (by omega) (by omega) (by omega), ← hr0, mwalk_k rfl (by omega), mup_other _ _ _ (by omega), menter_k (by omega)]
  all_goals (try (rw [e1 _ (by omega) (by omega)] at h9))
  all_goals subst_vars
  all_goals simp only [mlink1, mlink2, mlink3] at hQ
  all_goals (conv => whnf)
  all_goals (repeat' split at hQ) <;> first | exact hQ | (exfalso; omega) | (exfalso; simp_all; done) | (exfalso; simp only [mkd] at *; omega)
end ML
