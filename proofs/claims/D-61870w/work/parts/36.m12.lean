/-! the model's public members: first half -/
def mproc (μ : mS) (p : Int) : Bool := decide (0 ≤ p ∧ p ≤ 5 ∧ μ 8 p.toNat = 1)
def mheld (μ : mS) (p d : Int) : Bool := decide (0 ≤ p ∧ p ≤ 5 ∧ μ 8 p.toNat = 1 ∧ 0 ≤ d ∧ d ≤ 3 ∧ 0 ≤ μ 18 (4 * p.toNat + d.toNat))
theorem mproc_t {μ : mS} {p : Int} (h : mproc μ p = true) : 0 ≤ p ∧ p ≤ 5 ∧ μ 8 p.toNat = 1 := of_decide_eq_true h
theorem mheld_t {μ : mS} {p d : Int} (h : mheld μ p d = true) : 0 ≤ p ∧ p ≤ 5 ∧ μ 8 p.toNat = 1 ∧ 0 ≤ d ∧ d ≤ 3 ∧ 0 ≤ μ 18 (4 * p.toNat + d.toNat) := of_decide_eq_true h
theorem menter_k {p a : Nat} {μ : mS} (h : a ≠ 26 ∧ a ≠ 7 ∧ a ≠ 30 ∧ a ≠ 9 ∧ a ≠ 12 ∧ a ≠ 23 ∧ a ≠ 20 ∧ a ≠ 21) : menter p μ a = μ a := by
  obtain ⟨h1, h2, h3, h4, h5, h6, h7, h8⟩ := h
  funext j; simp only [menter, menterk, h1, h2, h3, h4, h5, h6, h7, h8, false_and, if_false, ite_self]
theorem mplain_k {p a : Nat} {μ : mS} (h : a ≠ 26 ∧ a ≠ 7 ∧ a ≠ 30 ∧ a ≠ 9 ∧ a ≠ 12 ∧ a ≠ 23 ∧ a ≠ 20 ∧ a ≠ 21) : mplain p μ a = μ a := by
  unfold mplain
  split
  · rw [mup_other _ _ _ h.2.2.2.1, menter_k h]
  · exact menter_k h
theorem mI_plain {n : Int} {p : Nat} {μ : mS} (h : mI n μ) : mI (n + 1) (mplain p μ) := by
  unfold mplain
  split
  · exact mI_up (by omega) (mI_enter h)
  · exact mI_enter h
section ML
variable {G : gG} {σ : gS} {hm fr : Nat} {μ : mS} {Q : mQ}
theorem tX5_isProc (hG : gGood G) (hb : gBase G ≤ hm) {p : Int} (hp : inR p) (hQ1 : mproc μ p = true → 0 ≤ p → p ≤ 5 → Q (some 1) μ) (hQ0 : mproc μ p = false → Q (some 0) μ) : bx 0 (gOKm G σ hm mX5_isProcess (fr + 1) [vr 0, vi p] μ Q) :=
  tX5_isProcess hG hb hp (fun h1 h2 h3 => hQ1 (decide_eq_true ⟨h1, h2, h3⟩) h1 h2) (fun h => hQ0 (decide_eq_false h))
theorem tX5_isHld (hG : gGood G) (hb : gBase G ≤ hm) {p d : Int} (hp : inR p) (hd : inR d) (hQ1 : mheld μ p d = true → 0 ≤ p → p ≤ 5 → 0 ≤ d → d ≤ 3 → 0 ≤ μ 18 (4 * p.toNat + d.toNat) → Q (some 1) μ) (hQ0 : mheld μ p d = false → Q (some 0) μ) : bx 0 (gOKm G σ hm mX5_isHeld (fr + 2) [vr 0, vi p, vi d] μ Q) :=
  tX5_isHeld hG hb hp hd (fun h1 h2 h3 h4 h5 h6 => hQ1 (decide_eq_true ⟨h1, h2, h3, h4, h5, h6⟩) h1 h2 h4 h5 h6) (fun h => hQ0 (decide_eq_false h))
def mbegin (p : Int) (μ : mS) : Int × mS :=
  if mproc μ p = false then (0, mup μ 26 0 1)
  else if ¬ μ 10 p.toNat = 0 then (0, mrefuse2 p.toNat μ)
  else if 0 < μ 11 p.toNat then (if μ 11 p.toNat = 20 then (0, mup (menter p.toNat μ) 26 0 3) else (μ 11 p.toNat + 1, mup (menter p.toNat μ) 11 p.toNat (μ 11 p.toNat + 1)))
  else (1, mup (menter p.toNat μ) 11 p.toNat 1)
theorem tX5_begin (hG : gGood G) (hb : gBase G ≤ hm) {p : Int} (hp : inR p) (hI : bx 0 (mI 700000 μ)) (hQ : Q (some (mbegin p μ).1) (mbegin p μ).2) : bx 0 (gOKm G σ hm mX5_begin (fr + 2) [vr 0, vi p] μ Q) := by
  have hc := (bx_out hI).2.2.2.2.1
  have hq : 0 ≤ p → p ≤ 5 → _ := fun h1 h2 => (bx_out hI).2.1.1 p.toNat (by omega)
  have k11 : menter p.toNat μ 11 = μ 11 := menter_k (by omega)
  unfold mbegin at hQ
  refine okM (M := mX5_begin) hG hb rfl okX5_begin ?_
  repeat' (first | refine tX5_isProc hG hb ?_ ?_ ?_ | refine tX5_refuse hG hb ?_ ?_ | refine tX5_enter hG hb ?_ ?_ ?_ ?_ | ((conv => whnf); first | refine And.intro ?_ ?_ | (intro h9; try simp [oki23, oki24, oki25, oki26, oki27, oki28, oki29, oki30, mup, k11] at h9)) | exact rfl | omega | (simp only [mlen]; omega) | exact Nat.le_of_ble_eq_true rfl | exact Or.inl rfl | exact Or.inr rfl | assumption | (show (_ : Int) ≤ _; grind) | (show (_ : Int) < _; grind) | (simp [oki23, oki24, oki25, oki26, oki27, oki28, oki29, oki30, mup, k11]; done) | (simp [mlen, oki23, oki24, oki25, oki26, oki27, oki28, oki29, oki30, mup, k11]; omega))
  all_goals (conv => whnf)
  all_goals try simp only [k11]
  all_goals (repeat' split at hQ) <;> first | exact hQ | (exfalso; omega) | (exfalso; simp_all; done)
def mends (p : Int) (μ : mS) : Int × mS :=
  if mproc μ p = false then (0, mup μ 26 0 1)
  else if ¬ μ 10 p.toNat = 0 then (0, mrefuse2 p.toNat μ)
  else if μ 11 p.toNat = 0 then (0, mup (mplain p.toNat μ) 26 0 3)
  else if 1 < μ 11 p.toNat then (μ 11 p.toNat - 1, mup (mplain p.toNat μ) 11 p.toNat (μ 11 p.toNat - 1))
  else mdone p.toNat 0 4 5 (mup (mplain p.toNat μ) 30 0 1)
theorem tX5_end (hG : gGood G) (hb : gBase G ≤ hm) {p : Int} (hp : inR p) (hI : bx 0 (mI 700000 μ)) (hQ : Q (some (mends p μ).1) (mends p μ).2) : bx 0 (gOKm G σ hm mX5_end (fr + 4) [vr 0, vi p] μ Q) := by
  have hc := (bx_out hI).2.2.2.2.1
  have hq : 0 ≤ p → p ≤ 5 → _ := fun h1 h2 => (bx_out hI).2.1.1 p.toNat (by omega)
  have k11 : mplain p.toNat μ 11 = μ 11 := mplain_k (by omega)
  have hI' : mI 700001 (mup (mplain p.toNat μ) 30 0 1) := mI_up (by omega) (mI_plain (bx_out hI))
  have h1 : bx 0 (mRq (mup (mplain p.toNat μ) 30 0 1)) := bx_in hI'.2.1
  have h2 := hI'.2.2.2.2.2
  have h3 : bx 0 (∀ j, j < 6 → 0 ≤ mup (mplain p.toNat μ) 30 0 1 22 j ∧ mup (mplain p.toNat μ) 30 0 1 22 j ≤ 1000000) := bx_in (fun j hj => by have := hI'.2.2.2.1 j hj; omega)
  unfold mends at hQ
  refine okM (M := mX5_end) hG hb rfl okX5_end ?_
  repeat' (first | refine tX5_isProc hG hb ?_ ?_ ?_ | refine tX5_refuse hG hb ?_ ?_ | refine tX5_plain hG hb ?_ ?_ ?_ ?_ | refine tX5_done hG hb ?_ ?_ ?_ ?_ ?_ ?_ ?_ ?_ | ((conv => whnf); first | refine And.intro ?_ ?_ | (intro h9; try simp [oki23, oki24, oki25, oki26, oki27, oki28, oki29, oki30, mup, k11] at h9)) | exact rfl | omega | (simp only [mlen]; omega) | exact Nat.le_of_ble_eq_true rfl | exact Or.inl rfl | exact Or.inr rfl | assumption | (show (_ : Int) ≤ _; grind) | (show (_ : Int) < _; grind) | (simp [oki23, oki24, oki25, oki26, oki27, oki28, oki29, oki30, mup, k11]; done) | (simp [mlen, oki23, oki24, oki25, oki26, oki27, oki28, oki29, oki30, mup, k11]; omega))
  all_goals (conv => whnf)
  all_goals try simp only [k11]
  all_goals (repeat' split at hQ) <;> first | exact hQ | (exfalso; omega) | (exfalso; simp_all; done)
def maborts (p : Int) (μ : mS) : Int × mS :=
  if mproc μ p = false then (0, mup μ 26 0 1)
  else if ¬ μ 10 p.toNat = 0 then (0, mrefuse2 p.toNat μ)
  else if μ 11 p.toNat = 0 then (0, mup (mplain p.toNat μ) 26 0 3)
  else (μ 11 p.toNat, msweep (mabort p.toNat (mplain p.toNat μ)))
theorem tX5_abort (hG : gGood G) (hb : gBase G ≤ hm) {p : Int} (hp : inR p) (hI : bx 0 (mI 700000 μ)) (hQ : Q (some (maborts p μ).1) (maborts p μ).2) : bx 0 (gOKm G σ hm mX5_abort (fr + 2) [vr 0, vi p] μ Q) := by
  have hc := (bx_out hI).2.2.2.2.1
  have hq : 0 ≤ p → p ≤ 5 → _ := fun h1 h2 => (bx_out hI).2.1.1 p.toNat (by omega)
  have k11 : mplain p.toNat μ 11 = μ 11 := mplain_k (by omega)
  have k22 : mplain p.toNat μ 22 = μ 22 := mplain_k (by omega)
  have h3 := (bx_out hI).2.2.2.1 3 (by omega)
  unfold maborts at hQ
  refine okM (M := mX5_abort) hG hb rfl okX5_abort ?_
  repeat' (first | refine tX5_isProc hG hb ?_ ?_ ?_ | refine tX5_refuse hG hb ?_ ?_ | refine tX5_plain hG hb ?_ ?_ ?_ ?_ | refine tX5_aborted hG hb ?_ ?_ ?_ | refine tX5_sweep hG hb ?_ | ((conv => whnf); first | refine And.intro ?_ ?_ | (intro h9; try simp [oki23, oki24, oki25, oki26, oki27, oki28, oki29, oki30, mup, k11, k22] at h9)) | exact rfl | omega | (simp only [mlen]; omega) | exact Nat.le_of_ble_eq_true rfl | exact Or.inl rfl | exact Or.inr rfl | assumption | (show (_ : Int) ≤ _; grind) | (show (_ : Int) < _; grind) | (simp [oki23, oki24, oki25, oki26, oki27, oki28, oki29, oki30, mup, k11, k22]; done) | (simp [mlen, oki23, oki24, oki25, oki26, oki27, oki28, oki29, oki30, mup, k11, k22]; omega))
  all_goals (conv => whnf)
  all_goals try simp only [k11]
  all_goals (repeat' split at hQ) <;> first | exact hQ | (exfalso; omega) | (exfalso; simp_all; done)
def mclose (p d : Int) (μ : mS) : Int × mS :=
  if mheld μ p d = false then (0, mup μ 26 0 1)
  else if ¬ μ 10 p.toNat = 0 then (0, mrefuse2 p.toNat μ)
  else (1, msweep (mup (mplain p.toNat μ) 18 (4 * p.toNat + d.toNat) (-1)))
theorem tX5_close (hG : gGood G) (hb : gBase G ≤ hm) {p d : Int} (hp : inR p) (hd : inR d) (hI : bx 0 (mI 700000 μ)) (hQ : Q (some (mclose p d μ).1) (mclose p d μ).2) : bx 0 (gOKm G σ hm mX5_close (fr + 3) [vr 0, vi p, vi d] μ Q) := by
  have hc := (bx_out hI).2.2.2.2.1
  have e1 : 0 ≤ p → 0 ≤ d → (4 * p + d).toNat = 4 * p.toNat + d.toNat := fun _ _ => by omega
  unfold mclose at hQ
  refine okM (M := mX5_close) hG hb rfl okX5_close ?_
  repeat' (first | refine tX5_isHld hG hb ?_ ?_ ?_ ?_ | refine tX5_refuse hG hb ?_ ?_ | refine tX5_plain hG hb ?_ ?_ ?_ ?_ | refine tX5_sweep hG hb ?_ | ((conv => whnf); first | refine And.intro ?_ ?_ | (intro h9; try simp [oki23, oki24, oki25, oki26, oki27, oki28, oki29, oki30, mup] at h9)) | exact rfl | omega | (simp only [mlen]; omega) | exact Nat.le_of_ble_eq_true rfl | exact Or.inl rfl | exact Or.inr rfl | assumption | (show (_ : Int) ≤ _; grind) | (show (_ : Int) < _; grind) | (simp [oki23, oki24, oki25, oki26, oki27, oki28, oki29, oki30, mup]; done) | (simp [mlen, oki23, oki24, oki25, oki26, oki27, oki28, oki29, oki30, mup]; omega))
  all_goals try rw [e1 (by assumption) (by assumption)]
  all_goals (conv => whnf)
  all_goals (repeat' split at hQ) <;> first | exact hQ | (exfalso; omega) | (exfalso; simp_all; done)
def mseek (p d n : Int) (μ : mS) : Int × mS :=
  if mheld μ p d = false ∨ ¬ (0 ≤ n ∧ n ≤ 8) then (0, mup μ 26 0 1)
  else if ¬ μ 10 p.toNat = 0 then (0, mrefuse2 p.toNat μ)
  else if 16 ≤ μ 18 (4 * p.toNat + d.toNat) then (0, mup (mplain p.toNat μ) 26 0 3)
  else (μ 19 (4 * p.toNat + d.toNat), mup (mplain p.toNat μ) 19 (4 * p.toNat + d.toNat) n)
theorem tX5_seek (hG : gGood G) (hb : gBase G ≤ hm) {p d n : Int} (hp : inR p) (hd : inR d) (hn : inR n) (hI : bx 0 (mI 700000 μ)) (hQ : Q (some (mseek p d n μ).1) (mseek p d n μ).2) : bx 0 (gOKm G σ hm mX5_seek (fr + 3) [vr 0, vi p, vi d, vi n] μ Q) := by
  have hc := (bx_out hI).2.2.2.2.1
  have e1 : 0 ≤ p → 0 ≤ d → (4 * p + d).toNat = 4 * p.toNat + d.toNat := fun _ _ => by omega
  have k18 : mplain p.toNat μ 18 = μ 18 := mplain_k (by omega)
  have k19 : mplain p.toNat μ 19 = μ 19 := mplain_k (by omega)
  unfold mseek at hQ
  refine okM (M := mX5_seek) hG hb rfl okX5_seek ?_
  repeat' (first | refine tX5_isHld hG hb ?_ ?_ ?_ ?_ | refine tX5_is hG hb ?_ ?_ ?_ ?_ ?_ | refine tX5_refuse hG hb ?_ ?_ | refine tX5_plain hG hb ?_ ?_ ?_ ?_ | ((conv => whnf); first | refine And.intro ?_ ?_ | (intro h9; try simp [oki23, oki24, oki25, oki26, oki27, oki28, oki29, oki30, mup, k18, k19] at h9)) | exact rfl | omega | (simp only [mlen]; omega) | exact Nat.le_of_ble_eq_true rfl | exact Or.inl rfl | exact Or.inr rfl | assumption | (show (_ : Int) ≤ _; grind) | (show (_ : Int) < _; grind) | (simp [oki23, oki24, oki25, oki26, oki27, oki28, oki29, oki30, mup, k18, k19]; done) | (simp [mlen, oki23, oki24, oki25, oki26, oki27, oki28, oki29, oki30, mup, k18, k19]; omega))
  all_goals try rw [e1 (by assumption) (by assumption)] at *
  all_goals (conv => whnf)
  all_goals try simp only [k19]
  all_goals (repeat' split at hQ) <;> first | exact hQ | (exfalso; omega) | (exfalso; simp_all; done)
def mlog (n : Int) (μ : mS) : Int × mS := if 2 ≤ n ∧ n ≤ 14 then (μ 24 0, mup (mup μ 26 0 0) 24 0 n) else (0, mup μ 26 0 1)
def mcut (n : Int) (μ : mS) : Int × mS := if -1 ≤ n ∧ n ≤ 30 then (μ 25 0, mup (mup μ 26 0 0) 25 0 n) else (0, mup μ 26 0 1)
theorem mup_mm (μ : mS) (k j : Nat) (v w : Int) : mup (mup μ k j v) k j w = mup μ k j w := by
  funext a b; simp only [mup]; split <;> rfl
theorem tX5_log (hG : gGood G) (hb : gBase G ≤ hm) {n : Int} (hn : inR n) (hQ : Q (some (mlog n μ).1) (mlog n μ).2) : bx 0 (gOKm G σ hm mX5_log (fr + 1) [vr 0, vi n] μ Q) := by
  unfold mlog at hQ
  refine okM (M := mX5_log) hG hb rfl okX5_log ?_
  repeat' (first | refine tX5_is hG hb ?_ ?_ ?_ ?_ ?_ | refine tX5_refuse hG hb ?_ ?_ | ((conv => whnf); first | refine And.intro ?_ ?_ | (intro h9; try simp [oki23, oki24, oki25, oki26, oki27, oki28, oki29, oki30, mup] at h9)) | exact rfl | omega | (simp only [mlen]; omega) | exact Nat.le_of_ble_eq_true rfl | exact Or.inl rfl | exact Or.inr rfl | assumption | (show (_ : Int) ≤ _; grind) | (show (_ : Int) < _; grind) | (simp [oki23, oki24, oki25, oki26, oki27, oki28, oki29, oki30, mup]; done) | (simp [mlen, oki23, oki24, oki25, oki26, oki27, oki28, oki29, oki30, mup]; omega))
  all_goals (conv => whnf)
  all_goals try simp only [mup_mm]
  all_goals (repeat' split at hQ) <;> first | exact hQ | (exfalso; omega) | (exfalso; simp_all; done)
theorem tX5_cut (hG : gGood G) (hb : gBase G ≤ hm) {n : Int} (hn : inR n) (hQ : Q (some (mcut n μ).1) (mcut n μ).2) : bx 0 (gOKm G σ hm mX5_cut (fr + 1) [vr 0, vi n] μ Q) := by
  unfold mcut at hQ
  refine okM (M := mX5_cut) hG hb rfl okX5_cut ?_
  repeat' (first | refine tX5_is hG hb ?_ ?_ ?_ ?_ ?_ | refine tX5_refuse hG hb ?_ ?_ | ((conv => whnf); first | refine And.intro ?_ ?_ | (intro h9; try simp [oki23, oki24, oki25, oki26, oki27, oki28, oki29, oki30, mup] at h9)) | exact rfl | omega | (simp only [mlen]; omega) | exact Nat.le_of_ble_eq_true rfl | exact Or.inl rfl | exact Or.inr rfl | assumption | (show (_ : Int) ≤ _; grind) | (show (_ : Int) < _; grind) | (simp [oki23, oki24, oki25, oki26, oki27, oki28, oki29, oki30, mup]; done) | (simp [mlen, oki23, oki24, oki25, oki26, oki27, oki28, oki29, oki30, mup]; omega))
  all_goals (conv => whnf)
  all_goals try simp only [mup_mm]
  all_goals (repeat' split at hQ) <;> first | exact hQ | (exfalso; omega) | (exfalso; simp_all; done)
end ML
