/-! the model's public members: processes and signals -/
section ML
variable {G : gG} {σ : gS} {hm fr : Nat} {μ : mS} {Q : mQ}
def mffree (μ : mS) (k : Nat) : Nat → Nat
  | 0 => k
  | n + 1 => if μ 8 k = 0 then k else mffree μ (k + 1) n
def mforkb (q : Nat) (ν : mS) : mS := mdrop q (mup (mup (mup ν 8 q 1) 10 q 0) 14 q 0)
def mforkk (p q k : Nat) (ν : mS) : mS := fun a j => if (a = 18 ∨ a = 19) ∧ 4 * q ≤ j ∧ j < 4 * q + k then ν a (4 * p + (j - 4 * q)) else mforkb q ν a j
theorem mforkk_s {p q k : Nat} {ν : mS} (hpq : p ≠ q) (hk : k < 4) : mup (mup (mforkk p q k ν) 18 (4 * q + k) (mforkk p q k ν 18 (4 * p + k))) 19 (4 * q + k) (mup (mforkk p q k ν) 18 (4 * q + k) (mforkk p q k ν 18 (4 * p + k)) 19 (4 * p + k)) = mforkk p q (k + 1) ν := by
  have e1 : ∀ j, mforkb q ν 18 j = ν 18 j := fun j => by simp [mforkb, mdrop, mup]
  have e2 : ∀ j, mforkb q ν 19 j = ν 19 j := fun j => by simp [mforkb, mdrop, mup]
  funext a j; simp only [mup, mforkk]; grind (splits := 20)
def mfork (p : Int) (μ : mS) : Int × mS :=
  if mproc μ p = false then (0, mup μ 26 0 1)
  else if ¬ μ 10 p.toNat = 0 then (0, mrefuse2 p.toNat μ)
  else if 0 < μ 11 p.toNat then (0, mup (mplain p.toNat μ) 26 0 3)
  else if mffree μ 0 6 = 6 then (0, mup (mplain p.toNat μ) 26 0 4)
  else ((mffree μ 0 6 : Nat), mforkk p.toNat (mffree μ 0 6) 4 (mplain p.toNat μ))
theorem tX5_fork (hG : gGood G) (hb : gBase G ≤ hm) {p : Int} (hp : inR p) (hI : bx 0 (mI 700000 μ)) (hQ : Q (some (mfork p μ).1) (mfork p μ).2) : bx 0 (gOKm G σ hm mX5_fork (fr + 2) [vr 0, vi p] μ Q) := by
  have hc := (bx_out hI).2.2.2.2.1
  have hq : 0 ≤ p → p ≤ 5 → _ := fun h1 h2 => (bx_out hI).2.1.1 p.toNat (by omega)
  have k11 : mplain p.toNat μ 11 = μ 11 := mplain_k (by omega)
  have k8 : mplain p.toNat μ 8 = μ 8 := mplain_k (by omega)
  unfold mfork at hQ
  by_cases hpr : mproc μ p = false
  · refine okM_e (M := mX5_fork) hG hb rfl okX5_fork (fun pc => Nat.beq pc 41) ?_
    rw [if_pos hpr] at hQ
    repeat' (first | refine tX5_isProc hG hb ?_ ?_ ?_ | refine tX5_refuse hG hb ?_ ?_ | ((conv => whnf); first | refine And.intro ?_ ?_ | (intro h9; try simp [oki23, oki24, oki25, oki26, oki27, oki28, oki29, oki30, mup, hpr] at h9)) | exact rfl | omega | (simp only [mlen]; omega) | exact Nat.le_of_ble_eq_true rfl | exact Or.inl rfl | exact Or.inr rfl | assumption | (show (_ : Int) ≤ _; grind) | (show (_ : Int) < _; grind) | (simp [oki23, oki24, oki25, oki26, oki27, oki28, oki29, oki30, mup, hpr]; done) | (simp [mlen, oki23, oki24, oki25, oki26, oki27, oki28, oki29, oki30, mup, hpr]; omega))
  have hpt := mproc_t (μ := μ) (p := p) (by simpa using hpr)
  rw [if_neg hpr] at hQ
  have s102 : ∀ q : Nat, q < 6 → μ 8 q = 0 → (Q (some (q : Int)) (mforkk p.toNat q 4 (mplain p.toNat μ))) → ∀ k : Nat, k ≤ 4 → bx 0 (mW G σ hm mX5_fork (fr + 2) Q 102 [(0, vr 0), (1, vi p), (2, vi q), (3, vi k)] [] (mforkk p.toNat q k (mplain p.toNat μ))) := by
    intro q hq6 hqt hQ
    refine dn _ fun k hk ih => ?_
    have e1 : (4 * (q : Int) + (k : Int)).toNat = 4 * q + k := by omega
    have e2 : (4 * p + (k : Int)).toNat = 4 * p.toNat + k := by omega
    have e3 : p.toNat ≠ q := by intro e; rw [e] at hpt; omega
    refine okM_l (M := mX5_fork) hG hb rfl okX5_fork (fun pc => Nat.beq pc 102) ?_
    repeat' (first | ((conv => whnf); first | refine And.intro ?_ ?_ | intro h9) | exact rfl | omega | (simp only [mlen]; omega) | exact Nat.le_of_ble_eq_true rfl | exact Or.inl rfl | exact Or.inr rfl | assumption | (show (_ : Int) ≤ _; grind) | (show (_ : Int) < _; grind))
    · rw [show k = 4 by omega]; exact hQ
    · rw [e1, e2]
      exact mWe (ih (by omega)) (mforkk_s e3 (by omega))
  have s41 : ∀ k : Nat, k ≤ 6 → (if mffree μ k (6 - k) = 6 then Q (some 0) (mup (mplain p.toNat μ) 26 0 4) else Q (some (mffree μ k (6 - k) : Nat)) (mforkk p.toNat (mffree μ k (6 - k)) 4 (mplain p.toNat μ))) → bx 0 (mW G σ hm mX5_fork (fr + 2) Q 41 [(0, vr 0), (1, vi p), (2, vi k)] [] (mplain p.toNat μ)) := by
    refine dn _ fun k hk ih hQ => ?_
    by_cases h6 : k < 6
    · rw [show 6 - k = (6 - (k + 1)) + 1 by omega, mffree] at hQ
      refine okM_l (M := mX5_fork) hG hb rfl okX5_fork (fun pc => Nat.beq pc 41 || Nat.beq pc 102) ?_
      repeat' (first | refine tX5_drop hG hb ?_ ?_ | ((conv => whnf); first | refine And.intro ?_ ?_ | (intro h9; try simp only [oki23, oki24, oki25, oki26, oki27, oki28, oki29, oki30, not_true_eq_false, not_false_eq_true, k8, Int.toNat_natCast] at h9)) | exact rfl | omega | (simp only [mlen]; omega) | exact Nat.le_of_ble_eq_true rfl | exact Or.inl rfl | exact Or.inr rfl | assumption | (show (_ : Int) ≤ _; grind) | (show (_ : Int) < _; grind) | (simp only [oki23, oki24, oki25, oki26, oki27, oki28, oki29, oki30, not_true_eq_false, not_false_eq_true, k8, Int.toNat_natCast]; done) | (simp only [mlen, oki23, oki24, oki25, oki26, oki27, oki28, oki29, oki30, not_true_eq_false, not_false_eq_true, k8, Int.toNat_natCast]; omega))
      · have h8 : μ 8 k = 0 := by assumption
        rw [if_pos h8, if_neg (by omega)] at hQ
        exact mWe (s102 k h6 h8 hQ 0 (by omega)) (by funext a j; simp only [mforkk]; rw [if_neg (by omega)]; rfl)
      · have h8 : ¬ μ 8 k = 0 := by assumption
        simp only [if_neg h8] at hQ
        exact ih (by omega) hQ
    · have e6 : k = 6 := by omega
      subst e6
      refine okM_l (M := mX5_fork) hG hb rfl okX5_fork (fun pc => Nat.beq pc 41 || Nat.beq pc 102) ?_
      repeat' (first | refine tX5_refuse hG hb ?_ ?_ | ((conv => whnf); first | refine And.intro ?_ ?_ | intro h9) | exact rfl | omega | (simp only [mlen]; omega) | exact Nat.le_of_ble_eq_true rfl | exact Or.inl rfl | exact Or.inr rfl | assumption | (show (_ : Int) ≤ _; grind) | (show (_ : Int) < _; grind))
  refine okM_e (M := mX5_fork) hG hb rfl okX5_fork (fun pc => Nat.beq pc 41) ?_
  repeat' (first | refine tX5_isProc hG hb ?_ ?_ ?_ | refine tX5_refuse hG hb ?_ ?_ | refine tX5_plain hG hb ?_ ?_ ?_ ?_ | ((conv => whnf); first | refine And.intro ?_ ?_ | (intro h9; try simp [oki23, oki24, oki25, oki26, oki27, oki28, oki29, oki30, mup, k11, hpr] at h9)) | exact rfl | omega | (simp only [mlen]; omega) | exact Nat.le_of_ble_eq_true rfl | exact Or.inl rfl | exact Or.inr rfl | assumption | (show (_ : Int) ≤ _; grind) | (show (_ : Int) < _; grind) | (simp [oki23, oki24, oki25, oki26, oki27, oki28, oki29, oki30, mup, k11, hpr]; done) | (simp [mlen, oki23, oki24, oki25, oki26, oki27, oki28, oki29, oki30, mup, k11, hpr]; omega))
  · refine s41 0 (by omega) ?_
    rw [if_neg (by omega), if_neg (by omega)] at hQ
    split
    · rename_i h8
      rw [show 6 - 0 = 6 from rfl] at h8
      rw [if_pos h8] at hQ
      exact hQ
    · rename_i h8
      rw [show 6 - 0 = 6 from rfl] at h8
      rw [if_neg h8] at hQ
      exact hQ
  · rw [if_neg (by omega), if_pos (by assumption)] at hQ
    exact hQ
  · rw [if_pos (by omega)] at hQ
    exact hQ
def mexk (p k : Nat) (ν : mS) : mS := fun a j => if a = 18 ∧ 4 * p ≤ j ∧ j < 4 * p + k then -1 else if (a = 8 ∨ a = 14) ∧ j = p then 0 else ν a j
def mexit (p : Int) (μ : mS) : Int × mS :=
  if mproc μ p = false then (0, mup μ 26 0 1)
  else if ¬ μ 10 p.toNat = 0 then (0, mrefuse2 p.toNat μ)
  else if 0 < μ 11 p.toNat ∨ p = 0 then (0, mup (mplain p.toNat μ) 26 0 3)
  else (mprocs (msweep (mexk p.toNat 4 (mplain p.toNat μ))) 6, msweep (mexk p.toNat 4 (mplain p.toNat μ)))
theorem tX5_exit (hG : gGood G) (hb : gBase G ≤ hm) {p : Int} (hp : inR p) (hI : bx 0 (mI 700000 μ)) (hQ : Q (some (mexit p μ).1) (mexit p μ).2) : bx 0 (gOKm G σ hm mX5_exit (fr + 2) [vr 0, vi p] μ Q) := by
  have hc := (bx_out hI).2.2.2.2.1
  have k11 : mplain p.toNat μ 11 = μ 11 := mplain_k (by omega)
  unfold mexit at hQ
  by_cases hpr : mproc μ p = false
  · refine okM_e (M := mX5_exit) hG hb rfl okX5_exit (fun pc => Nat.beq pc 59) ?_
    rw [if_pos hpr] at hQ
    repeat' (first | refine tX5_isProc hG hb ?_ ?_ ?_ | refine tX5_refuse hG hb ?_ ?_ | ((conv => whnf); first | refine And.intro ?_ ?_ | (intro h9; try simp [oki23, oki24, oki25, oki26, oki27, oki28, oki29, oki30, mup, hpr] at h9)) | exact rfl | omega | (simp only [mlen]; omega) | exact Nat.le_of_ble_eq_true rfl | exact Or.inl rfl | exact Or.inr rfl | assumption | (show (_ : Int) ≤ _; grind) | (show (_ : Int) < _; grind) | (simp [oki23, oki24, oki25, oki26, oki27, oki28, oki29, oki30, mup, hpr]; done) | (simp [mlen, oki23, oki24, oki25, oki26, oki27, oki28, oki29, oki30, mup, hpr]; omega))
  have hpt := mproc_t (μ := μ) (p := p) (by simpa using hpr)
  rw [if_neg hpr] at hQ
  have s59 : (Q (some (mprocs (msweep (mexk p.toNat 4 (mplain p.toNat μ))) 6)) (msweep (mexk p.toNat 4 (mplain p.toNat μ)))) → ∀ k : Nat, k ≤ 4 → bx 0 (mW G σ hm mX5_exit (fr + 2) Q 59 [(0, vr 0), (1, vi p), (2, vi k)] [] (mexk p.toNat k (mplain p.toNat μ))) := by
    intro hQ
    refine dn _ fun k hk ih => ?_
    have e1 : (4 * p + (k : Int)).toNat = 4 * p.toNat + k := by omega
    refine okM_l (M := mX5_exit) hG hb rfl okX5_exit (fun pc => Nat.beq pc 59) ?_
    repeat' (first | refine tX5_sweep hG hb ?_ | refine tX5_processes hG hb ?_ | ((conv => whnf); first | refine And.intro ?_ ?_ | intro h9) | exact rfl | omega | (simp only [mlen]; omega) | exact Nat.le_of_ble_eq_true rfl | exact Or.inl rfl | exact Or.inr rfl | assumption | (show (_ : Int) ≤ _; grind) | (show (_ : Int) < _; grind))
    · rw [show k = 4 by omega]; exact hQ
    · rw [e1]
      refine mWe (ih (by omega)) ?_
      funext a j; simp only [mup, mexk]; grind
  refine okM_e (M := mX5_exit) hG hb rfl okX5_exit (fun pc => Nat.beq pc 59) ?_
  repeat' (first | refine tX5_isProc hG hb ?_ ?_ ?_ | refine tX5_refuse hG hb ?_ ?_ | refine tX5_plain hG hb ?_ ?_ ?_ ?_ | ((conv => whnf); first | refine And.intro ?_ ?_ | (intro h9; try simp [oki23, oki24, oki25, oki26, oki27, oki28, oki29, oki30, mup, k11, hpr] at h9)) | exact rfl | omega | (simp only [mlen]; omega) | exact Nat.le_of_ble_eq_true rfl | exact Or.inl rfl | exact Or.inr rfl | assumption | (show (_ : Int) ≤ _; grind) | (show (_ : Int) < _; grind) | (simp [oki23, oki24, oki25, oki26, oki27, oki28, oki29, oki30, mup, k11, hpr]; done) | (simp [mlen, oki23, oki24, oki25, oki26, oki27, oki28, oki29, oki30, mup, k11, hpr]; omega))
  all_goals first
    | (refine mWe (s59 ?_ 0 (by omega)) ?_
       · rw [if_neg (by omega), if_neg (by omega)] at hQ
         exact hQ
       · funext a j; simp only [mup, mexk]; grind)
    | (conv => whnf
       (repeat' split at hQ) <;> first | exact hQ | (exfalso; omega) | (exfalso; simp_all; done))
def msignal (p q n : Int) (μ : mS) : Int × mS :=
  if mproc μ p = false ∨ ¬ (0 ≤ q ∧ q ≤ 5) ∨ ¬ (1 ≤ n ∧ n ≤ 99) then (0, mup μ 26 0 1)
  else if ¬ μ 10 p.toNat = 0 then (0, mrefuse2 p.toNat μ)
  else if 0 < μ 11 p.toNat then (if μ 17 p.toNat = 4 then (0, mup (mplain p.toNat μ) 26 0 4) else (1, mup (mup (mup (mplain p.toNat μ) 16 (4 * p.toNat + (μ 17 p.toNat).toNat) q) 17 p.toNat (μ 17 p.toNat + 1)) 15 (4 * p.toNat + (μ 17 p.toNat).toNat) n))
  else if μ 8 q.toNat = 0 then (0, mup (mplain p.toNat μ) 26 0 3)
  else if μ 14 q.toNat = 4 then (0, mup (mplain p.toNat μ) 26 0 4)
  else (1, msend q.toNat n (mplain p.toNat μ))
theorem tX5_signal (hG : gGood G) (hb : gBase G ≤ hm) {p q n : Int} (hp : inR p) (hq9 : inR q) (hn : inR n) (hI : bx 0 (mI 700000 μ)) (hQ : Q (some (msignal p q n μ).1) (msignal p q n μ).2) : bx 0 (gOKm G σ hm mX5_signal (fr + 2) [vr 0, vi p, vi q, vi n] μ Q) := by
  have hc := (bx_out hI).2.2.2.2.1
  have hq : 0 ≤ p → p ≤ 5 → _ := fun h1 h2 => (bx_out hI).2.1.1 p.toNat (by omega)
  have hq2 : 0 ≤ q → q ≤ 5 → _ := fun h1 h2 => (bx_out hI).2.1.1 q.toNat (by omega)
  have k8 : mplain p.toNat μ 8 = μ 8 := mplain_k (by omega)
  have k11 : mplain p.toNat μ 11 = μ 11 := mplain_k (by omega)
  have k14 : mplain p.toNat μ 14 = μ 14 := mplain_k (by omega)
  have k17 : mplain p.toNat μ 17 = μ 17 := mplain_k (by omega)
  unfold msignal at hQ
  by_cases hpr : mproc μ p = false
  · refine okM (M := mX5_signal) hG hb rfl okX5_signal ?_
    rw [if_pos (Or.inl hpr)] at hQ
    repeat' (first | refine tX5_isProc hG hb ?_ ?_ ?_ | refine tX5_refuse hG hb ?_ ?_ | ((conv => whnf); first | refine And.intro ?_ ?_ | (intro h9; try simp [oki23, oki24, oki25, oki26, oki27, oki28, oki29, oki30, mup, hpr] at h9)) | exact rfl | omega | (simp only [mlen]; omega) | exact Nat.le_of_ble_eq_true rfl | exact Or.inl rfl | exact Or.inr rfl | assumption | (show (_ : Int) ≤ _; grind) | (show (_ : Int) < _; grind) | (simp [oki23, oki24, oki25, oki26, oki27, oki28, oki29, oki30, mup, hpr]; done) | (simp [mlen, oki23, oki24, oki25, oki26, oki27, oki28, oki29, oki30, mup, hpr]; omega))
  have hpt := mproc_t (μ := μ) (p := p) (by simpa using hpr)
  have hq := hq hpt.1 hpt.2.1
  have e1 : (4 * p + μ 17 p.toNat).toNat = 4 * p.toNat + (μ 17 p.toNat).toNat := by omega
  have m1617 : ∀ (ν : mS) x v j, mup ν 16 x v 17 j = ν 17 j := fun _ _ _ _ => rfl
  refine okM (M := mX5_signal) hG hb rfl okX5_signal ?_
  repeat' (first | refine tX5_isProc hG hb ?_ ?_ ?_ | refine tX5_is hG hb ?_ ?_ ?_ ?_ ?_ | refine tX5_refuse hG hb ?_ ?_ | refine tX5_plain hG hb ?_ ?_ ?_ ?_ | refine tX5_send hG hb ?_ ?_ ?_ ?_ | ((conv => whnf); first | refine And.intro ?_ ?_ | (intro h9; try simp [oki23, oki24, oki25, oki26, oki27, oki28, oki29, oki30, mup, k8, k11, k14, k17] at h9)) | exact rfl | omega | (simp only [mlen]; omega) | exact Nat.le_of_ble_eq_true rfl | exact Or.inl rfl | exact Or.inr rfl | assumption | (show (_ : Int) ≤ _; grind) | (show (_ : Int) < _; grind) | (simp [oki23, oki24, oki25, oki26, oki27, oki28, oki29, oki30, mup, k8, k11, k14, k17]; done) | (simp [mlen, oki23, oki24, oki25, oki26, oki27, oki28, oki29, oki30, mup, k8, k11, k14, k17]; omega))
  all_goals (conv => whnf)
  all_goals try simp only [m1617, k17, e1]
  all_goals (repeat' split at hQ) <;> first | exact hQ | (exfalso; omega) | (exfalso; simp_all; done)
def mtakek (p k : Nat) (ν : mS) : mS := fun a j => if a = 13 ∧ 4 * p ≤ j ∧ j < 4 * p + k then ν 13 (j + 1) else if a = 14 ∧ j = p then ν 14 p - 1 else ν a j
def mtake (p : Int) (μ : mS) : Int × mS :=
  if mproc μ p = false then (0, mup μ 26 0 1)
  else if ¬ μ 10 p.toNat = 0 then (0, mrefuse2 p.toNat μ)
  else if μ 14 p.toNat = 0 then (0, mup (mplain p.toNat μ) 26 0 3)
  else (μ 13 (4 * p.toNat), mtakek p.toNat (μ 14 p.toNat - 1).toNat (mplain p.toNat μ))
theorem mtakek_s {p k : Nat} {ν : mS} : mup (mtakek p k ν) 13 (4 * p + k) (mtakek p k ν 13 (4 * p + k + 1)) = mtakek p (k + 1) ν := by
  funext a j; simp only [mup, mtakek]; grind
theorem tX5_take (hG : gGood G) (hb : gBase G ≤ hm) {p : Int} (hp : inR p) (hI : bx 0 (mI 700000 μ)) (hQ : Q (some (mtake p μ).1) (mtake p μ).2) : bx 0 (gOKm G σ hm mX5_take (fr + 2) [vr 0, vi p] μ Q) := by
  have hc := (bx_out hI).2.2.2.2.1
  have hq : 0 ≤ p → p ≤ 5 → _ := fun h1 h2 => (bx_out hI).2.1.1 p.toNat (by omega)
  have k13 : mplain p.toNat μ 13 = μ 13 := mplain_k (by omega)
  have k14 : mplain p.toNat μ 14 = μ 14 := mplain_k (by omega)
  unfold mtake at hQ
  by_cases hpr : mproc μ p = false
  · refine okM_e (M := mX5_take) hG hb rfl okX5_take (fun pc => Nat.beq pc 60) ?_
    rw [if_pos hpr] at hQ
    repeat' (first | refine tX5_isProc hG hb ?_ ?_ ?_ | refine tX5_refuse hG hb ?_ ?_ | ((conv => whnf); first | refine And.intro ?_ ?_ | (intro h9; try simp [oki23, oki24, oki25, oki26, oki27, oki28, oki29, oki30, mup, hpr] at h9)) | exact rfl | omega | (simp only [mlen]; omega) | exact Nat.le_of_ble_eq_true rfl | exact Or.inl rfl | exact Or.inr rfl | assumption | (show (_ : Int) ≤ _; grind) | (show (_ : Int) < _; grind) | (simp [oki23, oki24, oki25, oki26, oki27, oki28, oki29, oki30, mup, hpr]; done) | (simp [mlen, oki23, oki24, oki25, oki26, oki27, oki28, oki29, oki30, mup, hpr]; omega))
  have hpt := mproc_t (μ := μ) (p := p) (by simpa using hpr)
  have hq := hq hpt.1 hpt.2.1
  rw [if_neg hpr] at hQ
  have e0 : (4 * p).toNat = 4 * p.toNat := by omega
  have s60 : ¬ μ 14 p.toNat = 0 → (∀ v : Int, v = μ 13 (4 * p.toNat) → Q (some v) (mtakek p.toNat (μ 14 p.toNat - 1).toNat (mplain p.toNat μ)) → ∀ k : Nat, k ≤ (μ 14 p.toNat - 1).toNat → bx 0 (mW G σ hm mX5_take (fr + 2) Q 60 [(0, vr 0), (1, vi p), (2, vi v), (3, vi k)] [] (mtakek p.toNat k (mplain p.toNat μ)))) := by
    intro hn v hv hQ
    refine dn _ fun k hk ih => ?_
    have e1 : (4 * p + (k : Int)).toNat = 4 * p.toNat + k := by omega
    have e2 : (4 * p + (k : Int) + 1).toNat = 4 * p.toNat + k + 1 := by omega
    have e3 : mtakek p.toNat k (mplain p.toNat μ) 14 p.toNat = μ 14 p.toNat - 1 := by simp [mtakek, k14]
    refine okM_l (M := mX5_take) hG hb rfl okX5_take (fun pc => Nat.beq pc 60) ?_
    repeat' (first | ((conv => whnf); first | refine And.intro ?_ ?_ | (intro h9; try simp only [oki23, oki24, oki25, oki26, oki27, oki28, oki29, oki30, not_true_eq_false, not_false_eq_true, e3] at h9)) | exact rfl | omega | (simp only [mlen]; omega) | exact Nat.le_of_ble_eq_true rfl | exact Or.inl rfl | exact Or.inr rfl | assumption | (show (_ : Int) ≤ _; grind) | (show (_ : Int) < _; grind) | (simp only [oki23, oki24, oki25, oki26, oki27, oki28, oki29, oki30, not_true_eq_false, not_false_eq_true, e3]; done) | (simp only [mlen, oki23, oki24, oki25, oki26, oki27, oki28, oki29, oki30, not_true_eq_false, not_false_eq_true, e3]; omega))
    · rw [show k = (μ 14 p.toNat - 1).toNat by omega]; exact hQ
    · rw [e1, e2]
      exact mWe (ih (by omega)) mtakek_s
  refine okM_e (M := mX5_take) hG hb rfl okX5_take (fun pc => Nat.beq pc 60) ?_
  repeat' (first | refine tX5_isProc hG hb ?_ ?_ ?_ | refine tX5_refuse hG hb ?_ ?_ | refine tX5_plain hG hb ?_ ?_ ?_ ?_ | ((conv => whnf); first | refine And.intro ?_ ?_ | (intro h9; try simp [oki23, oki24, oki25, oki26, oki27, oki28, oki29, oki30, mup, k14, k13, hpr, e0] at h9)) | exact rfl | omega | (simp only [mlen]; omega) | exact Nat.le_of_ble_eq_true rfl | exact Or.inl rfl | exact Or.inr rfl | assumption | (show (_ : Int) ≤ _; grind) | (show (_ : Int) < _; grind) | (simp [oki23, oki24, oki25, oki26, oki27, oki28, oki29, oki30, mup, k14, k13, hpr, e0]; done) | (simp [mlen, oki23, oki24, oki25, oki26, oki27, oki28, oki29, oki30, mup, k14, k13, hpr, e0]; omega))
  · have hn : ¬ μ 14 p.toNat = 0 := by assumption
    rw [if_neg (by omega), if_neg hn] at hQ
    rw [e0, k13]
    refine mWe (s60 hn _ rfl hQ 0 (by omega)) ?_
    · funext a j; simp only [mup, mtakek]; grind
  · rw [if_neg (by omega), if_pos (by assumption)] at hQ
    exact hQ
  · rw [if_pos (by omega)] at hQ
    exact hQ
end ML
