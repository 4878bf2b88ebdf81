/-! the model's members: a call's begin and end -/
theorem oki23 (z : Int) : okI (gbool 3 23) z ↔ inR z := Iff.rfl
theorem oki24 (z : Int) : okI (gbool 3 24) z ↔ inR z := Iff.rfl
theorem oki25 (z : Int) : okI (gbool 3 25) z ↔ inR z := Iff.rfl
theorem oki26 (z : Int) : okI (gbool 3 26) z ↔ inR z := Iff.rfl
theorem oki27 (z : Int) : okI (gbool 3 27) z ↔ inR z := Iff.rfl
theorem oki28 (z : Int) : okI (gbool 3 28) z ↔ inR z := Iff.rfl
theorem oki29 (z : Int) : okI (gbool 3 29) z ↔ inR z := Iff.rfl
theorem oki30 (z : Int) : okI (gbool 3 30) z ↔ (z = 0 ∨ z = 1) := Iff.rfl
section ML
variable {G : gG} {σ : gS} {hm fr : Nat} {μ : mS} {Q : mQ}
def mfrk (k : Nat) (μ : mS) : mS := fun a j => if a = 26 ∧ j = 0 then 0 else if a = 7 ∧ j < k then 0 else μ a j
def menterk (p k : Nat) (μ : mS) : mS := fun a j => if a = 26 ∧ j = 0 then 0 else if a = 7 ∧ j < 15 then 0 else if a = 30 ∧ j = 0 then (if μ 9 p = 0 then 1 else 0) else if μ 9 p = 0 then (if a = 9 ∧ j = p then 1 else if a = 12 ∧ j = p then μ 23 0 + 1 else if a = 23 ∧ j = 0 then μ 23 0 + 1 else if a = 20 ∧ 4 * p ≤ j ∧ j < 4 * p + k then μ 18 j else if a = 21 ∧ 4 * p ≤ j ∧ j < 4 * p + k then μ 19 j else μ a j) else μ a j
def menter (p : Nat) (μ : mS) : mS := menterk p 4 μ
def mrefuse2 (p : Nat) (μ : mS) : mS := mup (mup μ 10 p 0) 26 0 2
theorem menterk_s {p k j9 : Nat} {μ : mS} (hg : μ 9 p = 0) (hk : k < 4) (hj : j9 = 4 * p + k) : mup (mup (menterk p k μ) 20 j9 (menterk p k μ 18 j9)) 21 j9 (mup (menterk p k μ) 20 j9 (menterk p k μ 18 j9) 19 j9) = menterk p (k + 1) μ := by
  subst hj
  funext a j; simp only [mup, menterk, hg, if_true]; grind (splits := 20)
theorem menterk_0 {p : Nat} {μ : mS} (hg : μ 9 p = 0) : mup (mup (mup (mup (mfrk 15 μ) 30 0 1) 9 p 1) 23 0 (μ 23 0 + 1)) 12 p (μ 23 0 + 1) = menterk p 0 μ := by
  funext a j; simp only [mup, menterk, mfrk, hg, if_true]; grind (splits := 20)
theorem menterk_1 {p : Nat} {μ : mS} (hg : ¬ μ 9 p = 0) : mup (mfrk 15 μ) 30 0 0 = menter p μ := by
  funext a j; simp only [mup, menter, menterk, mfrk, hg, if_false]; grind (splits := 20)
theorem tX5_enter (hG : gGood G) (hb : gBase G ≤ hm) {p : Int} (hp : 0 ≤ p ∧ p < 6) (hc : 0 ≤ μ 23 0 ∧ μ 23 0 ≤ 1000000) (hQ1 : μ 10 p.toNat = 0 → Q (some 1) (menter p.toNat μ)) (hQ0 : μ 10 p.toNat = 1 → Q (some 0) (mrefuse2 p.toNat μ)) : bx 0 (gOKm G σ hm mX5_enter fr [vr 0, vi p] μ Q) := by
  have key2 : ∀ k : Nat, k ≤ 4 → ∀ x : Int, x = 4 * p + k → μ 10 p.toNat = 0 → μ 9 p.toNat = 0 → bx 0 (mW G σ hm mX5_enter fr Q 102 [(0, vr 0), (1, vi p), (2, vi x)] [] (menterk p.toNat k μ)) := by
    refine dn 4 fun k hk ih x hx ht hg => ?_
    refine okM_l (M := mX5_enter) hG hb rfl okX5_enter (fun pc => Nat.beq pc 102) ?_
    repeat' (first | ((conv => whnf); first | refine And.intro ?_ ?_ | intro h9) | exact rfl | omega | (simp only [mlen]; omega) | exact Nat.le_of_ble_eq_true rfl | exact Or.inl rfl | exact Or.inr rfl | assumption | (show (_ : Int) ≤ _; grind) | (show (_ : Int) < _; grind))
    · have : k = 4 := by omega
      subst this
      exact hQ1 ht
    · refine mWe (ih (by omega) _ (by omega) ht hg) ?_
      exact menterk_s hg (by omega) (by omega)
  have key1 : ∀ k : Nat, k ≤ 15 → μ 10 p.toNat = 0 → bx 0 (mW G σ hm mX5_enter fr Q 30 [(0, vr 0), (1, vi p), (2, vi k)] [] (mfrk k μ)) := by
    refine dn 15 fun k hk ih ht => ?_
    have o1 : mfrk k μ 9 p.toNat = μ 9 p.toNat := by simp [mfrk]
    have o2 : mfrk k μ 23 0 = μ 23 0 := by simp [mfrk]
    refine okM_l (M := mX5_enter) hG hb rfl okX5_enter (fun pc => Nat.beq pc 102 || Nat.beq pc 30) ?_
    repeat' (first | ((conv => whnf); first | refine And.intro ?_ ?_ | (intro h9; try simp [oki23, oki24, oki25, oki26, oki27, oki28, oki29, oki30, mup, o1, o2] at h9)) | exact rfl | omega | (simp only [mlen]; omega) | exact Nat.le_of_ble_eq_true rfl | exact Or.inl rfl | exact Or.inr rfl | assumption | (show (_ : Int) ≤ _; grind) | (show (_ : Int) < _; grind) | (simp [oki23, oki24, oki25, oki26, oki27, oki28, oki29, oki30, mup, o1, o2]; done) | (simp [oki23, oki24, oki25, oki26, oki27, oki28, oki29, oki30, mup, o1, o2]; omega))
    · have : k = 15 := by omega
      subst this
      refine mQe (hQ1 ht) rfl ?_
      exact menterk_1 (by assumption)
    · have : k = 15 := by omega
      subst this
      refine mWe (key2 0 (by omega) (4 * p) (by omega) ht (by assumption)) ?_
      rw [← menterk_0 (by assumption)]
      rw [show mup (mup (mfrk 15 μ) 30 0 1) 9 p.toNat 1 23 0 = μ 23 0 by simp [mup, mfrk]]
    · refine mWe (ih (by omega) ht) ?_
      funext a j; simp only [mup, mfrk]; grind
  refine okM_e (M := mX5_enter) hG hb rfl okX5_enter (fun pc => Nat.beq pc 30) ?_
  repeat' (first | ((conv => whnf); first | refine And.intro ?_ ?_ | (intro h9; try simp [oki23, oki24, oki25, oki26, oki27, oki28, oki29, oki30, mup] at h9)) | exact rfl | omega | (simp only [mlen]; omega) | exact Nat.le_of_ble_eq_true rfl | exact Or.inl rfl | exact Or.inr rfl | assumption | (show (_ : Int) ≤ _; grind) | (show (_ : Int) < _; grind) | (simp [oki23, oki24, oki25, oki26, oki27, oki28, oki29, oki30, mup]; done) | (simp [oki23, oki24, oki25, oki26, oki27, oki28, oki29, oki30, mup]; omega))
  · refine mWe (key1 0 (by omega) (by assumption)) ?_
    funext a j; simp only [mup, mfrk]; grind
  · refine mQe (hQ0 (by omega)) rfl ?_
    funext a j; simp only [mup, mrefuse2]; grind
def mplain (p : Nat) (μ : mS) : mS := if μ 9 p = 0 then mup (menter p μ) 9 p 0 else menter p μ
theorem tX5_plain (hG : gGood G) (hb : gBase G ≤ hm) {p : Int} (hp : 0 ≤ p ∧ p < 6) (hc : 0 ≤ μ 23 0 ∧ μ 23 0 ≤ 1000000) (hQ1 : μ 10 p.toNat = 0 → Q (some 1) (mplain p.toNat μ)) (hQ0 : μ 10 p.toNat = 1 → Q (some 0) (mrefuse2 p.toNat μ)) : bx 0 (gOKm G σ hm mX5_plain (fr + 1) [vr 0, vi p] μ Q) := by
  have o1 : menter p.toNat μ 30 0 = if μ 9 p.toNat = 0 then 1 else 0 := by simp [menter, menterk]
  refine okM (M := mX5_plain) hG hb rfl okX5_plain ?_
  repeat' (first | refine tX5_enter hG hb ?_ ?_ ?_ ?_ | ((conv => whnf); first | refine And.intro ?_ ?_ | (intro h9; try simp [oki23, oki24, oki25, oki26, oki27, oki28, oki29, oki30, mup, o1] at h9)) | exact rfl | omega | (simp only [mlen]; omega) | exact Nat.le_of_ble_eq_true rfl | exact Or.inl rfl | exact Or.inr rfl | assumption | (show (_ : Int) ≤ _; grind) | (show (_ : Int) < _; grind) | (simp [oki23, oki24, oki25, oki26, oki27, oki28, oki29, oki30, mup, o1]; done) | (simp [oki23, oki24, oki25, oki26, oki27, oki28, oki29, oki30, mup, o1]; omega))
  all_goals simp only [mplain] at hQ1
  all_goals grind
def mfailk (p k : Nat) (μ : mS) : mS := fun a j => if a = 5 ∧ 15 * p ≤ j ∧ j < 15 * p + k ∧ μ 7 (j - 15 * p) = 1 then 0 else μ a j
theorem mfailk_s {p k : Nat} {μ : mS} (hk : ¬ μ 7 k = 0) (h1 : μ 7 k = 0 ∨ μ 7 k = 1) : mup (mfailk p k μ) 5 (15 * p + k) 0 = mfailk p (k + 1) μ := by
  funext a j; simp only [mup, mfailk]; grind (splits := 20)
theorem mfailk_n {p k : Nat} {μ : mS} (hk : μ 7 k = 0) : mfailk p k μ = mfailk p (k + 1) μ := by
  funext a j; simp only [mfailk]; grind (splits := 20)
theorem mfailk_0 {p : Nat} {μ : mS} : mfailk p 0 μ = μ := by
  funext a j; simp only [mfailk]; grind (splits := 20)
def mfail (p : Nat) (c : Int) (μ : mS) : mS := msweep (mup (if μ 26 0 = 0 then (if μ 30 0 = 0 then mfailk p 15 μ else mdrop p μ) else μ) 26 0 (if μ 26 0 = 0 then c else μ 26 0))
theorem tX5_fail (hG : gGood G) (hb : gBase G ≤ hm) {p c : Int} (hp : 0 ≤ p ∧ p < 6) (hc : inR c) (hQ : Q (some 0) (mfail p.toNat c μ)) : bx 0 (gOKm G σ hm mX5_fail (fr + 2) [vr 0, vi p, vi c] μ Q) := by
  have key : ∀ k : Nat, k ≤ 15 → μ 26 0 = 0 → μ 30 0 = 0 → bx 0 (mW G σ hm mX5_fail (fr + 2) Q 24 [(0, vr 0), (1, vi p), (2, vi c), (3, vi k)] [] (mfailk p.toNat k μ)) := by
    refine dn 15 fun k hk ih h26 h30 => ?_
    have o1 : mfailk p.toNat k μ 26 0 = μ 26 0 := by simp [mfailk]
    have o2 : mfailk p.toNat k μ 7 k = μ 7 k := by simp [mfailk]
    refine okM_l (M := mX5_fail) hG hb rfl okX5_fail (fun pc => Nat.beq pc 24) ?_
    repeat' (first | refine tX5_sweep hG hb ?_ | ((conv => whnf); first | refine And.intro ?_ ?_ | (intro h9; try simp [oki23, oki24, oki25, oki26, oki27, oki28, oki29, oki30, mup, o1, o2] at h9)) | exact rfl | omega | (simp only [mlen]; omega) | exact Nat.le_of_ble_eq_true rfl | exact Or.inl rfl | exact Or.inr rfl | assumption | (show (_ : Int) ≤ _; grind) | (show (_ : Int) < _; grind) | (simp [oki23, oki24, oki25, oki26, oki27, oki28, oki29, oki30, mup, o1, o2]; done) | (simp [oki23, oki24, oki25, oki26, oki27, oki28, oki29, oki30, mup, o1, o2]; omega))
    · refine mQe hQ rfl ?_
      have : k = 15 := by omega
      subst this
      simp only [mfail, h26, h30, if_true]
    · exact mWe (ih (by omega) h26 h30) (mfailk_n (by assumption))
    · have e1 : (15 * p + (k : Int)).toNat = 15 * p.toNat + k := by omega
      rw [e1]
      exact mWe (ih (by omega) h26 h30) (mfailk_s (by assumption) (by assumption))
  refine okM_e (M := mX5_fail) hG hb rfl okX5_fail (fun pc => Nat.beq pc 24) ?_
  have o1 : mdrop p.toNat μ 26 0 = μ 26 0 := by simp [mdrop]
  repeat' (first | refine tX5_drop hG hb ?_ ?_ | refine tX5_sweep hG hb ?_ | ((conv => whnf); first | refine And.intro ?_ ?_ | (intro h9; try simp [oki23, oki24, oki25, oki26, oki27, oki28, oki29, oki30, mup, o1] at h9)) | exact rfl | omega | (simp only [mlen]; omega) | exact Nat.le_of_ble_eq_true rfl | exact Or.inl rfl | exact Or.inr rfl | assumption | (show (_ : Int) ≤ _; grind) | (show (_ : Int) < _; grind) | (simp [oki23, oki24, oki25, oki26, oki27, oki28, oki29, oki30, mup, o1]; done) | (simp [oki23, oki24, oki25, oki26, oki27, oki28, oki29, oki30, mup, o1]; omega))
  · refine mQe hQ rfl ?_
    rw [mfail, if_neg (by assumption), if_neg (by assumption)]
  · exact mWe (key 0 (by omega) (by assumption) (by assumption)) mfailk_0.symm
  · refine mQe hQ rfl ?_
    rw [mfail, if_pos (by assumption), if_neg (by assumption), if_pos (by assumption)]
def msend (q : Nat) (n : Int) (μ : mS) : mS := if μ 8 q = 1 ∧ μ 14 q < 4 then mup (mup μ 14 q (μ 14 q + 1)) 13 (4 * q + (μ 14 q).toNat) n else μ
theorem tX5_send (hG : gGood G) (hb : gBase G ≤ hm) {q n : Int} (hq : 0 ≤ q ∧ q < 6) (hn : inR n) (hm9 : 0 ≤ μ 14 q.toNat) (hQ : Q none (msend q.toNat n μ)) : bx 0 (gOKm G σ hm mX5_send fr [vr 0, vi q, vi n] μ Q) := by
  have e1 : (4 * q + μ 14 q.toNat).toNat = 4 * q.toNat + (μ 14 q.toNat).toNat := by omega
  refine okM (M := mX5_send) hG hb rfl okX5_send ?_
  repeat' (first | ((conv => whnf); first | refine And.intro ?_ ?_ | (intro h9; try simp [oki23, oki24, oki25, oki26, oki27, oki28, oki29, oki30, mup, e1] at h9)) | exact rfl | omega | (simp only [mlen]; omega) | exact Nat.le_of_ble_eq_true rfl | exact Or.inl rfl | exact Or.inr rfl | assumption | (show (_ : Int) ≤ _; grind) | (show (_ : Int) < _; grind) | (simp [oki23, oki24, oki25, oki26, oki27, oki28, oki29, oki30, mup, e1]; done) | (simp [oki23, oki24, oki25, oki26, oki27, oki28, oki29, oki30, mup, e1]; omega))
  all_goals refine mQe hQ rfl ?_
  all_goals simp only [msend]
  · rw [if_neg (by omega)]
  · rw [if_neg (by omega)]
  · rw [if_pos (by omega), e1]
theorem tX5_isHeld (hG : gGood G) (hb : gBase G ≤ hm) {p d : Int} (hp : inR p) (hd : inR d) (hQ1 : 0 ≤ p → p ≤ 5 → μ 8 p.toNat = 1 → 0 ≤ d → d ≤ 3 → 0 ≤ μ 18 (4 * p.toNat + d.toNat) → Q (some 1) μ) (hQ0 : ¬ (0 ≤ p ∧ p ≤ 5 ∧ μ 8 p.toNat = 1 ∧ 0 ≤ d ∧ d ≤ 3 ∧ 0 ≤ μ 18 (4 * p.toNat + d.toNat)) → Q (some 0) μ) : bx 0 (gOKm G σ hm mX5_isHeld (fr + 2) [vr 0, vi p, vi d] μ Q) := by
  refine okM (M := mX5_isHeld) hG hb rfl okX5_isHeld ?_
  have e1 : 0 ≤ p → 0 ≤ d → (4 * p + d).toNat = 4 * p.toNat + d.toNat := fun _ _ => by omega
  repeat' (first | refine tX5_isProcess hG hb ?_ ?_ ?_ | refine tX5_is hG hb ?_ ?_ ?_ ?_ ?_ | ((conv => whnf); first | refine And.intro ?_ ?_ | (intro h9; try simp [oki23, oki24, oki25, oki26, oki27, oki28, oki29, oki30, mup] at h9)) | exact rfl | omega | (simp only [mlen]; omega) | exact Nat.le_of_ble_eq_true rfl | exact Or.inl rfl | exact Or.inr rfl | assumption | (show (_ : Int) ≤ _; grind) | (show (_ : Int) < _; grind) | (simp [oki23, oki24, oki25, oki26, oki27, oki28, oki29, oki30, mup]; done) | (simp [oki23, oki24, oki25, oki26, oki27, oki28, oki29, oki30, mup]; omega))
  · rw [e1 (by omega) (by omega)] at *
    exact hQ0 (by omega)
  · rw [e1 (by omega) (by omega)] at *
    exact hQ1 (by omega) (by omega) (by omega) (by omega) (by omega) (by omega)
  · exact hQ0 (by omega)
  · exact hQ0 (by omega)
def mfd (μ : mS) (p d : Nat) : Nat → Int
  | 0 => -1
  | n + 1 => if μ 18 (4 * p + d) < 0 then d else mfd μ p (d + 1) n
theorem tX5_freeDescriptor (hG : gGood G) (hb : gBase G ≤ hm) {p d : Int} (hp : 0 ≤ p ∧ p < 6) (hd : 0 ≤ d ∧ d ≤ 4) (hQ : Q (some (mfd μ p.toNat d.toNat (4 - d.toNat))) μ) : bx 0 (gOKm G σ hm mX5_freeDescriptor fr [vr 0, vi p, vi d] μ Q) := by
  have key : ∀ k : Nat, k ≤ 4 → d.toNat ≤ k → Q (some (mfd μ p.toNat k (4 - k))) μ → bx 0 (mW G σ hm mX5_freeDescriptor fr Q 2 [(0, vr 0), (1, vi p), (2, vi d), (3, vi k)] [] μ) := by
    refine dn 4 fun k hk ih hdk hQ => ?_
    have e1 : (4 * p + (k : Int)).toNat = 4 * p.toNat + k := by omega
    refine okM_l (M := mX5_freeDescriptor) hG hb rfl okX5_freeDescriptor (fun pc => Nat.beq pc 2) ?_
    repeat' (first | ((conv => whnf); first | refine And.intro ?_ ?_ | (intro h9; try simp [oki23, oki24, oki25, oki26, oki27, oki28, oki29, oki30, mup, e1] at h9)) | exact rfl | omega | (simp only [mlen]; omega) | exact Nat.le_of_ble_eq_true rfl | exact Or.inl rfl | exact Or.inr rfl | assumption | (show (_ : Int) ≤ _; grind) | (show (_ : Int) < _; grind) | (simp [oki23, oki24, oki25, oki26, oki27, oki28, oki29, oki30, mup, e1]; done) | (simp [oki23, oki24, oki25, oki26, oki27, oki28, oki29, oki30, mup, e1]; omega))
    · have : k = 4 := by omega
      subst this
      exact hQ
    · refine ih (by omega) (by omega) ?_
      rw [show 4 - k = (4 - (k + 1)) + 1 by omega, mfd, if_neg (by omega)] at hQ
      exact hQ
    · rw [show 4 - k = (4 - (k + 1)) + 1 by omega, mfd, if_pos (by omega)] at hQ
      exact hQ
  refine okM_e (M := mX5_freeDescriptor) hG hb rfl okX5_freeDescriptor (fun pc => Nat.beq pc 2) ?_
  have e2 : d = ((d.toNat : Nat) : Int) := by omega
  repeat' (first | ((conv => whnf); first | refine And.intro ?_ ?_ | intro h9) | exact rfl | omega | (simp only [mlen]; omega) | exact Nat.le_of_ble_eq_true rfl | exact Or.inl rfl | exact Or.inr rfl | assumption | (show (_ : Int) ≤ _; grind) | (show (_ : Int) < _; grind))
  have := key d.toNat (by omega) (by omega) hQ
  rw [← e2] at this
  exact this
def mprocs (μ : mS) : Nat → Int := cnt (fun q => decide (μ 8 q = 1))
theorem tX5_processes (hG : gGood G) (hb : gBase G ≤ hm) (hQ : Q (some (mprocs μ 6)) μ) : bx 0 (gOKm G σ hm mX5_processes fr [vr 0] μ Q) := by
  have key : ∀ k : Nat, k ≤ 6 → ∀ c : Int, c = mprocs μ k → bx 0 (mW G σ hm mX5_processes fr Q 4 [(0, vr 0), (1, vi c), (2, vi k)] [] μ) := by
    refine dn 6 fun k hk ih c hc9 => ?_
    refine okM_l (M := mX5_processes) hG hb rfl okX5_processes (fun pc => Nat.beq pc 4) ?_
    repeat' (first | ((conv => whnf); first | refine And.intro ?_ ?_ | (intro h9; try simp [oki23, oki24, oki25, oki26, oki27, oki28, oki29, oki30, mup] at h9)) | exact rfl | omega | (simp only [mlen]; omega) | exact Nat.le_of_ble_eq_true rfl | exact Or.inl rfl | exact Or.inr rfl | assumption | (show (_ : Int) ≤ _; grind) | (show (_ : Int) < _; grind) | (simp [oki23, oki24, oki25, oki26, oki27, oki28, oki29, oki30, mup]; done) | (simp [oki23, oki24, oki25, oki26, oki27, oki28, oki29, oki30, mup]; omega))
    · have : k = 6 := by omega
      subst this
      subst hc9
      exact hQ
    · refine ih (by omega) c ?_
      simp only [hc9, mprocs, cnt]; rw [decide_eq_false (by omega)]
      simp [b2i]
    · refine ih (by omega) (c + 1) ?_
      simp only [hc9, mprocs, cnt]; rw [decide_eq_true (by omega)]
      simp [b2i]
  refine okM_e (M := mX5_processes) hG hb rfl okX5_processes (fun pc => Nat.beq pc 4) ?_
  repeat' (first | ((conv => whnf); first | refine And.intro ?_ ?_ | intro h9) | exact rfl | omega | (simp only [mlen]; omega) | exact Nat.le_of_ble_eq_true rfl | exact Or.inl rfl | exact Or.inr rfl | assumption | (show (_ : Int) ≤ _; grind) | (show (_ : Int) < _; grind))
  exact key 0 (by omega) 0 rfl
end ML
