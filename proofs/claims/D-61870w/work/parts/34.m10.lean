/-! the model's members: the end of a transaction -/
def mdirty (μ : mS) (p k : Nat) : Int := cnt (fun i => decide (μ 5 (15 * p + i) = 1)) k
def msendk (p : Nat) : Nat → mS → mS
  | 0, μ => μ
  | k + 1, μ => msend (μ 16 (4 * p + k)).toNat (μ 15 (4 * p + k)) (msendk p k μ)
theorem msend_k {q a : Nat} {n : Int} {μ : mS} (h : a ≠ 13) (h2 : a ≠ 14) : msend q n μ a = μ a := by
  unfold msend
  split
  · rw [mup_other _ _ _ h, mup_other _ _ _ h2]
  · rfl
theorem msendk_k {p a : Nat} {μ : mS} (h : a ≠ 13) (h2 : a ≠ 14) : ∀ k, msendk p k μ a = μ a := by
  intro k
  induction k with
  | zero => rfl
  | succ k ih => rw [msendk, msend_k h h2, ih]
theorem msend_r {q : Nat} {n : Int} {μ : mS} (h : ∀ x, x < 6 → 0 ≤ μ 14 x ∧ μ 14 x ≤ 4) : ∀ x, x < 6 → 0 ≤ msend q n μ 14 x ∧ msend q n μ 14 x ≤ 4 := by
  intro x hx
  have := h x hx
  unfold msend
  split
  · rename_i h9
    rw [mup_other _ _ _ (by omega)]
    unfold mup
    split
    · rename_i h8; rw [h8.2] at this; omega
    · exact this
  · exact this
theorem msendk_r {p : Nat} {μ : mS} (h : ∀ x, x < 6 → 0 ≤ μ 14 x ∧ μ 14 x ≤ 4) : ∀ k, ∀ x, x < 6 → 0 ≤ msendk p k μ 14 x ∧ msendk p k μ 14 x ≤ 4 := by
  intro k
  induction k with
  | zero => exact h
  | succ k ih => exact msend_r ih
def mcr1 (k : Nat) (ν : mS) : mS := fun a j => if a = 22 ∧ j = 4 then ν 22 4 + 1 else if (a = 5 ∨ a = 6) ∧ j / 15 < k then 0 else if (a = 9 ∨ a = 11 ∨ a = 17 ∨ a = 10 ∨ a = 14) ∧ j < k then 0 else if a = 8 ∧ j < k then (if j = 0 then 1 else 0) else ν a j
def mcr2 (k : Nat) (ν : mS) : mS := fun a j => if a = 18 ∧ j < k then -1 else mcr1 6 ν a j
def mcr3 (k : Nat) (ν : mS) : mS := fun a j => if a = 0 ∧ 12 ≤ j ∧ j < k then 0 else mcr2 24 ν a j
def mcrash (ν : mS) : mS := mcr3 15 ν
theorem mcr1_s {k : Nat} {ν : mS} : mup (mup (mup (mdrop k (mcr1 k ν)) 8 k (if k = 0 then 1 else 0)) 10 k 0) 14 k 0 = mcr1 (k + 1) ν := by
  have e15 : ∀ x, (15 * k ≤ x ∧ x < 15 * k + 15) ↔ x / 15 = k := by intro x; omega
  have e1 : ∀ x, (x < k + 1) ↔ (x < k ∨ x = k) := by intro x; omega
  funext a j; simp only [mup, mdrop, mcr1, e15, e1]; grind (splits := 30)
theorem mcr1_0 {ν : mS} : mup ν 22 4 (ν 22 4 + 1) = mcr1 0 ν := by
  funext a j; simp only [mup, mcr1]; grind
def mputk (p k : Nat) (μ : mS) : mS := fun a j => if a ≤ 2 ∧ j < k ∧ μ 5 (15 * p + j) = 1 then μ a (15 + 15 * p + j) else if (a = 3 ∨ a = 4) ∧ j / 8 < k ∧ μ 5 (15 * p + j / 8) = 1 then μ a (8 * (15 + 15 * p) + j) else μ a j
def mput (p : Nat) (μ : mS) : mS := mputk p 15 μ
theorem mputk_s {p k : Nat} {μ : mS} (hk : k < 15) (h : μ 5 (15 * p + k) = 1) : mcopy (15 + 15 * p + k) k (mputk p k μ) = mputk p (k + 1) μ := by
  have e8 : ∀ x, (8 * k ≤ x ∧ x < 8 * k + 8) ↔ x / 8 = k := by intro x; omega
  have e1 : ∀ x, (x < k + 1) ↔ (x < k ∨ x = k) := by intro x; omega
  funext a j; simp only [mcopy, mcopyk, mputk, e8, e1]; grind (splits := 30)
theorem mputk_n {p k : Nat} {μ : mS} (h : ¬ μ 5 (15 * p + k) = 1) : mputk p k μ = mputk p (k + 1) μ := by
  have e1 : ∀ x, (x < k + 1) ↔ (x < k ∨ x = k) := by intro x; omega
  funext a j; simp only [mputk, e1]; grind (splits := 30)
theorem mputk_0 {p : Nat} {μ : mS} : mputk p 0 μ = μ := by
  funext a j; simp [mputk]
def mcrs (μ : mS) (d : Int) : Bool := decide (0 < d ∧ 0 ≤ μ 25 0 ∧ μ 25 0 < 2 * d + 1)
def mfst (μ : mS) (d : Int) : mS := if 0 < d then mup (mup μ 22 5 (μ 22 5 + (if mcrs μ d = true then μ 25 0 else 2 * d + 1))) 25 0 (-1) else μ
def mend (p : Nat) (ν : mS) : mS := mdrop p (msendk p (ν 17 p).toNat (mup ν 22 2 (ν 22 2 + 1)))
def mfinish (p : Nat) (μ : mS) : Int × mS :=
  if 0 < mdirty μ p 12 ∧ μ 24 0 < mdirty μ p 12 + 2 then (1, mabort p μ)
  else if mcrs μ (mdirty μ p 12) = true then (2, mcrash (if mdirty μ p 12 < μ 25 0 then mput p (mfst μ (mdirty μ p 12)) else mfst μ (mdirty μ p 12)))
  else (0, mend p (mput p (mfst μ (mdirty μ p 12))))
/-- ranges of what belongs to a process -/
def mRq (μ : mS) : Prop := (∀ q, q < 6 → 0 ≤ μ 11 q ∧ μ 11 q ≤ 20 ∧ 0 ≤ μ 14 q ∧ μ 14 q ≤ 4 ∧ 0 ≤ μ 17 q ∧ μ 17 q ≤ 4) ∧ (∀ x, x < 24 → 0 ≤ μ 16 x ∧ μ 16 x ≤ 5)
theorem mRq_c {μ μ' : mS} (h0 : μ' 11 = μ 11) (h1 : μ' 14 = μ 14) (h2 : μ' 17 = μ 17) (h4 : μ' 16 = μ 16) (h : mRq μ) : mRq μ' := by
  unfold mRq at h ⊢; rw [h0, h1, h2, h4]; exact h
section ML
variable {G : gG} {σ : gS} {hm fr : Nat} {μ : mS} {Q : mQ}
theorem tX5_finish (hG : gGood G) (hb : gBase G ≤ hm) {p : Int} (hp : 0 ≤ p ∧ p < 6) (hR : bx 0 (mRq μ)) (hl : 2 ≤ μ 24 0 ∧ μ 24 0 ≤ 14) (hcut : -1 ≤ μ 25 0 ∧ μ 25 0 ≤ 30) (hc : ∀ j, j < 6 → 0 ≤ μ 22 j ∧ μ 22 j ≤ 1000000) (hQ : Q (some (mfinish p.toNat μ).1) (mfinish p.toNat μ).2) : bx 0 (gOKm G σ hm mX5_finish (fr + 2) [vr 0, vi p] μ Q) := by
  have hR := bx_out hR
  -- the signals
  have s319 : ∀ ν : mS, mRq ν → Q (some 0) (mdrop p.toNat (msendk p.toNat (ν 17 p.toNat).toNat ν)) → ∀ k : Nat, k ≤ (ν 17 p.toNat).toNat → bx 0 (mW G σ hm mX5_finish (fr + 2) Q 319 [(0, vr 0), (1, vi p), (5, vi k)] [] (msendk p.toNat k ν)) := by
    intro ν hR hQ
    refine dn _ fun k hk ih => ?_
    have q1 := hR.1 p.toNat (by omega)
    have e1 : (4 * p + (k : Int)).toNat = 4 * p.toNat + k := by omega
    have e2 : msendk p.toNat k ν 16 = ν 16 := msendk_k (by omega) (by omega) k
    have e3 : msendk p.toNat k ν 15 = ν 15 := msendk_k (by omega) (by omega) k
    have e4 : msendk p.toNat k ν 17 = ν 17 := msendk_k (by omega) (by omega) k
    have e6 : k < (ν 17 p.toNat).toNat → 0 ≤ ν 16 (4 * p.toNat + k) ∧ ν 16 (4 * p.toNat + k) ≤ 5 := fun h => hR.2 _ (by omega)
    have e5 : k < (ν 17 p.toNat).toNat → 0 ≤ msendk p.toNat k ν 14 (ν 16 (4 * p.toNat + k)).toNat := fun h => (msendk_r (p := p.toNat) (μ := ν) (fun x hx => by have := hR.1 x hx; omega) k (ν 16 (4 * p.toNat + k)).toNat (by have := e6 h; omega)).1
    refine okM_l (M := mX5_finish) hG hb rfl okX5_finish (fun pc => Nat.beq pc 319) ?_
    repeat' (first | refine tX5_send hG hb ?_ ?_ ?_ ?_ | refine tX5_drop hG hb ?_ ?_ | ((conv => whnf); first | refine And.intro ?_ ?_ | (intro h9; try simp only [oki23, oki24, oki25, oki26, oki27, oki28, oki29, oki30, not_true_eq_false, not_false_eq_true, e1, e2, e3, e4] at h9)) | exact rfl | omega | (simp only [mlen]; omega) | exact Nat.le_of_ble_eq_true rfl | exact Or.inl rfl | exact Or.inr rfl | assumption | (show (_ : Int) ≤ _; grind) | (show (_ : Int) < _; grind) | (simp only [oki23, oki24, oki25, oki26, oki27, oki28, oki29, oki30, not_true_eq_false, not_false_eq_true, e1, e2, e3, e4]; done) | (simp only [mlen, oki23, oki24, oki25, oki26, oki27, oki28, oki29, oki30, not_true_eq_false, not_false_eq_true, e1, e2, e3, e4]; omega))
    · refine mQe hQ rfl ?_
      rw [show k = (ν 17 p.toNat).toNat by omega]
    · rw [e1, e2, e3]
      exact ih (by omega)
  -- a crash
  have s283 : ∀ ν : mS, Q (some 2) (mcrash ν) → ∀ n : Nat, n ≤ 3 → ∀ x : Int, x = 12 + n → bx 0 (mW G σ hm mX5_finish (fr + 2) Q 283 [(0, vr 0), (5, vi x)] [] (mcr3 x.toNat ν)) := by
    intro ν hQ
    refine dn _ fun k hk ih x hx => ?_
    refine okM_l (M := mX5_finish) hG hb rfl okX5_finish (fun pc => Nat.beq pc 283) ?_
    repeat' (first | ((conv => whnf); first | refine And.intro ?_ ?_ | intro h9) | exact rfl | omega | (simp only [mlen]; omega) | exact Nat.le_of_ble_eq_true rfl | exact Or.inl rfl | exact Or.inr rfl | assumption | (show (_ : Int) ≤ _; grind) | (show (_ : Int) < _; grind))
    · refine mQe hQ rfl ?_
      rw [show x.toNat = 15 by omega]; rfl
    · refine mWe (ih (by omega) (x + 1) (by omega)) ?_
      rw [show (x + 1).toNat = x.toNat + 1 by omega]
      have : 12 ≤ x.toNat := by omega
      generalize x.toNat = y at *
      funext a j; simp only [mup, mcr3]; grind
  have s258 : ∀ ν : mS, Q (some 2) (mcrash ν) → ∀ k : Nat, k ≤ 24 → bx 0 (mW G σ hm mX5_finish (fr + 2) Q 258 [(0, vr 0), (5, vi k)] [] (mcr2 k ν)) := by
    intro ν hQ
    refine dn _ fun k hk ih => ?_
    refine okM_l (M := mX5_finish) hG hb rfl okX5_finish (fun pc => Nat.beq pc 258 || Nat.beq pc 283) ?_
    repeat' (first | ((conv => whnf); first | refine And.intro ?_ ?_ | intro h9) | exact rfl | omega | (simp only [mlen]; omega) | exact Nat.le_of_ble_eq_true rfl | exact Or.inl rfl | exact Or.inr rfl | assumption | (show (_ : Int) ≤ _; grind) | (show (_ : Int) < _; grind))
    · refine mWe (s283 ν hQ 0 (by omega) 12 (by omega)) ?_
      rw [show k = 24 by omega]
      funext a j; simp only [mcr3]; grind
    · refine mWe (ih (by omega)) ?_
      funext a j; simp only [mup, mcr2]; grind
  have s203 : ∀ ν : mS, Q (some 2) (mcrash ν) → ∀ k : Nat, k ≤ 6 → bx 0 (mW G σ hm mX5_finish (fr + 2) Q 203 [(0, vr 0), (5, vi k)] [] (mcr1 k ν)) := by
    intro ν hQ
    refine dn _ fun k hk ih => ?_
    refine okM_l (M := mX5_finish) hG hb rfl okX5_finish (fun pc => Nat.beq pc 203 || Nat.beq pc 258) ?_
    repeat' (first | refine tX5_drop hG hb ?_ ?_ | ((conv => whnf); first | refine And.intro ?_ ?_ | intro h9) | exact rfl | omega | (simp only [mlen]; omega) | exact Nat.le_of_ble_eq_true rfl | exact Or.inl rfl | exact Or.inr rfl | assumption | (show (_ : Int) ≤ _; grind) | (show (_ : Int) < _; grind))
    · refine mWe (s258 ν hQ 0 (by omega)) ?_
      rw [show k = 6 by omega]
      funext a j; simp only [mcr2]; grind
    all_goals refine mWe (ih (by omega)) ?_
    all_goals rw [← mcr1_s]
    · rw [if_neg (by omega)]; rfl
    · rw [if_pos (by omega)]; rfl
  -- from the join on
  have s186 : ∀ (ν : mS) (c : Int), mRq ν → (∀ j, j < 6 → 0 ≤ ν 22 j ∧ ν 22 j ≤ 1100000) → (c = 1 → Q (some 2) (mcrash ν)) → (c = 0 → Q (some 0) (mend p.toNat ν)) → (c = 0 ∨ c = 1) → bx 0 (mW G σ hm mX5_finish (fr + 2) Q 186 [(0, vr 0), (1, vi p), (3, vi c)] [] ν) := by
    intro ν c hR hc h1 h0 h01
    have hc4 := hc 4 (by omega)
    have hc2 := hc 2 (by omega)
    refine okM_l (M := mX5_finish) hG hb rfl okX5_finish (fun pc => Nat.beq pc 203 || Nat.beq pc 319) ?_
    repeat' (first | ((conv => whnf); first | refine And.intro ?_ ?_ | intro h9) | exact rfl | omega | (simp only [mlen]; omega) | exact Nat.le_of_ble_eq_true rfl | exact Or.inl rfl | exact Or.inr rfl | assumption | (show (_ : Int) ≤ _; grind) | (show (_ : Int) < _; grind))
    · refine mW_d 3 ?_
      have := s319 (mup ν 22 2 (ν 22 2 + 1)) (mRq_c rfl rfl rfl rfl hR) (h0 (by omega)) 0 (by omega)
      exact this
    · refine mW_d 3 (mW_d 1 ?_)
      exact mWe (s203 ν (h1 (by omega)) 0 (by omega)) mcr1_0
  -- the copies are the items now
  have s142 : ∀ (ν : mS) (c : Int), mRq ν → (∀ j, j < 6 → 0 ≤ ν 22 j ∧ ν 22 j ≤ 1100000) → (c = 1 → Q (some 2) (mcrash (mput p.toNat ν))) → (c = 0 → Q (some 0) (mend p.toNat (mput p.toNat ν))) → (c = 0 ∨ c = 1) → ∀ k : Nat, k ≤ 15 → bx 0 (mW G σ hm mX5_finish (fr + 2) Q 142 [(0, vr 0), (1, vi p), (3, vi c), (5, vi k)] [] (mputk p.toNat k ν)) := by
    intro ν c hR hc h1 h0 h01
    refine dn _ fun k hk ih => ?_
    have e1 : (15 * p + (k : Int)).toNat = 15 * p.toNat + k := by omega
    have e3 : (15 + 15 * p + (k : Int)).toNat = 15 + 15 * p.toNat + k := by omega
    have e2 : ∀ j, mputk p.toNat k ν 5 j = ν 5 j := fun j => by simp [mputk]
    refine okM_l (M := mX5_finish) hG hb rfl okX5_finish (fun pc => Nat.beq pc 142 || Nat.beq pc 186) ?_
    repeat' (first | refine tX5_copy hG hb ?_ ?_ ?_ ?_ | ((conv => whnf); first | refine And.intro ?_ ?_ | (intro h9; try simp only [oki23, oki24, oki25, oki26, oki27, oki28, oki29, oki30, not_true_eq_false, not_false_eq_true, e1, e2, Int.toNat_natCast] at h9)) | exact rfl | omega | (simp only [mlen]; omega) | exact Nat.le_of_ble_eq_true rfl | exact Or.inl rfl | exact Or.inr rfl | assumption | (show (_ : Int) ≤ _; grind) | (show (_ : Int) < _; grind) | (simp only [oki23, oki24, oki25, oki26, oki27, oki28, oki29, oki30, not_true_eq_false, not_false_eq_true, e1, e2, Int.toNat_natCast]; done) | (simp only [mlen, oki23, oki24, oki25, oki26, oki27, oki28, oki29, oki30, not_true_eq_false, not_false_eq_true, e1, e2, Int.toNat_natCast]; omega))
    · refine mW_d 5 ?_
      have : k = 15 := by omega
      subst this
      exact s186 (mputk p.toNat 15 ν) c (mRq_c (by funext j; simp [mputk]) (by funext j; simp [mputk]) (by funext j; simp [mputk]) (by funext j; simp [mputk]) hR) (fun j hj => by rw [show mputk p.toNat 15 ν 22 j = ν 22 j by simp [mputk]]; exact hc j hj) h1 h0 h01
    · exact mWe (ih (by omega)) (mputk_n (by omega))
    · rw [e3]
      exact mWe (ih (by omega)) (mputk_s (by omega) (by omega))
  -- whether it may end
  have s33 : ∀ d : Int, d = mdirty μ p.toNat 12 → 0 ≤ d ∧ d ≤ 12 → bx 0 (mW G σ hm mX5_finish (fr + 2) Q 33 [(0, vr 0), (1, vi p), (2, vi d)] [] μ) := by
    intro d hd hd2
    have hc3 := hc 3 (by omega)
    have hc5 := hc 5 (by omega)
    refine okM_l (M := mX5_finish) hG hb rfl okX5_finish (fun pc => Nat.beq pc 142 || Nat.beq pc 186) ?_
    unfold mfinish at hQ
    rw [← hd] at hQ
    have hR' : mRq (mfst μ d) := by
      unfold mfst; split
      · exact mRq_c rfl rfl rfl rfl hR
      · exact hR
    have hc' : ∀ j, j < 6 → 0 ≤ mfst μ d 22 j ∧ mfst μ d 22 j ≤ 1100000 := by
      intro j hj
      have := hc j hj
      unfold mfst mcrs; split
      · rw [mup_other _ _ _ (by omega)]
        unfold mup
        split
        · split
          · rename_i hh
            have := of_decide_eq_true hh
            omega
          · omega
        · omega
      · omega
    repeat' (first | refine tX5_aborted hG hb ?_ ?_ ?_ | ((conv => whnf); first | refine And.intro ?_ ?_ | (intro h9; try simp [oki23, oki24, oki25, oki26, oki27, oki28, oki29, oki30, mup] at h9)) | exact rfl | omega | (simp only [mlen]; omega) | exact Nat.le_of_ble_eq_true rfl | exact Or.inl rfl | exact Or.inr rfl | assumption | (show (_ : Int) ≤ _; grind) | (show (_ : Int) < _; grind) | (simp [oki23, oki24, oki25, oki26, oki27, oki28, oki29, oki30, mup]; done) | (simp [mlen, oki23, oki24, oki25, oki26, oki27, oki28, oki29, oki30, mup]; omega))
    · have hcr : mcrs μ d = false := decide_eq_false (by omega)
      rw [if_neg (by omega), hcr] at hQ
      have e : mfst μ d = μ := if_neg (by omega)
      refine mW_d 4 (mW_d 2 (mWe (s142 (mfst μ d) 0 hR' hc' (fun h => by omega) (fun _ => hQ) (Or.inl rfl) 0 (by omega)) ?_))
      rw [mputk_0, e]
      funext a j; simp [mup]; intro h1 h2; subst h1; subst h2; rfl
    · have hcr : mcrs μ d = false := decide_eq_false (by omega)
      rw [if_neg (by omega), hcr] at hQ
      refine mW_d 4 (mW_d 2 (mWe (s142 (mfst μ d) 0 hR' hc' (fun h => by omega) (fun _ => hQ) (Or.inl rfl) 0 (by omega)) ?_))
      rw [mputk_0, mfst, if_pos (by omega), hcr]; rfl
    · have hcr : mcrs μ d = false := decide_eq_false (by omega)
      rw [if_neg (by omega), hcr] at hQ
      refine mW_d 4 (mW_d 2 (mWe (s142 (mfst μ d) 0 hR' hc' (fun h => by omega) (fun _ => hQ) (Or.inl rfl) 0 (by omega)) ?_))
      rw [mputk_0, mfst, if_pos (by omega), hcr]; rfl
    · have hcr : mcrs μ d = true := decide_eq_true (by omega)
      rw [if_neg (by omega), if_pos hcr, if_neg (by omega)] at hQ
      refine mW_d 4 (mW_d 2 (mWe (s186 (mfst μ d) 1 hR' hc' (fun _ => hQ) (fun h => by omega) (Or.inr rfl)) ?_))
      rw [mfst, if_pos (by omega), hcr]; rfl
    · have hcr : mcrs μ d = true := decide_eq_true (by omega)
      rw [if_neg (by omega), if_pos hcr, if_pos (by omega)] at hQ
      refine mW_d 4 (mW_d 2 (mWe (s142 (mfst μ d) 1 hR' hc' (fun _ => hQ) (fun h => by omega) (Or.inr rfl) 0 (by omega)) ?_))
      rw [mputk_0, mfst, if_pos (by omega), hcr]; rfl
    · rw [if_pos (by omega)] at hQ
      exact hQ
  have key : ∀ k : Nat, k ≤ 12 → ∀ d : Int, d = mdirty μ p.toNat k → 0 ≤ d ∧ d ≤ k → bx 0 (mW G σ hm mX5_finish (fr + 2) Q 4 [(0, vr 0), (1, vi p), (2, vi d), (3, vi k)] [] μ) := by
    refine dn _ fun k hk ih d hd hd2 => ?_
    have e1 : (15 * p + (k : Int)).toNat = 15 * p.toNat + k := by omega
    refine okM_l (M := mX5_finish) hG hb rfl okX5_finish (fun pc => Nat.beq pc 4 || Nat.beq pc 33) ?_
    repeat' (first | ((conv => whnf); first | refine And.intro ?_ ?_ | (intro h9; try simp only [oki23, oki24, oki25, oki26, oki27, oki28, oki29, oki30, not_true_eq_false, not_false_eq_true, e1] at h9)) | exact rfl | omega | (simp only [mlen]; omega) | exact Nat.le_of_ble_eq_true rfl | exact Or.inl rfl | exact Or.inr rfl | assumption | (show (_ : Int) ≤ _; grind) | (show (_ : Int) < _; grind) | (simp only [oki23, oki24, oki25, oki26, oki27, oki28, oki29, oki30, not_true_eq_false, not_false_eq_true, e1]; done) | (simp only [mlen, oki23, oki24, oki25, oki26, oki27, oki28, oki29, oki30, not_true_eq_false, not_false_eq_true, e1]; omega))
    · refine mW_d 3 (s33 d ?_ (by omega))
      rw [show k = 12 by omega] at hd; exact hd
    · refine ih (by omega) d ?_ (by omega)
      simp only [hd, mdirty, cnt]; rw [decide_eq_false (by omega)]; simp [b2i]
    · refine ih (by omega) (d + 1) ?_ (by omega)
      simp only [hd, mdirty, cnt]; rw [decide_eq_true (by omega)]; simp [b2i]
  refine okM_e (M := mX5_finish) hG hb rfl okX5_finish (fun pc => Nat.beq pc 4) ?_
  repeat' (first | ((conv => whnf); first | refine And.intro ?_ ?_ | intro h9) | exact rfl | omega | (simp only [mlen]; omega) | exact Nat.le_of_ble_eq_true rfl | exact Or.inl rfl | exact Or.inr rfl | assumption | (show (_ : Int) ≤ _; grind) | (show (_ : Int) < _; grind))
  exact key 0 (by omega) 0 rfl (by omega)
theorem mfinish_r (p : Nat) (μ : mS) : (mfinish p μ).1 = 0 ∨ (mfinish p μ).1 = 1 ∨ (mfinish p μ).1 = 2 := by
  unfold mfinish
  split
  · exact Or.inr (Or.inl rfl)
  · split
    · exact Or.inr (Or.inr rfl)
    · exact Or.inl rfl
def mdone (p : Nat) (v f c : Int) (μ : mS) : Int × mS :=
  if μ 30 0 = 0 then (v, msweep μ)
  else if (mfinish p μ).1 = 0 then (v, msweep (mfinish p μ).2)
  else (0, mup (msweep (mfinish p μ).2) 26 0 (if (mfinish p μ).1 = 1 then f else c))
theorem tX5_done (hG : gGood G) (hb : gBase G ≤ hm) {p v f c : Int} (hp : 0 ≤ p ∧ p < 6) (hv : inR f) (hf : inR c) (hR : bx 0 (mRq μ)) (hl : 2 ≤ μ 24 0 ∧ μ 24 0 ≤ 14) (hcut : -1 ≤ μ 25 0 ∧ μ 25 0 ≤ 30) (hc : bx 0 (∀ j, j < 6 → 0 ≤ μ 22 j ∧ μ 22 j ≤ 1000000)) (hQ : Q (some (mdone p.toNat v f c μ).1) (mdone p.toNat v f c μ).2) : bx 0 (gOKm G σ hm mX5_done (fr + 3) [vr 0, vi p, vi v, vi f, vi c] μ Q) := by
  have hf := mfinish_r p.toNat μ
  have hc := bx_out hc
  unfold mdone at hQ
  refine okM (M := mX5_done) hG hb rfl okX5_done ?_
  repeat' (first | refine tX5_finish hG hb ?_ ?_ ?_ ?_ ?_ ?_ | refine tX5_sweep hG hb ?_ | ((conv => whnf); first | refine And.intro ?_ ?_ | (intro h9; try simp [oki23, oki24, oki25, oki26, oki27, oki28, oki29, oki30, mup] at h9)) | exact rfl | omega | (simp only [mlen]; omega) | exact Nat.le_of_ble_eq_true rfl | exact Or.inl rfl | exact Or.inr rfl | assumption | (show (_ : Int) ≤ _; grind) | (show (_ : Int) < _; grind) | (simp [oki23, oki24, oki25, oki26, oki27, oki28, oki29, oki30, mup]; done) | (simp [mlen, oki23, oki24, oki25, oki26, oki27, oki28, oki29, oki30, mup]; omega))
  · rw [if_pos (by assumption)] at hQ; exact hQ
  · rw [if_neg (by assumption), if_pos (by assumption)] at hQ; exact hQ
  · rw [if_neg (by assumption), if_neg (by assumption), if_neg (by assumption)] at hQ; exact hQ
  · rw [if_neg (by assumption), if_neg (by assumption), if_pos (by assumption)] at hQ; exact hQ
end ML
