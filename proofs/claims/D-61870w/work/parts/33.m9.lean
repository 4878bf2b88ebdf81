/-! the model's members: walking a path -/
def mkeep (a : Nat) : Bool := !(Nat.beq a 22 || Nat.beq a 18 || Nat.beq a 19 || Nat.beq a 5 || Nat.beq a 6 || Nat.beq a 9 || Nat.beq a 11 || Nat.beq a 17 || Nat.beq a 10 || Nat.beq a 26)
theorem mkeep_n {a : Nat} (h : mkeep a = true) : a ≠ 22 ∧ a ≠ 18 ∧ a ≠ 19 ∧ a ≠ 5 ∧ a ≠ 6 ∧ a ≠ 9 ∧ a ≠ 11 ∧ a ≠ 17 ∧ a ≠ 10 ∧ a ≠ 26 := by
  refine ⟨?_, ?_, ?_, ?_, ?_, ?_, ?_, ?_, ?_, ?_⟩ <;> (intro e; subst e; cases h)
theorem mabort_k {p a : Nat} {μ : mS} (h : mkeep a = true) : mabort p μ a = μ a := by
  obtain ⟨h1, h2, h3, h4, h5, h6, h7, h8, h9, h10⟩ := mkeep_n h
  funext j; simp only [mabort, mdrop, mabortk, h1, h2, h3, h4, h5, h6, h7, h8, false_and, or_self, if_false]
theorem mabsk_k {S : Nat → Bool} {k a : Nat} {μ : mS} (h : mkeep a = true) : mabsk S k μ a = μ a := by
  obtain ⟨h1, h2, h3, h4, h5, h6, h7, h8, h9, h10⟩ := mkeep_n h
  funext j; simp only [mabsk, h1, h2, h3, h4, h5, h6, h7, h8, h9, false_and, or_self, if_false]
theorem mmeet_k {p i a : Nat} {w : Int} {μ : mS} (h : mkeep a = true) : (mmeet p i w μ).2 a = μ a := by
  unfold mmeet
  split
  · dsimp only
    rw [mup_other _ _ _ (mkeep_n h).2.2.2.2.2.2.2.2.2, mabort_k h]
  · exact mabsk_k h
theorem mreads_k {p i a : Nat} {μ : mS} (h : mkeep a = true) : (mreads p i μ).2 a = μ a := by
  unfold mreads
  have h6 := (mkeep_n h).2.2.2.2.1
  split
  · split
    · dsimp only; rw [mup_other _ _ _ h6, mmeet_k h]
    · exact mmeet_k h
  · exact mup_other _ _ _ h6
theorem mmeet_n {p i : Nat} {w : Int} {μ : mS} : μ 22 3 ≤ (mmeet p i w μ).2 22 3 ∧ (mmeet p i w μ).2 22 3 ≤ μ 22 3 + 6 := by
  unfold mmeet
  split
  · have e : mup (mabort p μ) 26 0 2 22 3 = μ 22 3 + 1 := by simp [mup, mabort, mdrop, mabortk]
    dsimp only; omega
  · have e : mabsk (mcf μ p i w) 6 μ 22 3 = μ 22 3 + cnt (mcf μ p i w) 6 := by simp [mabsk]
    have := cnt_b (mcf μ p i w) 6
    dsimp only; omega
theorem mreads_n {p i : Nat} {μ : mS} : μ 22 3 ≤ (mreads p i μ).2 22 3 ∧ (mreads p i μ).2 22 3 ≤ μ 22 3 + 6 := by
  have := mmeet_n (p := p) (i := i) (w := 0) (μ := μ)
  unfold mreads
  split
  · split
    · dsimp only; rw [show mup (mmeet p i 0 μ).2 6 (15 * p + i) 1 22 3 = (mmeet p i 0 μ).2 22 3 by simp [mup]]; exact this
    · exact this
  · dsimp only; rw [show mup μ 6 (15 * p + i) 1 22 3 = μ 22 3 by simp [mup]]; omega
theorem mwrites_n {p i : Nat} {μ : mS} : μ 22 3 ≤ (mwrites p i μ).2 22 3 ∧ (mwrites p i μ).2 22 3 ≤ μ 22 3 + 6 := by
  have := mmeet_n (p := p) (i := i) (w := 1) (μ := μ)
  unfold mwrites
  split
  · split
    · dsimp only; rw [show mcopy i (15 + 15 * p + i) (mup (mup (mmeet p i 1 μ).2 5 (15 * p + i) 1) 7 i 1) 22 3 = (mmeet p i 1 μ).2 22 3 by simp [mup, mcopy, mcopyk]]; exact this
    · exact this
  · dsimp only; omega
/-- ranges of the slots' arrays -/
def mRs (μ : mS) : Prop := (∀ s, s < 105 → 0 ≤ μ 0 s ∧ μ 0 s ≤ 3 ∧ 0 ≤ μ 1 s ∧ μ 1 s ≤ 8 ∧ (μ 0 s = 2 → μ 1 s ≤ 5) ∧ (μ 0 s = 3 → μ 1 s ≤ 6)) ∧ (∀ j, j < 840 → 0 ≤ μ 4 j ∧ μ 4 j ≤ 11)
theorem mRs_c {μ μ' : mS} (h0 : μ' 0 = μ 0) (h1 : μ' 1 = μ 1) (h4 : μ' 4 = μ 4) (h : mRs μ) : mRs μ' := by
  unfold mRs at h ⊢; rw [h0, h1, h4]; exact h
theorem mfind_r {μ : mS} {c : Nat} {n : Int} (hR : ∀ j, j < 840 → 0 ≤ μ 4 j ∧ μ 4 j ≤ 11) : ∀ (m k : Nat), 8 * c + k + m ≤ 840 → -1 ≤ mfind μ c n k m ∧ mfind μ c n k m ≤ 11 := by
  intro m
  induction m with
  | zero => intro k h; exact ⟨by simp [mfind], by simp [mfind]⟩
  | succ m ih =>
    intro k h
    rw [mfind]
    have := hR (8 * c + k) (by omega)
    have := ih (k + 1) (by omega)
    split <;> omega
theorem mup_ss (μ : mS) (k j : Nat) (v : Int) : mup μ k j v k j = v := if_pos ⟨rfl, rfl⟩
/-- an item's kind as a process has it; the item under a name there -/
def mkd (μ : mS) (p i : Nat) : Int := μ 0 (mof μ p i)
def mlook (μ : mS) (p i : Nat) (n : Int) : Int := mfind μ (mof μ p i) n 0 (μ 1 (mof μ p i)).toNat
theorem mof_lt {μ : mS} {p i : Nat} (hp : p < 6) (hi : i < 15) : mof μ p i < 105 := by unfold mof; split <;> omega
theorem mlook_r {μ : mS} {p i : Nat} {n : Int} (hp : p < 6) (hi : i < 15) (hR : mRs μ) : -1 ≤ mlook μ p i n ∧ mlook μ p i n ≤ 11 := by
  have h1 := mof_lt (μ := μ) hp hi
  have h2 := hR.1 _ h1
  exact mfind_r hR.2 _ 0 (by omega)
section ML
variable {G : gG} {σ : gS} {hm fr : Nat} {μ : mS} {Q : mQ}
theorem tX5_undr (hG : gGood G) (hb : gBase G ≤ hm) {p i n : Int} (hp : 0 ≤ p ∧ p < 6) (hi : 0 ≤ i ∧ i < 15) (hn : inR n) (hR : bx 0 (mRs μ)) (hQ : -1 ≤ mlook μ p.toNat i.toNat n → mlook μ p.toNat i.toNat n ≤ 11 → Q (some (mlook μ p.toNat i.toNat n)) μ) : bx 0 (gOKm G σ hm mX5_under (fr + 1) [vr 0, vi p, vi i, vi n] μ Q) := by
  have hR := bx_out hR
  have := mlook_r (μ := μ) (n := n) (p := p.toNat) (i := i.toNat) (by omega) (by omega) hR
  exact tX5_under hG hb hp hi hn (fun s hs => by have := hR.1 s hs; omega) (hQ this.1 this.2)
def mwalk (p : Nat) (z ms fl : Int) (k : Nat) : Nat → mS → Int × mS
  | 0, μ => (0, μ)
  | n + 1, μ =>
    if (mreads p (μ 29 0).toNat μ).1 = false then (2, (mreads p (μ 29 0).toNat μ).2)
    else if ¬ mkd (mreads p (μ 29 0).toNat μ).2 p (μ 29 0).toNat = 2 then (fl, (mreads p (μ 29 0).toNat μ).2)
    else if mlook (mreads p (μ 29 0).toNat μ).2 p (μ 29 0).toNat (dig z k) < 0 then (ms, mup (mreads p (μ 29 0).toNat μ).2 29 0 (mlook (mreads p (μ 29 0).toNat μ).2 p (μ 29 0).toNat (dig z k)))
    else mwalk p z ms fl (k + 1) n (mup (mreads p (μ 29 0).toNat μ).2 29 0 (mlook (mreads p (μ 29 0).toNat μ).2 p (μ 29 0).toNat (dig z k)))
theorem tX5_walk (hG : gGood G) (hb : gBase G ≤ hm) {p z s ms fl : Int} (hp : 0 ≤ p ∧ p < 6) (hz : inR z) (hs : 0 ≤ s ∧ s ≤ 4) (hms : inR ms) (hfl : inR fl) (hR : bx 0 (mRs μ)) (hc : 0 ≤ μ 22 3 ∧ μ 22 3 ≤ 900000) (hQ : Q (some (mwalk p.toNat z ms fl 0 s.toNat (mup μ 29 0 0)).1) (mwalk p.toNat z ms fl 0 s.toNat (mup μ 29 0 0)).2) : bx 0 (gOKm G σ hm mX5_walk (fr + 4) [vr 0, vi p, vi z, vi s, vi ms, vi fl] μ Q) := by
  have key : ∀ k : Nat, k ≤ s.toNat → ∀ μ : mS, bx 0 (mRs μ) → 0 ≤ μ 29 0 ∧ μ 29 0 ≤ 11 → 0 ≤ μ 22 3 ∧ μ 22 3 ≤ 900000 + 6 * k → Q (some (mwalk p.toNat z ms fl k (s.toNat - k) μ).1) (mwalk p.toNat z ms fl k (s.toNat - k) μ).2 → bx 0 (mW G σ hm mX5_walk (fr + 4) Q 8 [(0, vr 0), (1, vi p), (2, vi z), (3, vi s), (4, vi ms), (5, vi fl), (6, vi k)] [] μ) := by
    refine dn s.toNat fun k hk ih μ hR hf hc hQ => ?_
    by_cases hlt : k < s.toNat
    · have e1 := ushr15 z k (by omega)
      have e2 := dig_r z k
      have k29 : (mreads p.toNat (μ 29 0).toNat μ).2 29 = μ 29 := mreads_k rfl
      have kc := mreads_n (p := p.toNat) (i := (μ 29 0).toNat) (μ := μ)
      have hR' : bx 0 (mRs (mreads p.toNat (μ 29 0).toNat μ).2) := bx_in (mRs_c (mreads_k rfl) (mreads_k rfl) (mreads_k rfl) (bx_out hR))
      rw [show s.toNat - k = (s.toNat - (k + 1)) + 1 by omega, mwalk] at hQ
      refine okM_l (M := mX5_walk) hG hb rfl okX5_walk (fun pc => Nat.beq pc 8) ?_
      repeat' (first | refine tX5_reads hG hb ?_ ?_ ?_ ?_ ?_ | refine tX5_ofn hG hb ?_ ?_ ?_ | refine tX5_undr hG hb ?_ ?_ ?_ ?_ ?_ | ((conv => whnf); first | refine And.intro ?_ ?_ | (intro h9; try simp only [oki23, oki24, oki25, oki26, oki27, oki28, oki29, oki30, not_true_eq_false, not_false_eq_true, e1, k29, Int.toNat_natCast, mup_ss] at h9)) | exact rfl | omega | (simp only [mlen]; omega) | exact Nat.le_of_ble_eq_true rfl | exact Or.inl rfl | exact Or.inr rfl | assumption | (show (_ : Int) ≤ _; grind) | (show (_ : Int) < _; grind) | (simp only [oki23, oki24, oki25, oki26, oki27, oki28, oki29, oki30, not_true_eq_false, not_false_eq_true, e1, k29, Int.toNat_natCast, mup_ss]; done) | (simp only [mlen, oki23, oki24, oki25, oki26, oki27, oki28, oki29, oki30, not_true_eq_false, not_false_eq_true, e1, k29, Int.toNat_natCast, mup_ss]; omega))
      all_goals subst_vars
      · rw [e1, k29]
        rw [if_neg (by simp only [*]; decide), if_neg (by simp only [mkd]; omega), if_neg (by omega)] at hQ
        refine ih (by omega) _ (bx_in (mRs_c rfl rfl rfl (bx_out hR'))) (by rw [mup_ss]; omega) ?_ hQ
        rw [show ∀ v, mup (mreads p.toNat (μ 29 0).toNat μ).2 29 0 v 22 3 = (mreads p.toNat (μ 29 0).toNat μ).2 22 3 from fun _ => rfl]
        omega
      · rw [if_neg (by simp only [*]; decide), if_neg (by simp only [mkd]; omega), if_pos (by omega)] at hQ
        rw [e1, k29]
        exact hQ
      · rw [if_neg (by simp only [*]; decide), if_pos (by simp only [mkd]; omega)] at hQ
        exact hQ
      · rw [if_pos (by assumption)] at hQ
        exact hQ
    · have hks : k = s.toNat := by omega
      rw [hks, Nat.sub_self, mwalk] at hQ
      refine okM_l (M := mX5_walk) hG hb rfl okX5_walk (fun pc => Nat.beq pc 8) ?_
      repeat' (first | ((conv => whnf); first | refine And.intro ?_ ?_ | intro h9) | exact rfl | omega | (simp only [mlen]; omega) | exact Nat.le_of_ble_eq_true rfl | exact Or.inl rfl | exact Or.inr rfl | assumption | (show (_ : Int) ≤ _; grind) | (show (_ : Int) < _; grind))
  refine okM_e (M := mX5_walk) hG hb rfl okX5_walk (fun pc => Nat.beq pc 8) ?_
  repeat' (first | ((conv => whnf); first | refine And.intro ?_ ?_ | intro h9) | exact rfl | omega | (simp only [mlen]; omega) | exact Nat.le_of_ble_eq_true rfl | exact Or.inl rfl | exact Or.inr rfl | assumption | (show (_ : Int) ≤ _; grind) | (show (_ : Int) < _; grind))
  refine key 0 (by omega) _ (bx_in (mRs_c rfl rfl rfl (bx_out hR))) (by rw [mup_ss]; omega) ?_ hQ
  rw [show mup μ 29 0 0 22 3 = μ 22 3 from rfl]; omega
theorem mwalk_r {p : Nat} {z ms fl : Int} (hp : p < 6) : ∀ (n k : Nat) (μ : mS), mRs μ → 0 ≤ μ 29 0 ∧ μ 29 0 ≤ 11 → mRs (mwalk p z ms fl k n μ).2 ∧ (μ 22 3 ≤ (mwalk p z ms fl k n μ).2 22 3 ∧ (mwalk p z ms fl k n μ).2 22 3 ≤ μ 22 3 + 6 * n) ∧ (((mwalk p z ms fl k n μ).1 = 0 ∧ 0 ≤ (mwalk p z ms fl k n μ).2 29 0 ∧ (mwalk p z ms fl k n μ).2 29 0 ≤ 11) ∨ (mwalk p z ms fl k n μ).1 = 2 ∨ (mwalk p z ms fl k n μ).1 = fl ∨ (mwalk p z ms fl k n μ).1 = ms) := by
  intro n
  induction n with
  | zero => intro k μ hR hf; exact ⟨hR, ⟨by simp [mwalk], by simp [mwalk]⟩, Or.inl ⟨rfl, hf⟩⟩
  | succ n ih =>
    intro k μ hR hf
    have kc := mreads_n (p := p) (i := (μ 29 0).toNat) (μ := μ)
    have hR' : mRs (mreads p (μ 29 0).toNat μ).2 := mRs_c (mreads_k rfl) (mreads_k rfl) (mreads_k rfl) hR
    have hl := mlook_r (n := dig z k) (i := (μ 29 0).toNat) hp (by omega) hR'
    rw [mwalk]
    split
    · exact ⟨hR', ⟨by dsimp only; omega, by dsimp only; omega⟩, Or.inr (Or.inl rfl)⟩
    · split
      · exact ⟨hR', ⟨by dsimp only; omega, by dsimp only; omega⟩, Or.inr (Or.inr (Or.inl rfl))⟩
      · split
        · refine ⟨mRs_c rfl rfl rfl hR', ?_, Or.inr (Or.inr (Or.inr rfl))⟩
          show μ 22 3 ≤ (mreads p (μ 29 0).toNat μ).2 22 3 ∧ (mreads p (μ 29 0).toNat μ).2 22 3 ≤ _
          exact ⟨by omega, by omega⟩
        · have := ih (k + 1) (mup (mreads p (μ 29 0).toNat μ).2 29 0 (mlook (mreads p (μ 29 0).toNat μ).2 p (μ 29 0).toNat (dig z k))) (mRs_c rfl rfl rfl hR') (by rw [mup_ss]; omega)
          rw [show ∀ v, mup (mreads p (μ 29 0).toNat μ).2 29 0 v 22 3 = (mreads p (μ 29 0).toNat μ).2 22 3 from fun _ => rfl] at this
          exact ⟨this.1, ⟨by omega, by omega⟩, this.2.2⟩
def mtoh2 (p : Nat) (z fl : Int) (μ : mS) : Int × mS :=
  if (mreads p (μ 27 0).toNat μ).1 = false then (2, (mreads p (μ 27 0).toNat μ).2)
  else if ¬ mkd (mreads p (μ 27 0).toNat μ).2 p (μ 27 0).toNat = 2 then (fl, (mreads p (μ 27 0).toNat μ).2)
  else (0, mup (mreads p (μ 27 0).toNat μ).2 29 0 (mlook (mreads p (μ 27 0).toNat μ).2 p (μ 27 0).toNat (μ 28 0)))
/-- to the holder, and the item under the last name there -/
def mtoh (p : Nat) (z ms fl : Int) (μ : mS) : Int × mS :=
  if mplen z 0 4 = 0 then (fl, μ)
  else if ¬ (mwalk p z ms fl 0 (mplen z 0 4 - 1) (mup μ 29 0 0)).1 = 0 then mwalk p z ms fl 0 (mplen z 0 4 - 1) (mup μ 29 0 0)
  else mtoh2 p z fl (mup (mup (mwalk p z ms fl 0 (mplen z 0 4 - 1) (mup μ 29 0 0)).2 27 0 ((mwalk p z ms fl 0 (mplen z 0 4 - 1) (mup μ 29 0 0)).2 29 0)) 28 0 (dig z (mplen z 0 4 - 1)))
theorem tX5_toHolder (hG : gGood G) (hb : gBase G ≤ hm) {p z ms fl : Int} (hp : 0 ≤ p ∧ p < 6) (hz : inR z) (hms : inR ms ∧ ms ≠ 0) (hfl : inR fl ∧ fl ≠ 0) (hR : bx 0 (mRs μ)) (hc : 0 ≤ μ 22 3 ∧ μ 22 3 ≤ 800000) (hQ : Q (some (mtoh p.toNat z ms fl μ).1) (mtoh p.toNat z ms fl μ).2) : bx 0 (gOKm G σ hm mX5_toHolder (fr + 5) [vr 0, vi p, vi z, vi ms, vi fl] μ Q) := by
  have hl := mplen_le z 4 0
  have tl : ∀ ν : mS, bx 0 (mRs ν) → 0 ≤ ν 27 0 ∧ ν 27 0 ≤ 11 → 0 ≤ ν 28 0 ∧ ν 28 0 ≤ 15 → 0 ≤ ν 22 3 ∧ ν 22 3 ≤ 900000 → Q (some (mtoh2 p.toNat z fl ν).1) (mtoh2 p.toNat z fl ν).2 → bx 0 (mW G σ hm mX5_toHolder (fr + 5) Q 60 [(0, vr 0), (1, vi p), (2, vi z), (3, vi ms), (4, vi fl)] [] ν) := by
    intro ν hR h27 h28 hc hQ
    have k27 : (mreads p.toNat (ν 27 0).toNat ν).2 27 = ν 27 := mreads_k rfl
    have k28 : (mreads p.toNat (ν 27 0).toNat ν).2 28 = ν 28 := mreads_k rfl
    have hR' : bx 0 (mRs (mreads p.toNat (ν 27 0).toNat ν).2) := bx_in (mRs_c (mreads_k rfl) (mreads_k rfl) (mreads_k rfl) (bx_out hR))
    unfold mtoh2 at hQ
    refine okM_l (M := mX5_toHolder) hG hb rfl okX5_toHolder (fun pc => false) ?_
    repeat' (first | refine tX5_reads hG hb ?_ ?_ ?_ ?_ ?_ | refine tX5_ofn hG hb ?_ ?_ ?_ | refine tX5_undr hG hb ?_ ?_ ?_ ?_ ?_ | ((conv => whnf); first | refine And.intro ?_ ?_ | (intro h9; try simp only [oki23, oki24, oki25, oki26, oki27, oki28, oki29, oki30, not_true_eq_false, not_false_eq_true, k27, k28, Int.toNat_natCast, mup_ss] at h9)) | exact rfl | omega | (simp only [mlen]; omega) | exact Nat.le_of_ble_eq_true rfl | exact Or.inl rfl | exact Or.inr rfl | assumption | (show (_ : Int) ≤ _; grind) | (show (_ : Int) < _; grind) | (simp only [oki23, oki24, oki25, oki26, oki27, oki28, oki29, oki30, not_true_eq_false, not_false_eq_true, k27, k28, Int.toNat_natCast, mup_ss]; done) | (simp only [mlen, oki23, oki24, oki25, oki26, oki27, oki28, oki29, oki30, not_true_eq_false, not_false_eq_true, k27, k28, Int.toNat_natCast, mup_ss]; omega))
    all_goals subst_vars
    · rw [if_neg (by simp only [*]; decide), if_neg (by simp only [mkd]; omega)] at hQ
      rw [k27, k28]
      exact hQ
    · rw [if_neg (by simp only [*]; decide), if_pos (by simp only [mkd]; omega)] at hQ
      exact hQ
    · rw [if_pos (by assumption)] at hQ
      exact hQ
  unfold mtoh at hQ
  by_cases h0 : mplen z 0 4 = 0
  · refine okM (M := mX5_toHolder) hG hb rfl okX5_toHolder ?_
    rw [if_pos h0] at hQ
    repeat' (first | refine tX5_length hG hb ?_ ?_ | ((conv => whnf); first | refine And.intro ?_ ?_ | intro h9) | exact rfl | omega | (simp only [mlen]; omega) | exact Nat.le_of_ble_eq_true rfl | exact Or.inl rfl | exact Or.inr rfl | assumption | (show (_ : Int) ≤ _; grind) | (show (_ : Int) < _; grind))
  · have e0 : (((mplen z 0 4 : Nat) : Int) - 1) = ((mplen z 0 4 - 1 : Nat) : Int) := by omega
    have e1 := ushr15 z (mplen z 0 4 - 1) (by omega)
    rw [← e0] at e1
    have e3 : (((mplen z 0 4 : Nat) : Int) - 1).toNat = mplen z 0 4 - 1 := by omega
    have e2 := dig_r z (mplen z 0 4 - 1)
    have w := mwalk_r (z := z) (ms := ms) (fl := fl) (p := p.toNat) (by omega) (mplen z 0 4 - 1) 0 (mup μ 29 0 0) (mRs_c rfl rfl rfl (bx_out hR)) (by rw [mup_ss]; omega)
    rw [show mup μ 29 0 0 22 3 = μ 22 3 from rfl] at w
    rw [if_neg h0] at hQ
    refine okM_e (M := mX5_toHolder) hG hb rfl okX5_toHolder (fun pc => Nat.beq pc 60) ?_
    repeat' (first | refine tX5_length hG hb ?_ ?_ | refine tX5_walk hG hb ?_ ?_ ?_ ?_ ?_ ?_ ?_ ?_ | ((conv => whnf); first | refine And.intro ?_ ?_ | (intro h9; try simp only [oki23, oki24, oki25, oki26, oki27, oki28, oki29, oki30, not_true_eq_false, not_false_eq_true, e3, e1] at h9)) | exact rfl | omega | (simp only [mlen]; omega) | exact Nat.le_of_ble_eq_true rfl | exact Or.inl rfl | exact Or.inr rfl | assumption | (show (_ : Int) ≤ _; grind) | (show (_ : Int) < _; grind) | (simp only [oki23, oki24, oki25, oki26, oki27, oki28, oki29, oki30, not_true_eq_false, not_false_eq_true, e3, e1]; done) | (simp only [mlen, oki23, oki24, oki25, oki26, oki27, oki28, oki29, oki30, not_true_eq_false, not_false_eq_true, e3, e1]; omega))
    · have hw : (mwalk p.toNat z ms fl 0 (mplen z 0 4 - 1) (mup μ 29 0 0)).1 = 0 := by assumption
      rw [if_neg (by omega)] at hQ
      refine mW_d 6 (mW_d 5 ?_)
      rw [e1, e3]
      refine tl _ (bx_in (mRs_c rfl rfl rfl w.1)) ?_ ?_ ?_ hQ
      · show 0 ≤ (mwalk p.toNat z ms fl 0 (mplen z 0 4 - 1) (mup μ 29 0 0)).2 29 0 ∧ (mwalk p.toNat z ms fl 0 (mplen z 0 4 - 1) (mup μ 29 0 0)).2 29 0 ≤ 11
        omega
      · rw [mup_ss]; exact e2
      · show 0 ≤ (mwalk p.toNat z ms fl 0 (mplen z 0 4 - 1) (mup μ 29 0 0)).2 22 3 ∧ (mwalk p.toNat z ms fl 0 (mplen z 0 4 - 1) (mup μ 29 0 0)).2 22 3 ≤ 900000
        omega
    · rw [if_pos (by assumption)] at hQ
      rw [e3]
      exact hQ
end ML
