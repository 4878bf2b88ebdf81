/-! the kernel's public members (21): to the holder -/
section KG
variable {G : gG} {n m n' m' fr rc rs : Nat} {A A' A0 : kA} {X X' : kX} {σ σ' σ0 σ2 : gS} {μ μ' ν : mS} {Q Q' Q0 : gO → gS → Prop}
theorem mcf_u {p i q k j : Nat} {w v : Int} (hk : 26 ≤ k) : mcf (mup μ k j v) p i w q = mcf μ p i w q := by
  unfold mcf; rw [mup_other _ _ _ (show (9 : Nat) ≠ k by omega), mup_other _ _ _ (show (5 : Nat) ≠ k by omega), mup_other _ _ _ (show (6 : Nat) ≠ k by omega)]
theorem mold_u {p i k j : Nat} {w v : Int} (hk : 26 ≤ k) : mold (mup μ k j v) p i w = mold μ p i w := by
  have : mcf (mup μ k j v) p i w = mcf μ p i w := funext fun q => mcf_u hk
  unfold mold; rw [this, mup_other _ _ _ (show (12 : Nat) ≠ k by omega)]
theorem mabsk_u {S : Nat → Bool} {K k j : Nat} {v : Int} (hk : 26 ≤ k) : mabsk S K (mup μ k j v) = mup (mabsk S K μ) k j v := by
  funext a x
  by_cases z : a = k
  · subst z; simp only [mabsk, mup]; grind
  · rw [mup_other _ _ _ z]
    unfold mabsk
    rw [mup_other _ _ _ (show (22 : Nat) ≠ k by omega), mup_other _ _ _ (show (20 : Nat) ≠ k by omega), mup_other _ _ _ (show (21 : Nat) ≠ k by omega), mup_other _ _ _ z]
theorem mabort_u {p k j : Nat} {v : Int} (hk : 26 ≤ k) : mabort p (mup μ k j v) = mup (mabort p μ) k j v := by
  funext a x
  rw [mabort_2]
  by_cases z : a = k
  · subst z; rw [mup_other _ _ _ (show (22 : Nat) ≠ a by omega), mup_other _ _ _ (show (20 : Nat) ≠ a by omega), mup_other _ _ _ (show (21 : Nat) ≠ a by omega)]
    rw [if_neg (by omega), if_neg (by omega), if_neg (by omega), if_neg (by omega), if_neg (by omega)]
    simp only [mup]
    split
    · rfl
    · rw [mabort_2, if_neg (by omega), if_neg (by omega), if_neg (by omega), if_neg (by omega), if_neg (by omega)]
  · rw [mup_other _ _ _ (show (22 : Nat) ≠ k by omega), mup_other _ _ _ (show (20 : Nat) ≠ k by omega), mup_other _ _ _ (show (21 : Nat) ≠ k by omega), mup_other _ _ _ z, mup_other _ _ _ z, mabort_2]
theorem mup_swap {k j k2 j2 : Nat} {v v2 : Int} (h : k ≠ k2) : mup (mup μ k j v) k2 j2 v2 = mup (mup μ k2 j2 v2) k j v := by
  funext a x; simp only [mup]; grind
theorem mreads_u {p i k j : Nat} {v : Int} (hk : 27 ≤ k) : mreads p i (mup μ k j v) = ((mreads p i μ).1, mup (mreads p i μ).2 k j v) := by
  have e1 : mmeet p i 0 (mup μ k j v) = ((mmeet p i 0 μ).1, mup (mmeet p i 0 μ).2 k j v) := by
    have : mcf (mup μ k j v) p i 0 = mcf μ p i 0 := funext fun q => mcf_u (by omega)
    unfold mmeet
    rw [mold_u (by omega), this]
    split
    · rw [mabort_u (by omega), mup_swap (by omega)]
    · rw [mabsk_u (by omega)]
  unfold mreads
  rw [mup_other _ _ _ (show (5 : Nat) ≠ k by omega), e1]
  split
  · split
    · rename_i h
      rw [mup_swap (by omega)]
    · rfl
  · rw [mup_swap (by omega)]
/-- something that stays while paths are walked -/
def kP (p : Nat) (P : mS → Prop) : Prop := (∀ c μ i, kIn p c μ → rch μ p i → (mreads p i μ).1 = true → P μ → P (mreads p i μ).2) ∧ (∀ μ k v, 26 ≤ k → P μ → P (mup μ k 0 v))
theorem kP_t {p : Nat} : kP p (fun _ => True) := ⟨fun _ _ _ _ _ _ _ => trivial, fun _ _ _ _ _ => trivial⟩
theorem kJ_p {p : Nat} {P : mS → Prop} (hp : p < 6) (h : kP p P) : kJ p (fun c μ => kJc p c μ ∧ P μ) := by
  obtain ⟨j1, j2, j3⟩ := kJ_c hp
  exact ⟨fun c μ hj hc => j1 c μ hj.1 hc, fun c μ hj h0 h1 hm => ⟨j2 c μ hj.1 h0 h1 hm, h.1 c μ _ hj.1.1.1 (hj.1.1.2 h0) hm hj.2⟩, fun c μ v hj hv => ⟨j3 c μ v hj.1 hv, h.2 μ 29 v (by omega) hj.2⟩⟩
/-- where the last name is looked for -/
theorem sX1_holderK (hG : gGood G) {p N' : Nat} {z c c' : Int} {l : List (Nat × Int)} {P : mS → Prop} (hp : p < 6) (hz : inR z) (hS : kSt G n (m + 201) A X σ ν) (hIn : bx 0 (kIn p c ν)) (hcl : bx 0 (kCl p ν)) (h26 : ν 26 0 = 0) (hP : bx 0 (kP p P)) (hPν : bx 0 (P ν)) (hc : c ≤ 600000) (hcc : c + 40 ≤ c') (hN : n + 50 ≤ 1000000) (hN' : n + 30 ≤ N') (hA : A 0 0 = A0 0 0)
    (hF : bx 0 (¬ (mtoh p z 3 5 ν).1 = 0 → kOut G N' m A0 X c' (0, mfail p (mtoh p z 3 5 ν).1 (mtoh p z 3 5 ν).2) l Q0)) (hl : bx 0 ((14, 2) ∈ l ∧ (17, 3) ∈ l ∧ (16, 5) ∈ l)) (hx : bx 0 (∀ x σ', Q0 (.inr x) σ' → Q (.inr x) σ'))
    (hQ1 : bx 0 (∀ A' σ' W, mtoh p z 3 5 ν = mtoh2 p z 5 (mup (mup W 27 0 (W 29 0)) 28 0 (dig z (mplen z 0 4 - 1))) → 0 < mplen z 0 4 → kSt G (n + 30) m A' X σ' W → kkp p A A' → kJc p (c + 30) W → P W → mview p ν W → 0 ≤ W 29 0 ∧ W 29 0 ≤ 11 → Q (.inl (some (vi (W 29 0)))) σ')) : bx 0 (gOKb G mX1_holder (fr + 13) [vr (A 0 0), vr (A 2 p), vi z] σ Q) := by
  have hj := kJc_0 hp (bx_out hIn) (bx_out hcl) h26
  have hS0 : kSt G n (m + 201) A X σ (mup ν 29 0 0) := kSt_29 hS (by omega)
  have hP0 : P (mup ν 29 0 0) := (bx_out hP).2 ν 29 0 (by omega) (bx_out hPν)
  have hl4 := mplen_le z 4 0
  have wr := mwalk_r (z := z) (ms := 3) (fl := 5) (p := p) hp (mplen z 0 4 - 1) 0 (mup ν 29 0 0) hj.1.1.2.1.1 (by rw [mup_ss]; omega)
  have w2 := mwalk_2 (z := z) (ms := 3) (fl := 5) hp (by omega) (by omega) (mplen z 0 4 - 1) 0 c (mup ν 29 0 0) hj (by rw [mup_ss]; omega) (by rw [mup_ss]; omega)
  have vw : (mwalk p z 3 5 0 (mplen z 0 4 - 1) (mup ν 29 0 0)).1 = 0 → mview p ν (mwalk p z 3 5 0 (mplen z 0 4 - 1) (mup ν 29 0 0)).2 := fun h => mview_trans (mview_up (by omega)) (mview_walk (by omega) (by omega) _ _ _ h)
  have em : 0 < mplen z 0 4 → mtoh p z 3 5 ν = if ¬ (mwalk p z 3 5 0 (mplen z 0 4 - 1) (mup ν 29 0 0)).1 = 0 then mwalk p z 3 5 0 (mplen z 0 4 - 1) (mup ν 29 0 0) else mtoh2 p z 5 (mup (mup (mwalk p z 3 5 0 (mplen z 0 4 - 1) (mup ν 29 0 0)).2 27 0 ((mwalk p z 3 5 0 (mplen z 0 4 - 1) (mup ν 29 0 0)).2 29 0)) 28 0 (dig z (mplen z 0 4 - 1))) := fun h => by
    unfold mtoh; rw [if_neg (by omega)]
  have em0 : mplen z 0 4 = 0 → mtoh p z 3 5 ν = (5, ν) := fun h => by unfold mtoh; rw [if_pos h]
  obtain ⟨l1, l2, l3⟩ := bx_out hl
  replace w2 := bx_in w2
  have e1 : mwalk p z 3 5 0 (mplen z 0 4 - 1) (mup (mup ν 29 0 0) 29 0 0) = mwalk p z 3 5 0 (mplen z 0 4 - 1) (mup ν 29 0 0) := by rw [mup_mm]
  refine sX1_holder hG (m := m) (ms := 3) (fl := 5) (c0 := c) (J := fun c μ => kJc p c μ ∧ P μ) hS0 (bx_in (kJ_p hp (bx_out hP))) (bx_in ⟨hj, hP0⟩) (by omega) (by omega) hp hz (bx_in fun h x σ' hS1 hx1 => ?_) (bx_in fun h0 h1 A1 σ1 hS1 hk1 hj1 => ?_) (bx_in fun h0 h1 A1 x σ1 hS1 hk1 hx1 => ?_) (bx_in fun h0 h1 A1 x σ1 hS1 hk1 hj1 hx1 => ?_) (bx_in fun h0 h1 A1 x σ1 hS1 hk1 hj1 hx1 => ?_) (bx_in fun c c' μ y hcc => ⟨kJc_le c c' μ y.1 hcc, y.2⟩)
  · have e := em0 h
    rw [e] at hF
    have hI2 := kIn_le (c' := c') (bx_out hIn) (by omega)
    refine bx_out hx x σ' (bx_out (kOut_f (A := A) (k := 5) (z := 0) (w := 16) hp (bx_in (bx_out hF (by omega))) rfl l3 hI2 (bx_out hcl) (wr9_refl (bx_out hcl)) h26 hI2.2.1 hI2.2.2.1 hA) x σ' ?_ hx1)
    exact kSt_le (kSt_c hS1 (fun a y1 y2 y3 => (mup_other _ _ _ (by omega)).symm)) (by omega) (by omega)
  · rw [e1] at h1 hS1 hj1 ⊢
    have e := em h0
    rw [if_neg (by omega)] at e
    obtain ⟨w1, w3, w4⟩ := wr
    refine bx_out hQ1 A1 σ1 _ e h0 hS1 hk1 (bx_out hj1).1 (bx_out hj1).2 (vw h1) ?_
    rcases w4 with y | y
    · exact y.2
    · omega
  · rw [e1] at h1 hS1
    have e := em h0
    rw [if_pos (by omega)] at e
    rw [e] at hF
    obtain ⟨c9, μ', i1, i2, i3⟩ := bx_out w2 h1
    rw [i3] at hS1
    exact bx_out hx x σ1 (kOut_g (μ := μ') (k := (mwalk p z 3 5 0 (mplen z 0 4 - 1) (mup ν 29 0 0)).1) (z := 0) (bx_in (bx_out hF (by omega))) (by rw [i3]) l1 (kAll_le (kAll_abort i2).1 (by omega)) (by rw [hk1]; exact hA) (kSt_le hS1 (by omega) (by omega)) hx1)
  · rw [e1] at h1 hS1 hj1
    have e := em h0
    rw [if_pos (by omega)] at e
    rw [e] at hF
    have hj2 := (bx_out hj1).1
    have hI2 := kIn_le (c' := c') hj2.1.1 (by omega)
    exact bx_out hx x σ1 (bx_out (kOut_f (A := A1) (k := (mwalk p z 3 5 0 (mplen z 0 4 - 1) (mup ν 29 0 0)).1) (z := 0) (w := 17) hp (bx_in (bx_out hF (by omega))) rfl (by rw [h1]; exact l2) hI2 hj2.2.1 (wr9_refl hj2.2.1) hj2.2.2 hI2.2.1 hI2.2.2.1 (by rw [hk1]; exact hA)) x σ1 (kSt_le hS1 (by omega) (by omega)) hx1)
  · rw [e1] at h1 hS1 hj1
    have e := em h0
    rw [if_pos (by omega)] at e
    rw [e] at hF
    have hj2 := (bx_out hj1).1
    have hI2 := kIn_le (c' := c') hj2.1.1 (by omega)
    exact bx_out hx x σ1 (bx_out (kOut_f (A := A1) (k := (mwalk p z 3 5 0 (mplen z 0 4 - 1) (mup ν 29 0 0)).1) (z := 0) (w := 16) hp (bx_in (bx_out hF (by omega))) rfl (by rw [h1]; exact l3) hI2 hj2.2.1 (wr9_refl hj2.2.1) hj2.2.2 hI2.2.1 hI2.2.2.1 (by rw [hk1]; exact hA)) x σ1 (kSt_le hS1 (by omega) (by omega)) hx1)
/-- at the holder -/
def kH (p : Nat) (c : Int) (μ : mS) : Prop := kIn p c μ ∧ kCl p μ ∧ μ 26 0 = 0 ∧ (0 ≤ μ 27 0 ∧ μ 27 0 ≤ 11) ∧ rch μ p (μ 27 0).toNat ∧ mkd μ p (μ 27 0).toNat = 2 ∧ μ 6 (15 * p + (μ 27 0).toNat) = 1 ∧ μ 29 0 = mlook μ p (μ 27 0).toNat (μ 28 0) ∧ (0 ≤ μ 29 0 → rch μ p (μ 29 0).toNat) ∧ (-1 ≤ μ 29 0 ∧ μ 29 0 ≤ 11) ∧ (0 ≤ μ 28 0 ∧ μ 28 0 ≤ 15)
theorem mlook_u {p h k j : Nat} {nm v : Int} (hk : 26 ≤ k) : mlook (mup μ k j v) p h nm = mlook μ p h nm := by
  have e : ∀ c n s, mfind (mup μ k j v) c nm n s = mfind μ c nm n s := by
    intro c n s
    induction s generalizing n with
    | zero => rfl
    | succ s ih =>
      unfold mfind
      rw [ih, mup_other _ _ _ (show (3 : Nat) ≠ k by omega), mup_other _ _ _ (show (4 : Nat) ≠ k by omega)]
  unfold mlook mof
  rw [e, mup_other _ _ _ (show (5 : Nat) ≠ k by omega), mup_other _ _ _ (show (1 : Nat) ≠ k by omega)]
theorem mkd_u {p h k j : Nat} {v : Int} (hk : 26 ≤ k) : mkd (mup μ k j v) p h = mkd μ p h := by
  unfold mkd mof
  rw [mup_other _ _ _ (show (5 : Nat) ≠ k by omega), mup_other _ _ _ (show (0 : Nat) ≠ k by omega)]
theorem sX1_underK (hG : gGood G) {p N' : Nat} {z c c' : Int} {l : List (Nat × Int)} {W R : mS} {r : Int} {P : mS → Prop} (hp : p < 6) (hz : inR z) (hln : 0 < mplen z 0 4) (hS : kSt G n (m + 42) A X σ W) (hj : bx 0 (kJc p c W)) (hw : 0 ≤ W 29 0 ∧ W 29 0 ≤ 11) (hP : bx 0 (kP p P)) (hPν : bx 0 (P W)) (hc : c ≤ 700000) (hcc : c + 10 ≤ c') (hN : n + 50 ≤ 1000000) (hN' : n + 7 ≤ N') (hA : A 0 0 = A0 0 0) (hR : (r, R) = mtoh2 p z 5 (mup (mup W 27 0 (W 29 0)) 28 0 (dig z (mplen z 0 4 - 1))))
    (hF : bx 0 (¬ r = 0 → kOut G N' m A0 X c' (0, mfail p r R) l Q0)) (hl : bx 0 ((14, 2) ∈ l ∧ (17, 3) ∈ l ∧ (16, 5) ∈ l)) (hx : bx 0 (∀ x σ', Q0 (.inr x) σ' → Q (.inr x) σ'))
    (hQ1 : bx 0 (∀ A' σ', r = 0 → kSt G (n + 7) m A' X σ' R → kkp p A A' → kH p (c + 6) R → P R → mview p W R → R 27 0 = W 29 0 → R 28 0 = dig z (mplen z 0 4 - 1) → Q (.inl (some (vi (R 29 0)))) σ')) : bx 0 (gOKb G mX1_under (fr + 12) [vr (A 0 0), vr (A 2 p), vi (W 29 0), vi z] σ Q) := by
  obtain ⟨⟨jI, jr⟩, jcl, j26⟩ := bx_out hj
  have hrc := jr hw.1
  have nd := kNeed_of hp jI (by omega)
  obtain ⟨l1, l2, l3⟩ := bx_out hl
  have dr := dig_r z (mplen z 0 4 - 1)
  have v27 : mup (mup W 27 0 (W 29 0)) 28 0 (dig z (mplen z 0 4 - 1)) 27 0 = W 29 0 := by rw [mup_other _ _ _ (by omega), mup_ss]
  have v28 : mup (mup W 27 0 (W 29 0)) 28 0 (dig z (mplen z 0 4 - 1)) 28 0 = dig z (mplen z 0 4 - 1) := mup_ss _ _ _ _
  have er : mreads p (W 29 0).toNat (mup (mup W 27 0 (W 29 0)) 28 0 (dig z (mplen z 0 4 - 1))) = ((mreads p (W 29 0).toNat W).1, mup (mup (mreads p (W 29 0).toNat W).2 27 0 (W 29 0)) 28 0 (dig z (mplen z 0 4 - 1))) := by
    rw [mreads_u (by omega), mreads_u (by omega)]
  unfold mtoh2 at hR
  rw [v27, v28, er, mkd_u (by omega), mkd_u (by omega), mlook_u (by omega), mlook_u (by omega)] at hR
  dsimp only at hR
  have hmr : (mreads p (W 29 0).toNat W).1 = true → mRs (mreads p (W 29 0).toNat W).2 := fun h => (kIn_reads hp jI hrc h).1.2.1.1
  refine sX1_under hG (m := m) hS (bx_in nd) (bx_in hmr) (by omega) hp (by omega) hz hln (bx_in fun h1 h2 A1 σ1 hS1 hk1 => ?_) (bx_in fun h1 h2 A1 x σ1 hS1 hk1 hx1 => ?_) (bx_in fun h1 A1 x σ1 hS1 hk1 hx1 => ?_)
  · rw [if_neg (by rw [h1]; decide), if_neg (by omega)] at hR
    obtain ⟨kI2, kR2⟩ := kIn_reads hp jI hrc h1
    have cl2 := kCl_reads (p := p) (i := (W 29 0).toNat) jcl h1
    have r26 := mreads_26 (p := p) (i := (W 29 0).toNat) (μ := W) h1
    have vw := mview_reads (p := p) (i := (W 29 0).toNat) (μ := W) h1
    have hP2 := (bx_out hP).1 c W _ jI hrc h1 (bx_out hPν)
    have j9 := (kJ_c hp).2.2
    have j6 := mreads_6 (p := p) (i := (W 29 0).toNat) (μ := W) h1
    have e29 : (mreads p (W 29 0).toNat W).2 29 = W 29 := mreads_k rfl
    have lr := mlook_r (n := dig z (mplen z 0 4 - 1)) hp (show (W 29 0).toNat < 15 by omega) kI2.2.1.1
    have hjc : kJc p (c + 6) (mreads p (W 29 0).toNat W).2 := ⟨⟨kI2, fun _ => by rw [e29]; exact kR2 _ hrc⟩, cl2, by rw [r26]; exact j26⟩
    have hj3 := j9 (c + 6) _ (mlook (mreads p (W 29 0).toNat W).2 p (W 29 0).toNat (dig z (mplen z 0 4 - 1))) hjc (Or.inr ⟨by rw [e29]; exact h2, by rw [e29]; exact hw.1, by rw [e29]; exact hw.2, by rw [e29]; exact j6, _, by rw [e29]⟩)
    obtain ⟨⟨q1, q2⟩, q3, q4⟩ := hj3
    rw [mup_ss] at q2
    have q5 := kR2 _ hrc
    injection hR with hr0 hR0
    generalize hMr : (mreads p (W 29 0).toNat W).2 = M at *
    generalize hlk : mlook M p (W 29 0).toNat (dig z (mplen z 0 4 - 1)) = lk at *
    have R27 : R 27 0 = W 29 0 := by rw [hR0, mup_other _ _ _ (by omega), mup_other _ _ _ (by omega), mup_ss]
    have R28 : R 28 0 = dig z (mplen z 0 4 - 1) := by rw [hR0, mup_other _ _ _ (by omega), mup_ss]
    have R29 : R 29 0 = lk := by rw [hR0, mup_ss]
    have Ro : ∀ a, a < 26 → R a = M a := fun a ha => by rw [hR0, mup_other _ _ _ (by omega), mup_other _ _ _ (by omega), mup_other _ _ _ (by omega)]
    have hRk : R = mup (mup (mup M 29 0 lk) 27 0 (W 29 0)) 28 0 (dig z (mplen z 0 4 - 1)) := by
      rw [hR0, mup_swap (k := 28) (k2 := 29) (by omega), mup_swap (k := 27) (k2 := 29) (by omega)]
    have kd : mkd R p (W 29 0).toNat = 2 := by rw [hR0, mkd_u (by omega), mkd_u (by omega), mkd_u (by omega)]; exact h2
    have kH2 : kH p (c + 6) R := by
      refine ⟨?_, ?_, ?_, by rw [R27]; exact hw, ?_, by rw [R27]; exact kd, ?_, ?_, fun y => ?_, by rw [R29]; exact lr, by rw [R28]; exact dr⟩
      · rw [hR0]; exact kIn_up (by omega) (kIn_up (by omega) (kIn_up (by omega) kI2))
      · rw [hR0]; exact kCl_up (kCl_up (kCl_up cl2 (by omega)) (by omega)) (by omega)
      · rw [hR0, mup_other _ _ _ (by omega), mup_other _ _ _ (by omega), mup_other _ _ _ (by omega), r26]; exact j26
      · rw [R27, hR0]; exact rch_up (by omega) (rch_up (by omega) (rch_up (by omega) q5))
      · rw [R27, Ro 6 (by omega)]; exact j6
      · rw [R29, R27, R28, hR0, mlook_u (by omega), mlook_u (by omega), mlook_u (by omega)]; exact hlk.symm
      · rw [R29] at y ⊢
        rw [hRk]
        exact rch_up (by omega) (rch_up (by omega) (q2 y))
    have hPR : P R := by
      rw [hR0]
      exact (bx_out hP).2 _ _ _ (by omega) ((bx_out hP).2 _ _ _ (by omega) ((bx_out hP).2 _ _ _ (by omega) hP2))
    have hSR : kSt G (n + 7) m A1 X σ1 R := kSt_c hS1 (fun a y1 _ _ => Ro a y1)
    have vR : mview p W R := by
      rw [hR0]
      exact mview_trans vw (mview_trans (mview_up (by omega)) (mview_trans (mview_up (by omega)) (mview_up (by omega))))
    have := bx_out hQ1 A1 σ1 hr0 hSR hk1 kH2 hPR vR R27 R28
    rw [R29] at this
    exact this
  · rw [if_neg (by rw [h1]; decide), if_pos h2] at hR
    injection hR with hr0 hR0
    obtain ⟨kI2, kR2⟩ := kIn_reads hp jI hrc h1
    have cl2 := kCl_reads (p := p) (i := (W 29 0).toNat) jcl h1
    have r26 := mreads_26 (p := p) (i := (W 29 0).toNat) (μ := W) h1
    have hIR : kIn p c' R := by rw [hR0]; exact kIn_up (by omega) (kIn_up (by omega) (kIn_le kI2 (by omega)))
    have hcR : kCl p R := by rw [hR0]; exact kCl_up (kCl_up cl2 (by omega)) (by omega)
    have h26R : R 26 0 = 0 := by rw [hR0, mup_other _ _ _ (by omega), mup_other _ _ _ (by omega), r26]; exact j26
    refine bx_out hx x σ1 (bx_out (kOut_f (A := A1) (k := r) (z := 0) (w := 16) hp (bx_in (bx_out hF (by omega))) rfl (by rw [hr0]; exact l3) hIR hcR (wr9_refl hcR) h26R hIR.2.1 hIR.2.2.1 (by rw [hk1]; exact hA)) x σ1 ?_ hx1)
    rw [hR0]
    exact kSt_le (kSt_29 (kSt_29 hS1 (by omega)) (by omega)) (by omega) (by omega)
  · rw [if_pos h1] at hR
    injection hR with hr0 hR0
    have er2 := mreads_f h1
    rw [er2] at hR0 hS1
    have e9 : R = mup (mabort p (mup (mup W 27 0 (W 29 0)) 28 0 (dig z (mplen z 0 4 - 1)))) 26 0 2 := by
      rw [hR0, mabort_u (by omega), mabort_u (by omega), mup_swap (k := 28) (k2 := 26) (by omega), mup_swap (k := 27) (k2 := 26) (by omega)]
    have kI9 : kIn p c (mup (mup W 27 0 (W 29 0)) 28 0 (dig z (mplen z 0 4 - 1))) := kIn_up (by omega) (kIn_up (by omega) jI)
    refine bx_out hx x σ1 (kOut_g (A := A1) (μ := mup (mup W 27 0 (W 29 0)) 28 0 (dig z (mplen z 0 4 - 1))) (k := r) (z := 0) (bx_in (bx_out hF (by omega))) (by rw [e9]) l1 (kAll_le (kAll_abort kI9).1 (by omega)) (by rw [hk1]; exact hA) (kSt_c (kSt_le hS1 (by omega) (by omega)) (fun a y1 y2 y3 => ?_)) hx1)
    refine msweep_c (fun b hb => ?_) a y1
    rw [mabort_u (by omega), mabort_u (by omega), mup_swap (k := 28) (k2 := 26) (by omega), mup_swap (k := 27) (k2 := 26) (by omega), mup_other _ _ _ (by omega), mup_other _ _ _ (by omega)]
end KG
