/-! the kernel's public members (10): how a call begins and ends -/
section KG
variable {G : gG} {n m n' m' fr rc rs : Nat} {A A' A0 : kA} {X X' : kX} {σ σ' σ0 σ2 : gS} {μ μ' ν : mS} {Q Q' : gO → gS → Prop}
theorem menter_26 {p : Nat} : menter p μ 26 0 = 0 := by simp [menter, menterk]
theorem menter_7 {p i : Nat} (hi : i < 15) : menter p μ 7 i = 0 := by simp [menter, menterk, hi]
theorem menter_30 {p : Nat} : menter p μ 30 0 = if μ 9 p = 0 then 1 else 0 := by simp [menter, menterk]
theorem kIn_enter {p : Nat} {c : Int} (h : kAll c μ) (hS : kSt G n m A X σ μ) (hp : p < 6) (h8 : μ 8 p = 1) : kIn p (c + 1) (menter p μ) ∧ kCl p (menter p μ) ∧ menter p μ 26 0 = 0 := by
  obtain ⟨⟨h1, h2⟩, h3, h4⟩ := h
  have hB := hS.2.1.2.2.2.2.2
  have dg : ∀ q, q < 6 → 0 < μ 11 q → μ 9 q = 1 := fun q hq g => (hS.2.1.2.1 q hq).2.2.2.1 g
  have d0 := (h3.2.1.1 p hp).1
  have e11 : menter p μ 11 = μ 11 := menter_o (by omega) (by omega)
  have e2 : menter p μ 2 = μ 2 := menter_o (by omega) (by omega)
  have e18 : menter p μ 18 = μ 18 := menter_o (by omega) (by omega)
  have hL : mL (c + 1) (menter p μ) := fun s hs => by rw [e2]; have := h4 s hs; omega
  rcases (hB p).2.2.2.1 with g | g
  · have n11 : μ 11 p = 0 := ((h1.2.2.1 p hp).2 (by omega)).2.1
    have e9 := menter_9 (p := p) g
    have e12 := menter_12 (p := p) g
    refine ⟨⟨kInv_enter hp g h8 h3.1 h3.2.2.1 h1, mI_enter h3, hL, fun j => ?_, by rw [e9, if_pos rfl], fun q hq hqp gq => ?_, fun q hq gq => ?_, fun _ q hq hqp gq => ?_⟩, ⟨fun i hi => menter_7 hi, Or.inl ⟨by rw [e11]; exact n11, by rw [menter_30, if_pos g], fun d hd => ?_, fun i hi => ?_⟩⟩, menter_26⟩
    · have := hB j
      rw [menter_o (b := 5) (by omega) (by omega), menter_o (b := 6) (by omega) (by omega), menter_o (b := 8) (by omega) (by omega), e9, menter_o (b := 10) (by omega) (by omega)]
      refine ⟨this.1, this.2.1, this.2.2.1, ?_, this.2.2.2.2⟩
      split
      · omega
      · exact this.2.2.2.1
    · rw [e9, if_neg hqp] at gq
      rw [e11]; exact h2 q hq gq
    · rw [e11] at gq
      have := dg q hq gq
      rw [e9]; split
      · rfl
      · exact this
    · rw [e9, if_neg hqp] at gq
      rw [e12, e12, if_neg hqp, if_pos rfl]
      have := ((h1.2.2.1 q hq).1 gq).2
      omega
    · rw [e18, menter_20 g, if_pos (by omega)]
    · rw [menter_o (b := 5) (by omega) (by omega)]
      exact (((h1.2.2.1 p hp).2 (by omega)).1.1 i hi).1
  · have ng : ¬ μ 9 p = 0 := by omega
    have eg : ∀ a, a < 26 → a ≠ 7 → menter p μ a = μ a := fun a h1 h2 => menter_g ng h1 h2
    have dp := h2 p hp g
    refine ⟨⟨kInv_c h3.1 h3.2.2.1 h1 (fun a ha => eg a (by omega) (by omega)) (fun q _ _ => by rw [eg 12 (by omega) (by omega)]) (by rw [eg 23 (by omega) (by omega)]; exact Int.le_refl _), mI_enter h3, hL, kB_c hB (fun a ha => eg a (by omega) (by omega)), by rw [eg 9 (by omega) (by omega)]; exact g, fun q hq hqp gq => ?_, fun q hq gq => ?_, fun y => ?_⟩, ⟨fun i hi => menter_7 hi, Or.inr ⟨by rw [e11]; exact dp, by rw [menter_30, if_neg ng]⟩⟩, menter_26⟩
    · rw [eg 9 (by omega) (by omega)] at gq
      rw [e11]; exact h2 q hq gq
    · rw [e11] at gq
      rw [eg 9 (by omega) (by omega)]; exact dg q hq gq
    · rw [e11] at y; omega
/-- a call ends well, if the disk is well -/
theorem kDone (hG : gGood G) {p : Nat} {c v f cr : Int} {l : List (Nat × Int)} (hp : p < 6) (hS : kSt G n (m + 60) A X σ μ) (hIn : bx 0 (kIn p c μ)) (h30 : (μ 11 p = 0 ∧ μ 30 0 = 1) ∨ (0 < μ 11 p ∧ μ 30 0 = 0)) (h26 : μ 26 0 = 0) (hN : n + 40 ≤ 1000000) (hc : c ≤ 800000) (hA : A 0 0 = A0 0 0) (hQ : bx 0 (kOut G (n + 10) m A0 X (c + 33) (mdone p v f cr μ) l Q)) (l15 : bx 0 (μ 11 p = 0 → (mfinish p μ).1 = 1 → (15, f) ∈ l)) (l16 : bx 0 (μ 11 p = 0 → (mfinish p μ).1 = 2 → (16, cr) ∈ l))
    (hQ1 : bx 0 (∀ A' σ', kSt G (n + 10) m A' X σ' (mdone p v f cr μ).2 → A' 0 0 = A0 0 0 → (mdone p v f cr μ).1 = v → (mdone p v f cr μ).2 26 0 = 0 → kAll (c + 33) (mdone p v f cr μ).2 → Q' (.inl none) σ')) (hQ2 : bx 0 (∀ x σ', Q (.inr x) σ' → Q' (.inr x) σ')) : bx 0 (gOKb G mX1_leave (fr + 12) [vr (A 0 0), vr (A 2 p)] σ Q') := by
  obtain ⟨i1, i2, i3, i4, i5, i6, i7, i8⟩ := bx_out hIn
  have d0 := (i2.2.1.1 p hp).1
  have f26 : msweep (mfinish p μ).2 26 0 = 0 := by rw [msweep_a (by omega), mfin_26 (by omega)]; exact h26
  have s26 : msweep μ 26 0 = 0 := by rw [msweep_a (by omega)]; exact h26
  refine sX1_leave hG hS hp i5 d0 (bx_in i2.1) (bx_in i2.2.1) hN i2.2.2.2.2.2.1 i2.2.2.2.2.2.2 (bx_in fun j hj => ⟨(i2.2.2.2.1 j hj).1, by have := (i2.2.2.2.1 j hj).2; omega⟩) (bx_in fun _ => (kAll_fin hp (bx_out hIn)).2) (bx_in fun y => (kAll_keep (bx_out hIn) y).2) (bx_in fun y A' σ' h1 h2 => ?_) (bx_in fun y hf A' σ' h1 h2 => ?_) (bx_in fun y hf A' x σ' h1 h2 h3 => ?_) (bx_in fun y hf A' x σ' h1 h2 h3 => ?_)
  · have e : mdone p v f cr μ = (v, msweep μ) := by unfold mdone; rw [if_pos (by omega)]
    rw [e] at hQ1
    exact bx_out hQ1 A' σ' h1 (h2.trans hA) rfl s26 (kAll_le (kAll_keep (bx_out hIn) y).1 (by omega))
  · have e : mdone p v f cr μ = (v, msweep (mfinish p μ).2) := by unfold mdone; rw [if_neg (by omega), if_pos hf]
    rw [e] at hQ1
    exact bx_out hQ1 A' σ' h1 (h2.trans hA) rfl f26 (kAll_fin hp (bx_out hIn)).1
  · have e : mdone p v f cr μ = (0, mup (msweep (mfinish p μ).2) 26 0 f) := by unfold mdone; rw [if_neg (by omega), if_neg (by omega), if_pos hf]
    exact bx_out hQ2 x σ' (kOut_x hQ e (by rw [mup_ss]; exact bx_out l15 y hf) (kAll_26 (by omega) (kAll_fin hp (bx_out hIn)).1) (h2.trans hA) (kSt_29 h1 (by omega)) h3)
  · have e : mdone p v f cr μ = (0, mup (msweep (mfinish p μ).2) 26 0 cr) := by unfold mdone; rw [if_neg (by omega), if_neg (by omega), if_neg (by omega)]
    exact bx_out hQ2 x σ' (kOut_x hQ e (by rw [mup_ss]; exact bx_out l16 y hf) (kAll_26 (by omega) (kAll_fin hp (bx_out hIn)).1) (h2.trans hA) (kSt_29 h1 (by omega)) h3)
/-- a call that changed nothing goes wrong -/
theorem kOut_f {r : Int × mS} {l : List (Nat × Int)} {p : Nat} {c z k : Int} {w : Nat} (hp : p < 6) (h : bx 0 (kOut G n m A0 X c r l Q)) (e : r = (z, mfail p k ν)) (hw : (w, k) ∈ l) (hIn : kIn p c μ) (hcl : kCl p μ) (hwr : wr9 p μ ν) (h26 : μ 26 0 = 0) (hIν : mI c ν) (hLν : mL c ν) (hA : A 0 0 = A0 0 0) : kTh Q G n m A X μ w :=
  bx_in fun x σ' hS hx => by
    obtain ⟨A', f1, f2, f3, f4⟩ := kFail (k := k) hp hS hIn hcl hwr h26 hIν hLν
    exact kOut_x h e (by rw [f4]; exact hw) f3 (by rw [f2]; exact hA) f1 hx
/-- a call that gave way -/
theorem kOut_g {r : Int × mS} {l : List (Nat × Int)} {p : Nat} {c z k : Int} {x : Nat} (h : bx 0 (kOut G n m A0 X c r l Q)) (e : r = (z, mfail p k (mup (mabort p μ) 26 0 2))) (hw : (14, 2) ∈ l) (hK : kAll c (msweep (mabort p μ))) (hA : A 0 0 = A0 0 0) (hS : kSt G n m A X σ (msweep (mup (mabort p μ) 26 0 2))) (hx : σ.1 x = some (.inl (14, []))) : Q (.inr x) σ := by
  have e2 : mfail p k (mup (mabort p μ) 26 0 2) = msweep (mup (mabort p μ) 26 0 2) := by
    unfold mfail
    rw [mup_ss, if_neg (by omega), if_neg (by omega), mup_mm]
  have e3 : ∀ a, a < 26 → msweep (mup (mabort p μ) 26 0 2) a = msweep (mabort p μ) a := msweep_c (fun a ha => mup_other _ _ _ (by omega))
  refine kOut_x h (e.trans (by rw [e2])) ?_ ?_ hA hS hx
  · rw [msweep_a (by omega), mup_ss]; exact hw
  · refine kAll_k hK ?_ (fun a ha => e3 a (by omega)) (by rw [e3 23 (by omega)]; exact Int.le_refl _)
    exact mI_c (fun a ha => e3 a (by omega)) hK.2.1
end KG
theorem cnt_no {S : Nat → Bool} : ∀ n : Nat, (∀ k, k < n → S k = false) → cnt S n = 0 := by
  intro n
  induction n with
  | zero => intro _; rfl
  | succ n ih => intro h; show cnt S n + b2i (S n) = 0; rw [ih (fun k hk => h k (by omega)), h n (by omega)]; rfl
theorem mfin_no {p : Nat} {μ : mS} (h : ∀ i, i < 12 → ¬ μ 5 (15 * p + i) = 1) : (mfinish p μ).1 = 0 := by
  have hd : mdirty μ p 12 = 0 := cnt_no 12 fun k hk => decide_eq_false (h k hk)
  unfold mfinish
  rw [hd, if_neg (by omega), if_neg]
  unfold mcrs
  rw [decide_eq_false (by omega)]; decide
theorem kJc_0 {p : Nat} {c : Int} {μ : mS} (hp : p < 6) (h : kIn p c μ) (hc : kCl p μ) (h26 : μ 26 0 = 0) : kJc p c (mup μ 29 0 0) := by
  refine ⟨⟨kIn_up (by omega) h, fun _ => ?_⟩, kCl_up hc (by omega), by rw [mup_other _ _ _ (by omega)]; exact h26⟩
  rw [mup_ss]
  refine rch_up (by omega) ?_
  obtain ⟨hK, hI, -, hB, g, -⟩ := h
  obtain ⟨p1, p2, p3, p4, p5, p6, p7, p8, p9⟩ := ((hK.2.2.1 p hp).1 g).1
  exact ⟨Or.inl rfl, by decide, by unfold mkd; show ¬ μ 0 (mof μ p 0) = 0; omega⟩
theorem mreads_f {p i : Nat} {μ : mS} (h : (mreads p i μ).1 = false) : (mreads p i μ).2 = mup (mabort p μ) 26 0 2 := by
  unfold mreads at h ⊢
  by_cases z : μ 5 (15 * p + i) = 0
  · rw [if_pos z] at h ⊢
    by_cases y : (mmeet p i 0 μ).1 = true
    · rw [if_pos y] at h; cases h
    · rw [if_neg y]
      unfold mmeet at y ⊢
      by_cases x : mold μ p i 0 = true
      · rw [if_pos x]
      · rw [if_neg x] at y; exact absurd rfl y
  · rw [if_neg z] at h; cases h
/-- a walk that gave way -/
theorem mwalk_2 {p : Nat} {z ms fl : Int} (hp : p < 6) (hms : ms ≠ 2) (hfl : fl ≠ 2) : ∀ (s k : Nat) (c : Int) (μ : mS), kJc p c μ → 0 ≤ μ 29 0 → μ 29 0 ≤ 11 → (mwalk p z ms fl k s μ).1 = 2 → ∃ c' μ', c' ≤ c + 6 * s ∧ kIn p c' μ' ∧ (mwalk p z ms fl k s μ).2 = mup (mabort p μ') 26 0 2 := by
  obtain ⟨j1, j2, j3⟩ := kJ_c hp
  intro s
  induction s with
  | zero => intro k c μ _ _ _ h; have h : (0 : Int) = 2 := h; omega
  | succ s ih =>
    intro k c μ hj h0 h1 h
    rw [mwalk] at h ⊢
    by_cases z1 : (mreads p (μ 29 0).toNat μ).1 = false
    · rw [if_pos z1]
      exact ⟨c, μ, by omega, hj.1.1, mreads_f z1⟩
    · rw [if_neg z1] at h ⊢
      by_cases z2 : ¬ mkd (mreads p (μ 29 0).toNat μ).2 p (μ 29 0).toNat = 2
      · rw [if_pos z2] at h; exact absurd h hfl
      · rw [if_neg z2] at h ⊢
        by_cases z3 : mlook (mreads p (μ 29 0).toNat μ).2 p (μ 29 0).toNat (dig z k) < 0
        · rw [if_pos z3] at h; exact absurd h hms
        · rw [if_neg z3] at h ⊢
          have hm : (mreads p (μ 29 0).toNat μ).1 = true := by simpa using z1
          have hj2 := j2 c μ hj h0 h1 hm
          have e29 : (mreads p (μ 29 0).toNat μ).2 29 = μ 29 := mreads_k rfl
          have lr := mlook_r (n := dig z k) hp (show (μ 29 0).toNat < 15 by omega) hj2.1.1.2.1.1
          have hj3 := j3 (c + 6) _ (mlook (mreads p (μ 29 0).toNat μ).2 p (μ 29 0).toNat (dig z k)) hj2 (Or.inr ⟨by rw [e29]; simpa using z2, by rw [e29]; exact h0, by rw [e29]; exact h1, by rw [e29]; exact mreads_6 hm, dig z k, by rw [e29]⟩)
          obtain ⟨c', μ', i1, i2, i3⟩ := ih (k + 1) (c + 6) _ hj3 (by rw [mup_ss]; omega) (by rw [mup_ss]; omega) h
          exact ⟨c', μ', by omega, i2, i3⟩
