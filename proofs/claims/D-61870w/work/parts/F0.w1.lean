/-! the plain law: a pipe's end is 0 or 1 -/
section KW
variable {μ ν : mS}
def kW (μ : mS) : Prop := ∀ x, x < 24 → (28 ≤ μ 18 x → μ 19 x ≤ 1) ∧ (28 ≤ μ 20 x → μ 21 x ≤ 1)
theorem kW_c (h : kW μ) (e : ∀ a, 18 ≤ a → a ≤ 21 → ν a = μ a) : kW ν := by
  unfold kW
  rw [e 18 (by omega) (by omega), e 19 (by omega) (by omega), e 20 (by omega) (by omega), e 21 (by omega) (by omega)]
  exact h
theorem kW_z (h : kW μ) (e1 : ∀ x, x < 24 → (ν 18 x = μ 18 x ∧ ν 19 x = μ 19 x) ∨ (ν 18 x = μ 20 x ∧ ν 19 x = μ 21 x) ∨ ν 18 x < 28) (e2 : ∀ x, x < 24 → (ν 20 x = μ 20 x ∧ ν 21 x = μ 21 x) ∨ (ν 20 x = μ 18 x ∧ ν 21 x = μ 19 x)) : kW ν := by
  intro x hx
  have := h x hx
  refine ⟨fun y => ?_, fun y => ?_⟩
  · rcases e1 x hx with ⟨a, b⟩ | ⟨a, b⟩ | a
    · rw [b]; exact this.1 (by rw [← a]; exact y)
    · rw [b]; exact this.2 (by rw [← a]; exact y)
    · omega
  · rcases e2 x hx with ⟨a, b⟩ | ⟨a, b⟩
    · rw [b]; exact this.2 (by rw [← a]; exact y)
    · rw [b]; exact this.1 (by rw [← a]; exact y)
theorem kW_up {k j : Nat} {v : Int} (hk : k < 18 ∨ 21 < k) (h : kW μ) : kW (mup μ k j v) := kW_c h (fun a h1 h2 => mup_other _ _ _ (by omega))
theorem kW_desc {x : Nat} {v pl : Int} (h : kW μ) (hv : 28 ≤ v → pl ≤ 1) : kW (mup (mup μ 18 x v) 19 x pl) := by
  intro y hy
  have := h y hy
  rw [mup_other _ _ _ (show (20 : Nat) ≠ 19 by omega), mup_other _ _ _ (show (20 : Nat) ≠ 18 by omega), mup_other _ _ _ (show (21 : Nat) ≠ 19 by omega), mup_other _ _ _ (show (21 : Nat) ≠ 18 by omega)]
  refine ⟨?_, this.2⟩
  rw [mup_other _ _ _ (show (18 : Nat) ≠ 19 by omega), mup_v, mup_v]
  by_cases z : y = x
  · rw [if_pos z, if_pos z]; exact hv
  · rw [if_neg z, if_neg z, mup_other _ _ _ (by omega)]; exact this.1
theorem kW_abort {p : Nat} (h : kW μ) : kW (mabort p μ) := by
  refine kW_z h (fun x hx => ?_) (fun x hx => Or.inl ?_)
  · rw [mabort_2, mabort_2]
    by_cases z : 4 * p ≤ x ∧ x < 4 * p + 4
    · rw [if_neg (by omega), if_neg (by omega), if_neg (by omega), if_pos ⟨rfl, z⟩, if_neg (by omega), if_neg (by omega), if_neg (by omega), if_neg (by omega), if_pos ⟨rfl, z⟩]
      exact Or.inr (Or.inl ⟨rfl, rfl⟩)
    · rw [if_neg (by omega), if_neg (by omega), if_neg (by omega), if_neg (fun t => z t.2), if_neg (by omega), if_neg (by omega), if_neg (by omega), if_neg (by omega), if_neg (by omega), if_neg (fun t => z t.2)]
      exact Or.inl ⟨rfl, rfl⟩
  · rw [mabort_2, mabort_2]
    rw [if_neg (by omega), if_neg (by omega), if_neg (by omega), if_neg (by omega), if_neg (by omega), if_neg (by omega), if_neg (by omega), if_neg (by omega), if_neg (by omega), if_neg (by omega)]
    exact ⟨rfl, rfl⟩
theorem kW_absk {S : Nat → Bool} {k : Nat} (h : kW μ) : kW (mabsk S k μ) := by
  refine kW_z h (fun x hx => ?_) (fun x hx => Or.inl ?_)
  · unfold mabsk
    by_cases z : x / 4 < k ∧ S (x / 4) = true
    · rw [if_neg (by omega), if_pos ⟨rfl, z⟩, if_neg (by omega), if_neg (by omega), if_pos ⟨rfl, z⟩]
      exact Or.inr (Or.inl ⟨rfl, rfl⟩)
    · rw [if_neg (by omega), if_neg (fun t => z t.2), if_neg (by omega), if_neg (by omega), if_neg (by omega), if_neg (by omega), if_neg (by omega), if_neg (by omega), if_neg (fun t => z t.2), if_neg (by omega), if_neg (by omega), if_neg (by omega)]
      exact Or.inl ⟨rfl, rfl⟩
  · exact ⟨by rw [mabsk_k rfl], by rw [mabsk_k rfl]⟩
theorem kW_enter {p : Nat} (h : kW μ) : kW (menter p μ) := by
  by_cases g : μ 9 p = 0
  · refine kW_z h (fun x hx => Or.inl ?_) (fun x hx => ?_)
    · rw [menter_o (by omega) (by omega), menter_o (by omega) (by omega)]; exact ⟨rfl, rfl⟩
    · rw [menter_20 g, menter_21 g]
      by_cases z : x / 4 = p
      · rw [if_pos z, if_pos z]; exact Or.inr ⟨rfl, rfl⟩
      · rw [if_neg z, if_neg z]; exact Or.inl ⟨rfl, rfl⟩
  · exact kW_c h (fun a h1 h2 => menter_g g (by omega) (by omega))
theorem kW_plain {p : Nat} (h : kW μ) : kW (mplain p μ) := by
  unfold mplain
  split
  · exact kW_up (by omega) (kW_enter h)
  · exact kW_enter h
theorem kW_ref2 {p : Nat} (h : kW μ) : kW (mrefuse2 p μ) := kW_up (by omega) (kW_up (by omega) h)
theorem kW_sweep (h : kW μ) : kW (msweep μ) := kW_c h (fun a h1 h2 => msweep_a (by omega))
theorem kW_meet {p i : Nat} {w : Int} (h : kW μ) : kW (mmeet p i w μ).2 := by
  unfold mmeet
  split
  · exact kW_up (by omega) (kW_abort h)
  · exact kW_absk h
theorem kW_reads {p i : Nat} (h : kW μ) : kW (mreads p i μ).2 := by
  unfold mreads
  split
  · split
    · exact kW_up (by omega) (kW_meet h)
    · exact kW_meet h
  · exact kW_up (by omega) h
theorem kW_copy {f t : Nat} (h : kW μ) : kW (mcopy f t μ) := kW_c h (fun a h1 h2 => by funext j; exact mcopy_e a j (by omega) (by omega))
theorem kW_writes {p i : Nat} (h : kW μ) : kW (mwrites p i μ).2 := by
  unfold mwrites
  split
  · split
    · exact kW_copy (kW_up (by omega) (kW_up (by omega) (kW_meet h)))
    · exact kW_meet h
  · exact h
theorem kW_walk {p : Nat} {z ms fl : Int} : ∀ (s k : Nat) (μ : mS), kW μ → kW (mwalk p z ms fl k s μ).2 := by
  intro s
  induction s with
  | zero => intro k μ h; exact h
  | succ s ih =>
    intro k μ h
    rw [mwalk]
    split
    · exact kW_reads h
    · split
      · exact kW_reads h
      · split
        · exact kW_up (by omega) (kW_reads h)
        · exact ih _ _ (kW_up (by omega) (kW_reads h))
theorem kW_toh {p : Nat} {z ms fl : Int} (h : kW μ) : kW (mtoh p z ms fl μ).2 := by
  unfold mtoh
  split
  · exact h
  · split
    · exact kW_walk _ _ _ (kW_up (by omega) h)
    · unfold mtoh2
      have h9 := kW_up (k := 28) (j := 0) (v := dig z (mplen z 0 4 - 1)) (by omega) (kW_up (k := 27) (j := 0) (v := (mwalk p z ms fl 0 (mplen z 0 4 - 1) (mup μ 29 0 0)).2 29 0) (by omega) (kW_walk (p := p) (z := z) (ms := ms) (fl := fl) (mplen z 0 4 - 1) 0 (mup μ 29 0 0) (kW_up (by omega) h)))
      split
      · exact kW_reads h9
      · split
        · exact kW_reads h9
        · exact kW_up (by omega) (kW_reads h9)
theorem kW_crash (h : kW μ) : kW (mcrash μ) := by
  refine kW_z h (fun x hx => Or.inr (Or.inr ?_)) (fun x hx => Or.inl ?_)
  · rw [mcrash_v, if_neg (by omega), if_pos ⟨rfl, hx⟩]; omega
  · rw [mcrash_v, mcrash_v]
    rw [if_neg (by omega), if_neg (by omega), if_neg (by omega), if_neg (by omega), if_neg (by omega), if_neg (by omega), if_neg (by omega), if_neg (by omega), if_neg (by omega), if_neg (by omega), if_neg (by omega), if_neg (by omega)]
    exact ⟨rfl, rfl⟩
theorem kW_finish {p : Nat} (h : kW μ) : kW (mfinish p μ).2 := by
  have f : ∀ d, kW (mfst μ d) := fun d => kW_c h (fun a h1 h2 => mfst_o (by omega) (by omega))
  have q : ∀ ξ : mS, kW ξ → kW (mput p ξ) := fun ξ hx => kW_c hx (fun a h1 h2 => mputk_5 (by omega))
  unfold mfinish
  split
  · exact kW_abort h
  · split
    · refine kW_crash ?_
      split
      · exact q _ (f _)
      · exact f _
    · exact kW_c (q _ (f (mdirty μ p 12))) (fun a h1 h2 => mend_o (by omega))
theorem kW_done {p : Nat} {v f c : Int} (h : kW μ) : kW (mdone p v f c μ).2 := by
  unfold mdone
  split
  · exact kW_sweep h
  · split
    · exact kW_sweep (kW_finish h)
    · exact kW_up (by omega) (kW_sweep (kW_finish h))
theorem kW_fail {p : Nat} {k : Int} (h : kW μ) : kW (mfail p k μ) := by
  unfold mfail
  refine kW_sweep (kW_up (by omega) ?_)
  split
  · split
    · exact kW_c h (fun a h1 h2 => by funext j; unfold mfailk; rw [if_neg (by omega)])
    · exact kW_c h (fun a h1 h2 => by funext j; unfold mdrop; rw [if_neg (by omega), if_neg (by omega)])
  · exact h
theorem kW_cre {p i : Nat} {k : Int} (h : kW μ) : kW (mcreate p i k μ) := kW_c h (fun a h1 h2 => (mcre_v (μ := μ) (p := p) (i := i) (k := k)).1 a (by omega))
theorem kW_app {p i : Nat} {n v : Int} (h : kW μ) : kW (mappend p i n v μ) := kW_up (by omega) (kW_up (by omega) (kW_up (by omega) h))
theorem kW_rem {p i : Nat} {n : Int} (h : kW μ) : kW (mremove p i n μ) := by
  unfold mremove
  refine kW_up (by omega) (kW_c h (fun a h1 h2 => mremk_i a (by omega) (by omega)))
theorem kW_make {p : Nat} {k : Int} (h : kW μ) : kW (mmake p k μ).2 := by
  unfold mmake
  split
  · exact h
  · split
    · exact kW_writes h
    · split
      · exact kW_writes h
      · exact kW_app (kW_cre (kW_writes h))
theorem mrd_18 {p i : Nat} (hm : (mreads p i μ).1 = true) : ∀ d, d < 4 → (mreads p i μ).2 18 (4 * p + d) = μ 18 (4 * p + d) := by
  intro d hd
  have sp : ∀ w, mcf μ p i w p = false := fun w => mcf_f (Or.inl rfl)
  have e4 : (4 * p + d) / 4 = p := by omega
  unfold mreads at hm ⊢
  by_cases z : μ 5 (15 * p + i) = 0
  · rw [if_pos z] at hm ⊢
    by_cases y : (mmeet p i 0 μ).1 = true
    · rw [if_pos y]
      dsimp only
      rw [mup_other _ _ _ (by omega), (mmeet_t y).1]
      simp [mabsk, e4, sp]
    · rw [if_neg y] at hm; cases hm
  · rw [if_neg z]
    dsimp only
    rw [mup_other _ _ _ (by omega)]
theorem mwr_18 {p i : Nat} (hm : (mwrites p i μ).1 = true) : ∀ d, d < 4 → (mwrites p i μ).2 18 (4 * p + d) = μ 18 (4 * p + d) := by
  intro d hd
  have sp : ∀ w, mcf μ p i w p = false := fun w => mcf_f (Or.inl rfl)
  have e4 : (4 * p + d) / 4 = p := by omega
  unfold mwrites at hm ⊢
  by_cases z : μ 5 (15 * p + i) = 0
  · rw [if_pos z] at hm ⊢
    by_cases y : (mmeet p i 1 μ).1 = true
    · rw [if_pos y]
      dsimp only
      rw [mcopy_e 18 _ (by omega) (by omega), mup_other _ _ _ (by omega), mup_other _ _ _ (by omega), (mmeet_t y).1]
      simp [mabsk, e4, sp]
    · rw [if_neg y] at hm; cases hm
  · rw [if_neg z]
theorem mproc_r {p : Int} (h : ¬ mproc μ p = false) : 0 ≤ p ∧ p ≤ 5 ∧ μ 8 p.toNat = 1 := by
  cases z : mproc μ p with
  | false => exact absurd z h
  | true => exact of_decide_eq_true z
theorem mheld_r {p d : Int} (h : ¬ mheld μ p d = false) : 0 ≤ p ∧ p ≤ 5 ∧ μ 8 p.toNat = 1 ∧ 0 ≤ d ∧ d ≤ 3 ∧ 0 ≤ μ 18 (4 * p.toNat + d.toNat) := by
  cases z : mheld μ p d with
  | false => exact absurd z h
  | true => exact of_decide_eq_true z
/-! each call keeps it -/
theorem kW_begin {p : Int} (h : kW μ) : kW (mbegin p μ).2 := by
  unfold mbegin
  split
  · exact kW_up (by omega) h
  split
  · exact kW_ref2 h
  split
  · split
    · exact kW_up (by omega) (kW_enter h)
    · exact kW_up (by omega) (kW_enter h)
  · exact kW_up (by omega) (kW_enter h)
theorem kW_ends {p : Int} (h : kW μ) : kW (mends p μ).2 := by
  unfold mends
  split
  · exact kW_up (by omega) h
  split
  · exact kW_ref2 h
  split
  · exact kW_up (by omega) (kW_plain h)
  split
  · exact kW_up (by omega) (kW_plain h)
  · exact kW_done (kW_up (by omega) (kW_plain h))
theorem kW_aborts {p : Int} (h : kW μ) : kW (maborts p μ).2 := by
  unfold maborts
  split
  · exact kW_up (by omega) h
  split
  · exact kW_ref2 h
  split
  · exact kW_up (by omega) (kW_plain h)
  · exact kW_sweep (kW_abort (kW_plain h))
theorem kW_open {p z how : Int} (h : kW μ) (hI : mI 700000 μ) : kW (mopen p z how μ).2 := by
  by_cases hp0 : mproc μ p = false
  · unfold mopen; rw [if_pos (Or.inl hp0)]; exact kW_up (by omega) h
  have hr : 0 ≤ p ∧ p ≤ 5 ∧ μ 8 p.toNat = 1 := mproc_r hp0
  have rr := mtoh_r (p := p.toNat) (z := z) (ms := 3) (fl := 5) (μ := menter p.toNat μ) (by omega) (mI_enter (p := p.toNat) hI).1 (by omega) (by omega)
  unfold mopen
  split
  · exact kW_up (by omega) h
  split
  · exact kW_ref2 h
  have h1 := kW_toh (p := p.toNat) (z := z) (ms := 3) (fl := 5) (kW_enter (p := p.toNat) h)
  have o3 : ∀ (d i : Int) (ν : mS), kW ν → i ≤ 20 → kW (mopen3 p.toNat d i ν).2 := fun d i ν hν hi => kW_done (kW_desc hν (fun y => by omega))
  have rI := mI_toh (p := p.toNat) (z := z) (ms := 3) (fl := 5) (mI_enter (p := p.toNat) hI)
  unfold mopen1
  split
  · exact kW_fail h1
  split
  · exact kW_fail h1
  split
  · exact kW_fail h1
  split
  · exact kW_fail h1
  split
  · unfold mopen2
    have hs := mspare_r (mtoh p.toNat z 3 5 (menter p.toNat μ)).2 11 1
    split
    · exact kW_fail (kW_make h1)
    · refine o3 _ _ _ (kW_make h1) ?_
      unfold mmake
      split
      · show (-1 : Int) ≤ 20; omega
      · split
        · show (-1 : Int) ≤ 20; omega
        · split
          · show (-1 : Int) ≤ 20; omega
          · show mspare _ 1 11 ≤ 20; omega
  · refine o3 _ _ _ h1 ?_
    omega
theorem kW_close {p d : Int} (h : kW μ) : kW (mclose p d μ).2 := by
  unfold mclose
  split
  · exact kW_up (by omega) h
  split
  · exact kW_ref2 h
  · refine kW_sweep (kW_z (kW_plain (p := p.toNat) h) (fun x hx => ?_) (fun x hx => Or.inl ?_))
    · rw [mup_v]
      by_cases z : x = 4 * p.toNat + d.toNat
      · rw [if_pos z]; exact Or.inr (Or.inr (by omega))
      · rw [if_neg z]; exact Or.inl ⟨rfl, by rw [mup_other _ _ _ (by omega)]⟩
    · exact ⟨by rw [mup_other _ _ _ (by omega)], by rw [mup_other _ _ _ (by omega)]⟩
theorem kW_19 {x : Nat} {v : Int} (h : kW μ) (hv : μ 18 x < 28 ∨ v ≤ 1) : kW (mup μ 19 x v) := by
  intro y hy
  have := h y hy
  rw [mup_other _ _ _ (show (20 : Nat) ≠ 19 by omega), mup_other _ _ _ (show (21 : Nat) ≠ 19 by omega), mup_other _ _ _ (show (18 : Nat) ≠ 19 by omega)]
  refine ⟨?_, this.2⟩
  rw [mup_v]
  by_cases z : y = x
  · rw [if_pos z, z]; intro w; omega
  · rw [if_neg z]; exact this.1
theorem kW_seek {p d z : Int} (h : kW μ) : kW (mseek p d z μ).2 := by
  unfold mseek
  split
  · exact kW_up (by omega) h
  split
  · exact kW_ref2 h
  split
  · exact kW_up (by omega) (kW_plain h)
  · rename_i h16
    refine kW_19 (kW_plain h) (Or.inl ?_)
    rw [mplain_k (by omega)]; omega
theorem kW_read {p d : Int} (h : kW μ) : kW (mread p d μ).2 := by
  unfold mread
  split
  · exact kW_up (by omega) h
  split
  · exact kW_ref2 h
  split
  · split
    · exact kW_fail (kW_enter h)
    · unfold mread2
      split
      · exact kW_fail (kW_writes (kW_enter h))
      split
      · exact kW_fail (kW_writes (kW_enter h))
      · refine kW_done (kW_c (kW_writes (p := p.toNat) (i := (μ 18 (4 * p.toNat + d.toNat) - 16).toNat) (kW_enter (p := p.toNat) h)) (fun a h1 h2 => ?_))
        funext j; unfold mshk; rw [if_neg (by omega), if_neg (by omega)]
  · rename_i hh h10 h16
    have hr : 0 ≤ p ∧ p ≤ 5 ∧ μ 8 p.toNat = 1 ∧ 0 ≤ d ∧ d ≤ 3 ∧ 0 ≤ μ 18 (4 * p.toNat + d.toNat) := mheld_r hh
    unfold mread3
    split
    · exact kW_fail (kW_reads (kW_enter h))
    split
    · exact kW_fail (kW_reads (kW_enter h))
    · rename_i hm _
      refine kW_done (kW_19 (kW_reads (kW_enter h)) (Or.inl ?_))
      rw [(mrd_18 (by simpa using hm) d.toNat (by omega)), menter_o (by omega) (by omega)]; omega
theorem kW_write {p d v : Int} (h : kW μ) : kW (mwrite p d v μ).2 := by
  unfold mwrite
  split
  · exact kW_up (by omega) h
  split
  · exact kW_ref2 h
  split
  · exact kW_fail (kW_enter h)
  · rename_i hh h10 h16
    have hr : 0 ≤ p ∧ p ≤ 5 ∧ μ 8 p.toNat = 1 ∧ 0 ≤ d ∧ d ≤ 3 ∧ 0 ≤ μ 18 (4 * p.toNat + d.toNat) := mheld_r hh
    have h1 := kW_writes (p := p.toNat) (i := (μ 18 (4 * p.toNat + d.toNat) % 16).toNat) (kW_enter (p := p.toNat) h)
    have fk : ∀ (c k : Nat) (ν : mS), kW ν → kW (mfilk c k ν) := fun c k ν hν => kW_c hν (fun a y1 y2 => by funext j; unfold mfilk; rw [if_neg (by omega), if_neg (by omega)])
    have f18 : ∀ (c k : Nat) (ν : mS), mfilk c k ν 18 = ν 18 := fun c k ν => by funext j; unfold mfilk; rw [if_neg (by omega), if_neg (by omega)]
    have w18 := fun hm => mwr_18 (μ := menter p.toNat μ) (p := p.toNat) (i := (μ 18 (4 * p.toNat + d.toNat) % 16).toNat) hm d.toNat (by omega)
    rw [show menter p.toNat μ 18 = μ 18 from menter_o (by omega) (by omega)] at w18
    generalize hpp : decide (16 ≤ μ 18 (4 * p.toNat + d.toNat)) = pp
    generalize mwrites p.toNat (μ 18 (4 * p.toNat + d.toNat) % 16).toNat (menter p.toNat μ) = w at *
    unfold mwrt2 mwrt3
    cases pp
    · simp only [Bool.false_eq_true, if_false]
      by_cases hm : w.1 = false
      · rw [if_pos hm]; exact kW_fail h1
      · rw [if_neg hm]
        split
        · exact kW_fail h1
        · refine kW_done (kW_19 (kW_up (by omega) (fk _ _ _ h1)) (Or.inl ?_))
          rw [mup_other _ _ _ (by omega), f18, w18 (by simpa using hm)]
          have : ¬ 16 ≤ μ 18 (4 * p.toNat + d.toNat) := of_decide_eq_false hpp
          omega
    · simp only [if_true]
      by_cases hm : w.1 = false
      · rw [if_pos hm]; exact kW_fail h1
      · rw [if_neg hm]
        split
        · exact kW_fail h1
        · exact kW_done (kW_up (by omega) (fk _ _ _ h1))
theorem kW_trunc {p d z : Int} (h : kW μ) : kW (mtruncate p d z μ).2 := by
  unfold mtruncate
  split
  · exact kW_up (by omega) h
  split
  · exact kW_ref2 h
  split
  · exact kW_fail (kW_enter h)
  · unfold mtrunc1
    split
    · exact kW_fail (kW_writes (kW_enter h))
    · refine kW_done (kW_up (by omega) (kW_c (kW_writes (p := p.toNat) (i := (μ 18 (4 * p.toNat + d.toNat)).toNat) (kW_enter (p := p.toNat) h)) (fun a h1 h2 => ?_)))
      funext j; unfold mtrk; rw [if_neg (by omega)]
theorem kW_directory {p z : Int} (h : kW μ) : kW (mdirectory p z μ).2 := by
  unfold mdirectory
  split
  · exact kW_up (by omega) h
  split
  · exact kW_ref2 h
  have h1 := kW_toh (p := p.toNat) (z := z) (ms := 3) (fl := 5) (kW_enter (p := p.toNat) h)
  unfold mdir1
  split
  · exact kW_fail h1
  split
  · exact kW_fail h1
  · unfold mdir2
    split
    · exact kW_fail (kW_make h1)
    · exact kW_done (kW_make h1)
theorem kW_size {p z : Int} (h : kW μ) : kW (msize p z μ).2 := by
  unfold msize
  split
  · exact kW_up (by omega) h
  split
  · exact kW_ref2 h
  have h1 := kW_walk (p := p.toNat) (z := z) (ms := 3) (fl := 4) (mplen z 0 4) 0 _ (kW_up (k := 29) (j := 0) (v := 0) (by omega) (kW_enter (p := p.toNat) h))
  unfold msize1
  split
  · exact kW_fail h1
  split
  · exact kW_fail (kW_reads h1)
  · exact kW_done (kW_reads h1)
theorem kW_link {p z z2 : Int} (h : kW μ) : kW (mlink p z z2 μ).2 := by
  unfold mlink
  split
  · exact kW_up (by omega) h
  split
  · exact kW_ref2 h
  have h1 := kW_walk (p := p.toNat) (z := z) (ms := 3) (fl := 5) (mplen z 0 4) 0 _ (kW_up (k := 29) (j := 0) (v := 0) (by omega) (kW_enter (p := p.toNat) h))
  have h2 := kW_toh (p := p.toNat) (z := z2) (ms := 3) (fl := 5) h1
  unfold mlink1
  split
  · exact kW_fail h1
  split
  · exact kW_fail h1
  unfold mlink2
  split
  · exact kW_fail h2
  split
  · exact kW_fail h2
  unfold mlink3
  split
  · exact kW_fail (kW_writes h2)
  split
  · exact kW_fail (kW_writes h2)
  unfold mlink4
  split
  · exact kW_fail (kW_writes (kW_writes h2))
  · exact kW_done (kW_up (by omega) (kW_app (kW_writes (kW_writes h2))))
theorem kW_unl3 {p : Nat} {dir : Bool} {i : Int} {w : Bool × mS} (h : kW w.2) : kW (munl3 p dir i w).2 := by
  unfold munl3
  split
  · exact kW_fail h
  split
  · exact kW_fail (kW_writes h)
  unfold munl4
  split
  · exact kW_done (kW_up (by omega) (kW_rem (kW_writes h)))
  · exact kW_done (kW_up (by omega) (kW_rem (kW_writes h)))
theorem kW_unlink {p z : Int} (h : kW μ) : kW (munlink p z μ).2 := by
  unfold munlink
  split
  · exact kW_up (by omega) h
  split
  · exact kW_ref2 h
  have h1 := kW_toh (p := p.toNat) (z := z) (ms := 3) (fl := 5) (kW_enter (p := p.toNat) h)
  unfold munl1
  split
  · exact kW_fail h1
  split
  · exact kW_fail h1
  split
  · unfold munl2
    split
    · exact kW_fail (kW_reads h1)
    split
    · exact kW_fail (kW_reads h1)
    · exact kW_unl3 (kW_writes (kW_reads h1))
  · exact kW_unl3 (kW_writes h1)
theorem kW_rename {p z z2 : Int} (h : kW μ) : kW (mrename p z z2 μ).2 := by
  unfold mrename
  split
  · exact kW_up (by omega) h
  split
  · exact kW_ref2 h
  split
  · exact kW_fail (kW_enter h)
  have h1 := kW_toh (p := p.toNat) (z := z) (ms := 3) (fl := 5) (kW_enter (p := p.toNat) h)
  have h2 := kW_toh (p := p.toNat) (z := z2) (ms := 3) (fl := 5) h1
  unfold mren1
  split
  · exact kW_fail h1
  split
  · exact kW_fail h1
  unfold mren2
  split
  · exact kW_fail h2
  split
  · exact kW_fail h2
  unfold mren3
  split
  · exact kW_fail (kW_writes h2)
  unfold mren4
  split
  · exact kW_fail (kW_writes (kW_writes h2))
  split
  · exact kW_fail (kW_writes (kW_writes h2))
  · exact kW_done (kW_app (kW_rem (kW_writes (kW_writes h2))))
theorem kW_pipe {p : Int} (h : kW μ) : kW (mpipe p μ).2 := by
  unfold mpipe
  split
  · exact kW_up (by omega) h
  split
  · exact kW_ref2 h
  unfold mpipe1
  split
  · exact kW_fail (kW_enter h)
  split
  · exact kW_fail (kW_enter h)
  unfold mpipe3
  exact kW_done (kW_desc (kW_desc (kW_cre (kW_enter h)) (fun _ => by omega)) (fun _ => by omega))
theorem kW_drop {p : Nat} (h : kW μ) : kW (mdrop p μ) := kW_c h (fun a h1 h2 => by funext j; unfold mdrop; rw [if_neg (by omega), if_neg (by omega)])
theorem kW_fork {p : Int} (h : kW μ) (hp : mproc μ p = true) : kW (mfork p μ).2 := by
  have hr : 0 ≤ p ∧ p ≤ 5 ∧ μ 8 p.toNat = 1 := mproc_r (by rw [hp]; decide)
  unfold mfork
  rw [if_neg (by rw [hp]; decide)]
  split
  · exact kW_ref2 h
  split
  · exact kW_up (by omega) (kW_plain h)
  split
  · exact kW_up (by omega) (kW_plain h)
  have h1 := kW_plain (p := p.toNat) h
  have h2 : kW (mforkb (mffree μ 0 6) (mplain p.toNat μ)) := kW_drop (kW_up (by omega) (kW_up (by omega) (kW_up (by omega) h1)))
  intro x hx
  show (28 ≤ mforkk p.toNat (mffree μ 0 6) 4 (mplain p.toNat μ) 18 x → mforkk p.toNat (mffree μ 0 6) 4 (mplain p.toNat μ) 19 x ≤ 1) ∧ (28 ≤ mforkk p.toNat (mffree μ 0 6) 4 (mplain p.toNat μ) 20 x → mforkk p.toNat (mffree μ 0 6) 4 (mplain p.toNat μ) 21 x ≤ 1)
  unfold mforkk
  rw [if_neg (show ¬ (((20 : Nat) = 18 ∨ (20 : Nat) = 19) ∧ _) by omega), if_neg (show ¬ (((21 : Nat) = 18 ∨ (21 : Nat) = 19) ∧ _) by omega)]
  refine ⟨?_, (h2 x hx).2⟩
  by_cases z : 4 * mffree μ 0 6 ≤ x ∧ x < 4 * mffree μ 0 6 + 4
  · rw [if_pos ⟨Or.inl rfl, z⟩, if_pos ⟨Or.inr rfl, z⟩]
    exact (h1 _ (by omega)).1
  · rw [if_neg (fun t => z t.2), if_neg (fun t => z t.2)]
    exact (h2 x hx).1
theorem kW_exit {p : Int} (h : kW μ) : kW (mexit p μ).2 := by
  unfold mexit
  split
  · exact kW_up (by omega) h
  split
  · exact kW_ref2 h
  split
  · exact kW_up (by omega) (kW_plain h)
  · refine kW_sweep (kW_z (kW_plain (p := p.toNat) h) (fun x hx => ?_) (fun x hx => Or.inl ?_))
    · unfold mexk
      by_cases z : 4 * p.toNat ≤ x ∧ x < 4 * p.toNat + 4
      · rw [if_pos ⟨rfl, z⟩]; exact Or.inr (Or.inr (by omega))
      · rw [if_neg (fun t => z t.2), if_neg (by omega), if_neg (by omega), if_neg (by omega)]; exact Or.inl ⟨rfl, rfl⟩
    · unfold mexk
      rw [if_neg (by omega), if_neg (by omega), if_neg (by omega), if_neg (by omega)]; exact ⟨rfl, rfl⟩
theorem kW_send {q : Nat} {n : Int} (h : kW μ) : kW (msend q n μ) := kW_c h (fun a h1 h2 => msend_k (by omega) (by omega))
theorem kW_signal {p q n : Int} (h : kW μ) : kW (msignal p q n μ).2 := by
  unfold msignal
  split
  · exact kW_up (by omega) h
  split
  · exact kW_ref2 h
  split
  · split
    · exact kW_up (by omega) (kW_plain h)
    · exact kW_up (by omega) (kW_up (by omega) (kW_up (by omega) (kW_plain h)))
  split
  · exact kW_up (by omega) (kW_plain h)
  split
  · exact kW_up (by omega) (kW_plain h)
  · exact kW_send (kW_plain h)
theorem kW_take {p : Int} (h : kW μ) : kW (mtake p μ).2 := by
  unfold mtake
  split
  · exact kW_up (by omega) h
  split
  · exact kW_ref2 h
  split
  · exact kW_up (by omega) (kW_plain h)
  · refine kW_c (kW_plain (p := p.toNat) h) (fun a h1 h2 => ?_)
    funext j; show mtakek _ _ _ a j = _; unfold mtakek; rw [if_neg (by omega), if_neg (by omega)]
theorem kW_log {z : Int} (h : kW μ) : kW (mlog z μ).2 := by
  unfold mlog
  split
  · exact kW_up (by omega) (kW_up (by omega) h)
  · exact kW_up (by omega) h
theorem kW_cut {z : Int} (h : kW μ) : kW (mcut z μ).2 := by
  unfold mcut
  split
  · exact kW_up (by omega) (kW_up (by omega) h)
  · exact kW_up (by omega) h
theorem kW_item {i w : Int} (h : kW μ) : kW (mitem i w μ).2 := by
  unfold mitem
  repeat' split
  all_goals exact kW_up (by omega) h
theorem kW_cell {i w : Int} (h : kW μ) : kW (mcell i w μ).2 := by
  unfold mcell
  repeat' split
  all_goals exact kW_up (by omega) h
theorem kW_look {i w : Int} (h : kW μ) : kW (mlk i w μ).2 := by
  unfold mlk
  repeat' split
  all_goals exact kW_up (by omega) h
theorem kW_count {w : Int} (h : kW μ) : kW (mcount w μ).2 := by
  unfold mcount
  repeat' split
  all_goals exact kW_up (by omega) h
end KW
