/-! the plain law (11): meeting, reading, writing inside a call -/
theorem mgr_c {μ ν : mS} {p j : Nat} (e : ∀ a, a ≤ 4 ∨ a = 20 → ν a = μ a) (e5 : ∀ d, d < 15 → μ 5 (15 * p + d) = 1 → ν 5 (15 * p + d) = 1) (e6 : ∀ d, d < 15 → μ 6 (15 * p + d) = 1 → ν 6 (15 * p + d) = 1) (hj : j < 12) (h : mgr μ p j) : mgr ν p j := by
  have hm : ∀ c i, men ν c i = men μ c i := fun c i => by unfold men; rw [e 0 (by omega), e 1 (by omega), e 4 (by omega)]
  unfold mgr at h ⊢
  rw [e 20 (by omega), e 0 (by omega)]
  rcases h with y | y | ⟨y1, y2⟩ | ⟨d, hd, y1, y2⟩
  · exact Or.inl y
  · exact Or.inr (Or.inl y)
  · exact Or.inr (Or.inr (Or.inl ⟨y1, e5 j (by omega) y2⟩))
  · exact Or.inr (Or.inr (Or.inr ⟨d, hd, e6 d (by omega) y1, by rw [hm]; exact y2⟩))
theorem mkp {a : Nat} (h : a ≤ 4 ∨ a = 8 ∨ a = 12 ∨ a = 14 ∨ a = 20 ∨ a = 23) : mkeep a = true := by
  have : a = 0 ∨ a = 1 ∨ a = 2 ∨ a = 3 ∨ a = 4 ∨ a = 8 ∨ a = 12 ∨ a = 14 ∨ a = 20 ∨ a = 23 := by omega
  rcases this with rfl | rfl | rfl | rfl | rfl | rfl | rfl | rfl | rfl | rfl <;> rfl
theorem kB_absk {μ : mS} {S : Nat → Bool} {k : Nat} (h : kB μ) : kB (mabsk S k μ) := by
  intro j
  have := h j
  simp only [mabsk]
  grind
theorem kIn_meet {p i : Nat} {w c : Int} {μ : mS} (h : kIn p c μ) : kIn p (c + 6) (mabsk (mcf μ p i w) 6 μ) ∧ ∀ j, rch μ p j → rch (mabsk (mcf μ p i w) 6 μ) p j := by
  obtain ⟨h1, h2, h3, h4, h5, h6, h7, h8⟩ := h
  have sp : mcf μ p i w p = false := mcf_f (Or.inl rfl)
  have hS : ∀ q, mcf μ p i w q = true → μ 9 q = 1 := fun q y => (of_decide_eq_true y).2.1
  have e := fun a (ha : mkeep a = true) => mabsk_k (S := mcf μ p i w) (k := 6) (μ := μ) ha
  have hI := mI_absk (S := mcf μ p i w) h2
  have hK := kInv_absk (S := mcf μ p i w) (fun q _ y => hS q y) h2.1 h2.2.2.1 h1
  have hB := kB_absk (S := mcf μ p i w) (k := 6) h4
  have v9 : ∀ q, q < 6 → mabsk (mcf μ p i w) 6 μ 9 q = if mcf μ p i w q = true then 0 else μ 9 q := fun q hq => by simp [mabsk, hq]
  have v11 : ∀ q, q < 6 → mabsk (mcf μ p i w) 6 μ 11 q = if mcf μ p i w q = true then 0 else μ 11 q := fun q hq => by simp [mabsk, hq]
  have v9p : mabsk (mcf μ p i w) 6 μ 9 p = μ 9 p := by simp [mabsk, sp]
  have v11p : mabsk (mcf μ p i w) 6 μ 11 p = μ 11 p := by simp [mabsk, sp]
  have r5 : ∀ d, d < 15 → mabsk (mcf μ p i w) 6 μ 5 (15 * p + d) = μ 5 (15 * p + d) ∧ mabsk (mcf μ p i w) 6 μ 6 (15 * p + d) = μ 6 (15 * p + d) := fun d hd => by
    have e15 : (15 * p + d) / 15 = p := by omega
    simp [mabsk, e15, sp]
  generalize mabsk (mcf μ p i w) 6 μ = ν at *
  refine ⟨⟨hK, hI, fun s hs => by rw [e 2 rfl]; have := h3 s hs; omega, hB, by rw [v9p]; exact h5, fun q hq hqp g => ?_, fun q hq g => ?_, fun y q hq hqp g => ?_⟩, fun j hj => ?_⟩
  · rw [v9 q hq] at g
    rw [v11 q hq]
    cases z : mcf μ p i w q with
    | true => rw [z] at g; simp at g
    | false => rw [z] at g; simp at g ⊢; exact h6 q hq hqp g
  · rw [v11 q hq] at g
    rw [v9 q hq]
    cases z : mcf μ p i w q with
    | true => rw [z] at g; simp at g
    | false => rw [z] at g; simp at g ⊢; exact h7 q hq g
  · rw [v11p] at y
    rw [v9 q hq] at g
    rw [e 12 rfl]
    cases z : mcf μ p i w q with
    | true => rw [z] at g; simp at g
    | false => rw [z] at g; simp at g; exact h8 y q hq hqp g
  · obtain ⟨a, b, c⟩ := hj
    refine ⟨mgr_c (fun a ha => e a (mkp (by omega))) (fun d hd y => by rw [(r5 d hd).1]; exact y) (fun d hd y => by rw [(r5 d hd).2]; exact y) b a, b, ?_⟩
    unfold mkd at c ⊢
    rw [e 0 rfl, mof_c (r5 j (by omega)).1]
    exact c
theorem kIn_up {p : Nat} {c : Int} {μ : mS} {k j : Nat} {v : Int} (hk : 26 ≤ k) (h : kIn p c μ) : kIn p c (mup μ k j v) := by
  obtain ⟨h1, h2, h3, h4, h5, h6, h7, h8⟩ := h
  have e : ∀ a, a < 26 → mup μ k j v a = μ a := fun a ha => mup_other _ _ _ (by omega)
  refine ⟨kInv_c h2.1 h2.2.2.1 h1 (fun a ha => e a (by omega)) (fun q _ _ => by rw [e 12 (by omega)]) (by rw [e 23 (by omega)]; exact Int.le_refl _), mI_up (by omega) h2, fun s hs => by rw [e 2 (by omega)]; exact h3 s hs, kB_c h4 (fun a ha => e a (by omega)), ?_⟩
  rw [e 9 (by omega), e 11 (by omega), e 12 (by omega)]
  exact ⟨h5, h6, h7, h8⟩
theorem rch_up {p i : Nat} {μ : mS} {k j : Nat} {v : Int} (hk : 26 ≤ k) (h : rch μ p i) : rch (mup μ k j v) p i := by
  have e : ∀ a, a < 26 → mup μ k j v a = μ a := fun a ha => mup_other _ _ _ (by omega)
  obtain ⟨a, b, c⟩ := h
  refine ⟨mgr_c (fun a ha => e a (by omega)) (fun d _ y => by rw [e 5 (by omega)]; exact y) (fun d _ y => by rw [e 6 (by omega)]; exact y) b a, b, ?_⟩
  unfold mkd at c ⊢
  rw [e 0 (by omega), mof_c (by rw [e 5 (by omega)])]
  exact c
theorem kIn_seen {p i : Nat} {c : Int} {μ : mS} (hp : p < 6) (h : kIn p c μ) (hn : ∀ q, q < 6 → q ≠ p → μ 9 q = 1 → ¬ μ 5 (15 * q + i) = 1) (hr : rch μ p i) : kIn p c (mup μ 6 (15 * p + i) 1) ∧ ∀ j, rch μ p j → rch (mup μ 6 (15 * p + i) 1) p j := by
  obtain ⟨h1, h2, h3, h4, h5, h6, h7, h8⟩ := h
  have e : ∀ a, a ≠ 6 → mup μ 6 (15 * p + i) 1 a = μ a := fun a ha => mup_other _ _ _ (by omega)
  obtain ⟨a, b, k⟩ := hr
  have h0 : ¬ μ 0 i = 0 ∨ μ 5 (15 * p + i) = 1 := by
    unfold mkd at k
    rcases (h4 (15 * p + i)).1 with z | z
    · rw [mof_n z] at k; exact Or.inl k
    · exact Or.inr z
  refine ⟨⟨kInv_seen hp (by omega) h5 h2.1 h2.2.2.1 h1 hn a b h0, mI_up (by omega) h2, fun s hs => by rw [e 2 (by omega)]; exact h3 s hs, kB_up h4 (by omega), ?_⟩, fun j hj => ?_⟩
  · rw [e 9 (by omega), e 11 (by omega), e 12 (by omega)]
    exact ⟨h5, h6, h7, h8⟩
  · obtain ⟨a, b, c⟩ := hj
    refine ⟨mgr_c (fun a ha => e a (by omega)) (fun d _ y => by rw [e 5 (by omega)]; exact y) (fun d _ y => by simp only [mup]; split <;> first | rfl | exact y) b a, b, ?_⟩
    unfold mkd at c ⊢
    rw [e 0 (by omega), mof_c (by rw [e 5 (by omega)])]
    exact c
theorem kIn_reads {p i : Nat} {c : Int} {μ : mS} (hp : p < 6) (h : kIn p c μ) (hr : rch μ p i) (hm : (mreads p i μ).1 = true) : kIn p (c + 6) (mreads p i μ).2 ∧ ∀ j, rch μ p j → rch (mreads p i μ).2 p j := by
  have hi : i < 15 := by have := hr.2.1; omega
  rcases (h.2.2.2.1 (15 * p + i)).1 with z | z
  · have e1 : mmeet p i 0 μ = (true, mabsk (mcf μ p i 0) 6 μ) := by
      unfold mreads mmeet at hm
      unfold mmeet
      rw [if_pos z] at hm
      by_cases y : mold μ p i 0 = true
      · rw [if_pos y] at hm; cases hm
      · rw [if_neg y]
    have e2 : (mreads p i μ).2 = mup (mabsk (mcf μ p i 0) 6 μ) 6 (15 * p + i) 1 := by
      unfold mreads
      rw [if_pos z, e1]; rfl
    rw [e2]
    obtain ⟨k1, k2⟩ := kIn_meet (i := i) (w := 0) h
    have hno : ∀ q, q < 6 → q ≠ p → mabsk (mcf μ p i 0) 6 μ 9 q = 1 → ¬ mabsk (mcf μ p i 0) 6 μ 5 (15 * q + i) = 1 := fun q hq hqp g w => by
      have := mcf_2 (μ := μ) (p := p) (w := 0) hq hi
      have t := mcf_t (μ := mabsk (mcf μ p i 0) 6 μ) (p := p) (i := i) (w := 0) hqp g (Or.inl w)
      rw [t] at this; cases this
    obtain ⟨k3, k4⟩ := kIn_seen (i := i) hp k1 hno (k2 i hr)
    exact ⟨k3, fun j hj => k4 j (k2 j hj)⟩
  · have e2 : (mreads p i μ).2 = mup μ 6 (15 * p + i) 1 := by
      unfold mreads
      rw [if_neg (by omega)]
    rw [e2]
    obtain ⟨k3, k4⟩ := kIn_seen (i := i) hp h (fun q hq hqp g w => ((h.1.2.2.2.1 p q hp hq (fun y => hqp y.symm) h.2.2.2.2.1 g).1 i hi z).1 w) hr
    exact ⟨kIn_le k3 (by omega), k4⟩
theorem kIn_writes {p i : Nat} {c : Int} {μ : mS} (hp : p < 6) (hi : i < 15) (h : kIn p c μ) (hv : ¬ mkd μ p i = 0) (hg : i < 12 → mgr μ p i) (hs : i < 12 → mkd μ p i = 2 → μ 6 (15 * p + i) = 1) (hm : (mwrites p i μ).1 = true) : kIn p (c + 6) (mwrites p i μ).2 ∧ (mwrites p i μ).2 5 (15 * p + i) = 1 ∧ ∀ j, rch μ p j → rch (mwrites p i μ).2 p j := by
  have hvw := mview_writes hi hm
  have hIw := mI_writes (p := p) hi h.2.1
  rcases (h.2.2.2.1 (15 * p + i)).1 with z | z
  · have e1 : mmeet p i 1 μ = (true, mabsk (mcf μ p i 1) 6 μ) := by
      unfold mwrites mmeet at hm
      unfold mmeet
      rw [if_pos z] at hm
      by_cases y : mold μ p i 1 = true
      · rw [if_pos y] at hm; cases hm
      · rw [if_neg y]
    have e2 : (mwrites p i μ).2 = mcopy i (15 + 15 * p + i) (mup (mup (mabsk (mcf μ p i 1) 6 μ) 5 (15 * p + i) 1) 7 i 1) := by
      unfold mwrites
      rw [if_pos z, e1]; rfl
    obtain ⟨k1, k2⟩ := kIn_meet (i := i) (w := 1) h
    have c5 : mabsk (mcf μ p i 1) 6 μ 5 (15 * p + i) = 0 := by
      have e15 : (15 * p + i) / 15 = p := by omega
      have sp : mcf μ p i 1 p = false := mcf_f (Or.inl rfl)
      simp [mabsk, e15, sp, z]
    have c6 : ∀ d, d < 15 → mabsk (mcf μ p i 1) 6 μ 6 (15 * p + d) = μ 6 (15 * p + d) ∧ mabsk (mcf μ p i 1) 6 μ 5 (15 * p + d) = μ 5 (15 * p + d) := fun d hd => by
      have e15 : (15 * p + d) / 15 = p := by omega
      have sp : mcf μ p i 1 p = false := mcf_f (Or.inl rfl)
      simp [mabsk, e15, sp]
    have c0 : mabsk (mcf μ p i 1) 6 μ 0 = μ 0 := mabsk_k rfl
    have ck := fun a (ha : mkeep a = true) => mabsk_k (S := mcf μ p i 1) (k := 6) (μ := μ) ha
    have hno : ∀ q, q < 6 → q ≠ p → mabsk (mcf μ p i 1) 6 μ 9 q = 1 → ¬ mabsk (mcf μ p i 1) 6 μ 5 (15 * q + i) = 1 ∧ ¬ mabsk (mcf μ p i 1) 6 μ 6 (15 * q + i) = 1 := fun q hq hqp g => by
      have := mcf_2 (μ := μ) (p := p) (w := 1) hq hi
      refine ⟨fun w => ?_, fun w => ?_⟩
      · have t := mcf_t (μ := mabsk (mcf μ p i 1) 6 μ) (p := p) (i := i) (w := 1) hqp g (Or.inl w)
        rw [t] at this; cases this
      · have t := mcf_t (μ := mabsk (mcf μ p i 1) 6 μ) (p := p) (i := i) (w := 1) hqp g (Or.inr ⟨rfl, w⟩)
        rw [t] at this; cases this
    have hv0 : ¬ μ 0 i = 0 := by unfold mkd at hv; rw [mof_n z] at hv; exact hv
    obtain ⟨l1, l2, l3, l4, l5, l6, l7, l8⟩ := k1
    have hK := kInv_write hp hi l5 l4 l2.1 l2.2.2.1 l1 c5 hno (by rw [c0]; exact hv0) (fun y => mgr_c (fun a ha => ck a (mkp (by omega))) (fun d hd w => by rw [(c6 d hd).2]; exact w) (fun d hd w => by rw [(c6 d hd).1]; exact w) y (hg y)) (fun y w => by
      rw [(c6 i hi).1]
      refine hs y ?_
      unfold mkd
      rw [mof_n z, ← c0]; exact w)
    rw [← e2] at hK
    have e : ∀ a, 5 < a → a ≠ 7 → (mwrites p i μ).2 a = mabsk (mcf μ p i 1) 6 μ a := fun a h1 h2 => by
      rw [e2]; funext j
      rw [mcopy_e a j (by omega) (by omega), mup_other _ _ _ h2, mup_other _ _ _ (by omega)]
    have e5 : ∀ j, (mwrites p i μ).2 5 j = if j = 15 * p + i then 1 else mabsk (mcf μ p i 1) 6 μ 5 j := fun j => by
      rw [e2, mcopy_e 5 j (by omega) (by omega), mup_other _ _ _ (by omega)]
      simp only [mup]; simp
    have e02 : ∀ s, (mwrites p i μ).2 2 s = mabsk (mcf μ p i 1) 6 μ 2 s ∨ (mwrites p i μ).2 2 s = mabsk (mcf μ p i 1) 6 μ 2 i := fun s => by
      rw [e2]
      by_cases y : s = 15 + 15 * p + i
      · subst y
        rw [mcopy_a (by omega), mup_other _ _ _ (by omega), mup_other _ _ _ (by omega)]; exact Or.inr rfl
      · rw [mcopy_e 2 s (by omega) (by omega), mup_other _ _ _ (by omega), mup_other _ _ _ (by omega)]; exact Or.inl rfl
    have ec : ∀ d, d < 15 → csame (mabsk (mcf μ p i 1) 6 μ) (mwrites p i μ).2 d d := fun d hd => by
      rw [e2]
      refine ⟨fun a ha => ?_, fun a k ha hk => ?_⟩
      · rw [mcopy_e a d (by omega) (by omega), mup_other _ _ _ (by omega), mup_other _ _ _ (by omega)]
      · rw [mcopy_e a _ (by omega) (by omega), mup_other _ _ _ (by omega), mup_other _ _ _ (by omega)]
    generalize (mwrites p i μ).2 = ν at *
    generalize mabsk (mcf μ p i 1) 6 μ = μ1 at *
    refine ⟨⟨hK, hIw, fun s hs => ?_, fun j => ?_, ?_⟩, by rw [e5, if_pos rfl], fun j hj => ?_⟩
    · have y1 := l3 s hs
      have y2 := l3 i (by omega)
      rcases e02 s with y | y <;> rw [y] <;> omega
    · have := l4 j
      rw [e 6 (by omega) (by omega), e 8 (by omega) (by omega), e 9 (by omega) (by omega), e 10 (by omega) (by omega), e5]
      refine ⟨?_, this.2⟩
      split
      · exact Or.inr rfl
      · exact this.1
    · rw [e 9 (by omega) (by omega), e 11 (by omega) (by omega), e 12 (by omega) (by omega)]
      exact ⟨l5, l6, l7, l8⟩
    · have hk9 := (hvw j (by have := hj.2.1; omega)).1 0 (by omega)
      obtain ⟨a, b, c⟩ := k2 j hj
      refine ⟨?_, b, ?_⟩
      · have r8 : mR8 μ1 := fun c hc => (l2.1.1 c hc).2.2.2.1
        unfold mgr at a ⊢
        rw [e 20 (by omega) (by omega), e 6 (by omega) (by omega), (ec j (by omega)).1 0 (by omega)]
        rcases a with y | y | ⟨y1, y2⟩ | ⟨d, hd, y1, y2⟩
        · exact Or.inl y
        · exact Or.inr (Or.inl y)
        · refine Or.inr (Or.inr (Or.inl ⟨y1, ?_⟩))
          rw [e5]; split
          · rfl
          · exact y2
        · exact Or.inr (Or.inr (Or.inr ⟨d, hd, y1, by rw [men_c (ec d (by omega)) (r8 d (by omega))]; exact y2⟩))
      · have := hj.2.2
        unfold mkd at this ⊢
        rw [hk9]; exact this
  · have e2 : (mwrites p i μ).2 = μ := by
      unfold mwrites
      rw [if_neg (by omega)]
    rw [e2]
    exact ⟨kIn_le h (by omega), z, fun j hj => hj⟩
theorem kJ_n {p : Nat} (hp : p < 6) : kJ p (kJn p) := by
  refine ⟨fun c μ h hc => kNeed_of hp h.1 hc, fun c μ h h0 h1 hm => ?_, fun c μ v h hv => ?_⟩
  · obtain ⟨k1, k2⟩ := kIn_reads hp h.1 (h.2 h0) hm
    refine ⟨k1, fun _ => ?_⟩
    have e29 : (mreads p (μ 29 0).toNat μ).2 29 = μ 29 := mreads_k rfl
    rw [e29]
    exact k2 _ (h.2 h0)
  · refine ⟨kIn_up (by omega) h.1, fun h0 => ?_⟩
    rw [mup_ss] at h0 ⊢
    refine rch_up (by omega) ?_
    obtain ⟨hK, hI, -, hB, g, -⟩ := h.1
    obtain ⟨p1, p2, p3, p4, p5, p6, p7, p8, p9⟩ := ((hK.2.2.1 p hp).1 g).1
    rcases hv with hv | ⟨hd, f0, f1, hs, nm, hv⟩
    · have : v = 0 := by omega
      subst this
      exact ⟨Or.inl rfl, by decide, by unfold mkd; show ¬ μ 0 (mof μ p 0) = 0; omega⟩
    · subst hv
      have hf : (μ 29 0).toNat < 12 := by omega
      have hl := mlook_r (n := nm) hp (show (μ 29 0).toNat < 15 by omega) hI.1
      generalize (μ 29 0).toNat = f at *
      have hd : μ 0 (mof μ p f) = 2 := hd
      obtain ⟨k, hk1, hk2⟩ : ∃ k : Nat, (k : Int) < μ 1 (mof μ p f) ∧ μ 4 (8 * mof μ p f + k) = mlook μ p f nm := by
        have key : ∀ m k, mfind μ (mof μ p f) nm k m ≠ -1 → ∃ j, k ≤ j ∧ j < k + m ∧ μ 4 (8 * mof μ p f + j) = mfind μ (mof μ p f) nm k m := by
          intro m
          induction m with
          | zero => intro k h; exact absurd rfl h
          | succ m ih =>
            intro k h
            unfold mfind at h ⊢
            by_cases z : μ 3 (8 * mof μ p f + k) = nm
            · rw [if_pos z]; exact ⟨k, by omega, by omega, rfl⟩
            · rw [if_neg z] at h ⊢
              obtain ⟨j, j1, j2, j3⟩ := ih (k + 1) h
              exact ⟨j, by omega, by omega, j3⟩
        obtain ⟨j, -, j2, j3⟩ := key _ 0 (show mfind μ (mof μ p f) nm 0 (μ 1 (mof μ p f)).toNat ≠ -1 by show mlook μ p f nm ≠ -1; omega)
        exact ⟨j, by omega, j3⟩
      have hv2 : mlook μ p f nm = ((mlook μ p f nm).toNat : Int) := by omega
      rw [hv2] at hk2
      have hm := men_pos hd hk1 hk2
      have hc := mcap_k (mbal_nm p1 hf (show (mlook μ p f nm).toNat < 12 by omega) hm)
      refine ⟨?_, by omega, by unfold mkd; omega⟩
      rcases (hB (15 * p + f)).1 with z | z
      · rw [mof_n z] at hm
        exact Or.inr (Or.inr (Or.inr ⟨f, hf, hs, hm⟩))
      · rw [mof_w (by omega)] at hm
        exact p2 _ (by omega) (Or.inr (Or.inr ⟨f, hf, z, hm⟩))
