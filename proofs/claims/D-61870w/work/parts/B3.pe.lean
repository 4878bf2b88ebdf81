/-! the plain law (14): a call goes wrong -/
/-- the same but for copies that nobody has -/
def lq (p : Nat) (μ ν : mS) : Prop := (∀ a, 5 ≤ a → a < 26 → a ≠ 7 → ν a = μ a) ∧ (∀ c, c < 105 → ¬ (15 + 15 * p ≤ c ∧ c < 30 + 15 * p ∧ μ 5 (c - 15) = 0) → csame μ ν c c)
theorem lq_c {p : Nat} {μ ν : mS} (h : lq p μ ν) {c : Nat} (hc : c < 15) : csame μ ν c c := h.2 c (by omega) (by omega)
theorem lq_eqP {p q : Nat} {μ ν : mS} (hq : q < 6) (h : lq p μ ν) : eqP μ ν q := by
  refine ⟨fun c hc => lq_c h hc, fun i hi => ⟨?_, by rw [h.1 5 (by omega) (by omega) (by omega)], by rw [h.1 6 (by omega) (by omega) (by omega)]⟩, fun d _ => ⟨by rw [h.1 18 (by omega) (by omega) (by omega)], by rw [h.1 20 (by omega) (by omega) (by omega)]⟩⟩
  by_cases z : μ 5 (15 * q + i) = 0
  · exact Or.inl z
  · exact Or.inr (h.2 _ (by omega) (fun y => z (by rw [show 15 * q + i = 15 + 15 * q + i - 15 by omega]; exact y.2.2)))
theorem kInv_lq {p : Nat} {μ ν : mS} (hr : mRs μ) (hx : mRx μ) (h : kInv μ) (hl : lq p μ ν) : kInv ν := by
  obtain ⟨hC, hI, hPP, hAA, hN, hT⟩ := h
  have r8 : mR8 μ := fun c hc => (hr.1 c hc).2.2.2.1
  have e := hl.1
  have ec : ∀ c, c < 15 → csame μ ν c c := fun c hc => lq_c hl hc
  refine ⟨iC_c r8 hC ec, iS_c hI ec (e 8 (by omega) (by omega) (by omega)) (fun x _ => by unfold sol; rw [e 9 (by omega) (by omega) (by omega), e 18 (by omega) (by omega) (by omega), e 20 (by omega) (by omega) (by omega)]), fun q hq => ?_, fun a b ha hb hab ga gb => ?_, ?_, fun q hq gq => ?_⟩
  · rw [e 9 (by omega) (by omega) (by omega), e 12 (by omega) (by omega) (by omega), e 23 (by omega) (by omega) (by omega)]
    refine ⟨fun y => ⟨iP_c hq (lq_eqP hq hl) r8 hx ((hPP q hq).1 y).1, ((hPP q hq).1 y).2⟩, fun y => ?_⟩
    obtain ⟨⟨z1, z2⟩, z3, z4⟩ := (hPP q hq).2 y
    refine ⟨⟨fun s hs => by rw [e 5 (by omega) (by omega) (by omega), e 6 (by omega) (by omega) (by omega)]; exact z1 s hs, by rw [e 17 (by omega) (by omega) (by omega)]; exact z2⟩, by rw [e 11 (by omega) (by omega) (by omega)]; exact z3, fun d hd => ?_⟩
    rw [e 18 (by omega) (by omega) (by omega)]
    have := (hx (4 * q + d) (by omega)).1
    exact ids_c (fun i hi => (ec i hi).1 0 (by omega)) (by omega) (z4 d hd)
  · rw [e 9 (by omega) (by omega) (by omega)] at ga gb
    have := hAA a b ha hb hab ga gb
    unfold iA at this ⊢
    rw [e 5 (by omega) (by omega) (by omega), e 6 (by omega) (by omega) (by omega), e 12 (by omega) (by omega) (by omega)]
    exact this
  · unfold kNt at hN ⊢
    rw [e 8 (by omega) (by omega) (by omega), e 11 (by omega) (by omega) (by omega), e 10 (by omega) (by omega) (by omega), e 14 (by omega) (by omega) (by omega), e 18 (by omega) (by omega) (by omega)]
    exact hN
  · rw [e 9 (by omega) (by omega) (by omega)] at gq
    rw [e 8 (by omega) (by omega) (by omega)]
    exact hT q hq gq
theorem msweep_id {μ : mS} (h : iS μ) (h11 : ∀ q, q < 6 → μ 9 q = 1 → 0 < μ 11 q) : msweep μ = μ := by
  have g : ∀ i, i < 15 → mgone μ i = false := fun i hi => by
    by_cases hk : μ 0 i = 3 ∨ (μ 0 i = 1 ∧ μ 2 i = 0)
    · obtain ⟨x, hx, h1, h2⟩ := h i hi hk
      refine mgone_n (mnm_iff.mpr ⟨x, hx, ?_⟩)
      unfold sol at h2
      by_cases z : μ 9 (x / 4) = 1
      · rw [if_pos z] at h2; exact Or.inr ⟨h11 _ (by omega) z, h2⟩
      · rw [if_neg z] at h2; exact Or.inl ⟨h1, h2⟩
    · exact mgone_k hk
  funext a j
  by_cases ha : a = 0
  · subst ha
    rw [msweep_0]
    by_cases z : 1 ≤ j ∧ j < 15 ∧ mgone μ j = true
    · rw [g j z.2.1] at z; exact absurd z.2.2 (by decide)
    · rw [if_neg z]
  · rw [msweep_a ha]
section KG
variable {G : gG} {n m n' m' fr rc rs : Nat} {A A' : kA} {X X' : kX} {σ σ' σ0 σ2 : gS} {μ μ' ν : mS} {Q : gO → gS → Prop}
theorem kSt_lq {p : Nat} (hS : kSt G n m A X σ μ) (hr : mRs μ) (hl : lq p μ ν) : kSt G n m (arng A) X σ ν := by
  have hS0 := kSt_rg hS
  have e := hl.1
  have r8 : ∀ s, s < 105 → μ 1 s ≤ 8 := fun c hc => (hr.1 c hc).2.2.2.1
  obtain ⟨c1, c2, c3, c4, c5, c6⟩ := hS0.2.1
  have hlt : ∀ s, arng A 23 s = 1 → s < 105 := fun s hs => by
    rcases Nat.lt_or_ge s 105 with q | q
    · exact q
    · exact absurd hs (kRg_arng.2.2.1 s q)
  have cl : ∀ s, arng A 23 s = 1 → csame μ ν s s := fun s hs => by
    have h1 := (c3 s (hlt s hs)).mp hs
    refine hl.2 s (hlt s hs) (fun y => ?_)
    have := (h1.2 (by omega)).2
    omega
  have cq : ∀ q s, q < 6 → s < 15 → μ 5 (15 * q + s) = 1 → ν 0 (15 + 15 * q + s) = μ 0 (15 + 15 * q + s) := fun q s hq hs w => (hl.2 (15 + 15 * q + s) (by omega) (fun y => by rw [show 15 + 15 * q + s - 15 = 15 * q + s by omega] at y; omega)).1 0 (by omega)
  have k0 : ∀ s, s < 15 → ν 0 s = μ 0 s := fun s hs => (lq_c hl hs).1 0 (by omega)
  refine ⟨ksub hS0.1 (fun k i h7 hli => ⟨hli, rfl, fun j => ?_⟩) rfl ?_ hS0.1.2.2.2.2.1, ?_, hS.2.2⟩
  · rcases k with _ | _ | _ | _ | _ | _ | _ | k
    · rcases i with _ | i
      · rcases j with _ | _ | _ | _ | j
        · simp only [kcell, kc0, e 24 (by omega) (by omega) (by omega), e 25 (by omega) (by omega) (by omega), e 22 (by omega) (by omega) (by omega)]
        · refine congrArg (fun f => some (Sum.inr (4, 15, Sum.inr (Sum.inl f)))) (funext fun s => ?_)
          by_cases z : s < 15
          · rw [k0 s z]
          · rw [if_neg (fun y => z y.1), if_neg (fun y => z y.1)]
        · simp only [kcell, kc0, e 8 (by omega) (by omega) (by omega)]
        · rfl
        · rfl
      · rfl
    · simp only [kcell]; unfold kc1; rw [e 10 (by omega) (by omega) (by omega), e 11 (by omega) (by omega) (by omega), e 14 (by omega) (by omega) (by omega), e 18 (by omega) (by omega) (by omega)]
    · have hi : i < 6 := by
        rcases Nat.lt_or_ge i 6 with q | q
        · exact q
        · exact absurd hli (kRg_arng.2.1 i q).2
      have f1 : (fun s => if s < 15 ∧ μ 5 (15 * i + s) = 1 ∧ ν 0 (15 + 15 * i + s) ≠ 0 then some (arng A 3 (15 + 15 * i + s)) else none) = fun s => if s < 15 ∧ μ 5 (15 * i + s) = 1 ∧ μ 0 (15 + 15 * i + s) ≠ 0 then some (arng A 3 (15 + 15 * i + s)) else none := funext fun s => by
        by_cases z : s < 15 ∧ μ 5 (15 * i + s) = 1
        · rw [cq i s hi z.1 z.2]
        · rw [if_neg (fun y => z ⟨y.1, y.2.1⟩), if_neg (fun y => z ⟨y.1, y.2.1⟩)]
      have f3 : (fun s => if s < 15 ∧ μ 5 (15 * i + s) = 1 ∧ ν 0 (15 + 15 * i + s) = 0 then (1 : Int) else 0) = fun s => if s < 15 ∧ μ 5 (15 * i + s) = 1 ∧ μ 0 (15 + 15 * i + s) = 0 then 1 else 0 := funext fun s => by
        by_cases z : s < 15 ∧ μ 5 (15 * i + s) = 1
        · rw [cq i s hi z.1 z.2]
        · rw [if_neg (fun y => z ⟨y.1, y.2.1⟩), if_neg (fun y => z ⟨y.1, y.2.1⟩)]
      simp only [kcell]; unfold kc2; rw [e 5 (by omega) (by omega) (by omega), e 6 (by omega) (by omega) (by omega), e 17 (by omega) (by omega) (by omega), e 20 (by omega) (by omega) (by omega), f1, f3]
    · have h1 := cl i hli
      have h8 := r8 i (hlt i hli)
      have f2 : (fun k : Nat => if k < 8 ∧ (k : Int) < μ 1 i then ν 3 (8 * i + k) else 0) = fun k : Nat => if k < 8 ∧ (k : Int) < μ 1 i then μ 3 (8 * i + k) else 0 := funext fun k => by
        by_cases z : k < 8
        · rw [h1.2 3 k (by omega) z]
        · rw [if_neg (fun w => z w.1), if_neg (fun w => z w.1)]
      simp only [kcell]; unfold kslot kcF kcL; rw [h1.1 0 (by omega), h1.1 1 (by omega), h1.1 2 (by omega), f2]
    · simp only [kcell, e 18 (by omega) (by omega) (by omega), e 19 (by omega) (by omega) (by omega)]
    · simp only [kcell, e 20 (by omega) (by omega) (by omega), e 21 (by omega) (by omega) (by omega)]
    · rfl
    · omega
  · obtain ⟨x, y, z⟩ := hS0.1.2.2.2.1
    refine ⟨fun s k h1 h2 => ?_, fun q k h1 h2 => ?_, fun q k h1 h2 => ?_⟩
    · have hs := cl s h1
      have h8 := r8 s (hlt s h1)
      rw [hs.1 1 (by omega)] at h2
      rw [hs.1 0 (by omega), hs.2 3 k (by omega) (by omega), hs.2 4 k (by omega) (by omega)]
      exact x s k h1 h2
    · rw [e 14 (by omega) (by omega) (by omega)] at h2
      rw [e 13 (by omega) (by omega) (by omega)]; exact y q k h1 h2
    · rw [e 17 (by omega) (by omega) (by omega)] at h2
      rw [e 16 (by omega) (by omega) (by omega), e 15 (by omega) (by omega) (by omega)]; exact z q k h1 h2
  · unfold kCon
    rw [e 5 (by omega) (by omega) (by omega), e 8 (by omega) (by omega) (by omega), e 9 (by omega) (by omega) (by omega), e 11 (by omega) (by omega) (by omega), e 12 (by omega) (by omega) (by omega), e 18 (by omega) (by omega) (by omega), e 20 (by omega) (by omega) (by omega)]
    refine ⟨c1, c2, fun s hs => ?_, c4, c5, kB_c c6 (fun a ha => e a (by omega) (by omega) (by omega))⟩
    have := c3 s hs
    by_cases z : 15 ≤ s ∧ μ 5 (s - 15) = 1
    · rw [(hl.2 s hs (fun y => by omega)).1 0 (by omega)]; exact this
    · by_cases z2 : s < 15
      · rw [k0 s z2]; exact this
      · rw [this]
        constructor
        · intro y; exact absurd ⟨by omega, (y.2 (by omega)).2⟩ z
        · intro y; exact absurd ⟨by omega, (y.2 (by omega)).2⟩ z
/-- a transaction of one call is forgotten -/
theorem kSt_drop {p : Nat} (hS : kSt G n m A X σ μ) (hp : p < 6) (ht : μ 9 p = 1) (h11 : μ 11 p = 0) : kSt G n m (adead A p) X σ (mdrop p μ) := by
  refine ⟨kr_dead hS.1 h11, ?_, hS.2.2⟩
  obtain ⟨c1, c2, c3, c4, c5, c6⟩ := hS.2.1
  have v : ∀ a j, mdrop p μ a j = if (a = 5 ∨ a = 6) ∧ 15 * p ≤ j ∧ j < 15 * p + 15 then 0 else if (a = 9 ∨ a = 11 ∨ a = 17) ∧ j = p then 0 else μ a j := fun a j => rfl
  have vo : ∀ a, ¬ (a = 5 ∨ a = 6 ∨ a = 9 ∨ a = 11 ∨ a = 17) → mdrop p μ a = μ a := fun a ha => funext fun j => by rw [v, if_neg (by omega), if_neg (by omega)]
  have v9 : ∀ a j, a = 9 ∨ a = 11 → mdrop p μ a j = if j = p then 0 else μ a j := fun a j ha => by
    rw [v, if_neg (by omega)]
    by_cases z : j = p
    · rw [if_pos (by omega), if_pos z]
    · rw [if_neg (by omega), if_neg z]
  have v5 : ∀ a j, a = 5 ∨ a = 6 → mdrop p μ a j = if 15 * p ≤ j ∧ j < 15 * p + 15 then 0 else μ a j := fun a j ha => by
    rw [v]
    by_cases z : 15 * p ≤ j ∧ j < 15 * p + 15
    · rw [if_pos (by omega), if_pos z]
    · rw [if_neg (by omega), if_neg (by omega), if_neg z]
  have o : ∀ k, ¬ (k = 22 ∨ k = 23 ∨ k = 25 ∨ k = 19) → adead A p k = A k := fun k hk => by funext b; simp only [adead]; grind
  have d22 : ∀ j, adead A p 22 j = if j = p then 0 else A 22 j := fun j => by simp only [adead]; grind
  have d25 : ∀ j, adead A p 25 j = if j / 4 = p then 0 else A 25 j := fun j => by simp only [adead]; grind
  have d19 : ∀ j, adead A p 19 j = if j = p then 1 else A 19 j := fun j => by simp only [adead]; grind
  have d23 : ∀ j, adead A p 23 j = if 15 + 15 * p ≤ j ∧ j < 30 + 15 * p then 0 else A 23 j := fun j => by simp only [adead]; grind
  have n9 : ¬ A 9 p = 1 := fun y => by have := (c2 p hp).2.2.1.mp y; omega
  refine ⟨by rw [o 20 (by omega)]; exact c1, fun q hq => ?_, fun s hs => ?_, fun x hx => ?_, ?_, fun j => ?_⟩
  · have := c2 q hq
    rw [o 21 (by omega), d22, o 9 (by omega), d19, vo 8 (by omega), v9 9 q (by omega), v9 11 q (by omega)]
    by_cases z : q = p
    · subst z
      rw [if_pos rfl, if_pos rfl, if_pos rfl, if_pos rfl]
      simp [this.1, n9]
    · rw [if_neg z, if_neg z, if_neg z, if_neg z]; exact this
  · have := c3 s hs
    rw [d23, vo 0 (by omega), v9 9 _ (by omega), v5 5 _ (by omega)]
    by_cases z : 15 + 15 * p ≤ s ∧ s < 30 + 15 * p
    · rw [if_pos z, if_pos (show (s - 15) / 15 = p by omega)]
      simp
      omega
    · rw [if_neg z]
      by_cases z3 : 15 ≤ s
      · rw [if_neg (show ¬ (s - 15) / 15 = p by omega), if_neg (by omega)]; exact this
      · rw [this]
        exact ⟨fun h => ⟨h.1, fun q => absurd q z3⟩, fun h => ⟨h.1, fun q => absurd q z3⟩⟩
  · have := c4 x hx
    rw [o 24 (by omega), d25, vo 8 (by omega), vo 18 (by omega), vo 20 (by omega), v9 9 _ (by omega)]
    by_cases z : x / 4 = p
    · rw [if_pos z, if_pos z]; exact ⟨this.1, by simp⟩
    · rw [if_neg z, if_neg z]; exact this
  · obtain ⟨t1, t2, t3, t4, t5⟩ := c5
    rw [o 18 (by omega), o 26 (by omega), o 11 (by omega), vo 12 (by omega)]
    refine ⟨t1, t2, fun k hk => ?_, fun q hq h => ?_, t5⟩
    · have := t3 k hk
      rw [v9 11 _ (by omega), if_neg (by intro y; rw [y] at this; omega)]; exact this
    · rw [v9 11 _ (by omega)] at h
      have e : q ≠ p := by intro e; rw [if_pos e] at h; omega
      rw [if_neg e] at h
      exact t4 q hq h
  · have := c6 j
    rw [v5 5 j (by omega), v5 6 j (by omega), vo 8 (by omega), v9 9 j (by omega), vo 10 (by omega)]
    refine ⟨?_, ?_, this.2.2.1, ?_, this.2.2.2.2⟩ <;> split <;> first | omega | (first | exact this.1 | exact this.2.1 | exact this.2.2.2.1)
end KG
