/-! the kernel's public members (19): begin -/
section KG
variable {G : gG} {n m n' m' fr rc rs : Nat} {A A' A0 : kA} {X X' : kX} {σ σ' σ0 σ2 : gS} {μ μ' ν : mS} {Q Q' : gO → gS → Prop}
/-- the list of transactions is one longer -/
def atl (A : kA) (p : Nat) : kA := fun b j => if b = 10 ∧ j = 0 then A 10 0 + 1 else if b = 18 ∧ j = 0 then A 18 0 + 1 else if b = 11 ∧ j = A 18 0 then p else A b j
theorem atl_o {p k : Nat} (h : ¬ (k = 10 ∨ k = 18 ∨ k = 11)) : atl A p k = A k := by funext j; unfold atl; rw [if_neg (by omega), if_neg (by omega), if_neg (by omega)]
theorem kr_tladd (h : kRep G n A X σ μ) (hl : A 20 0 = 1) (hl2 : A 26 0 = 1) {p : Nat} {e1 e2 : gE} (he1 : e1 = .inr (3, 10, .inr (.inl (va_up (fun k => if k < A 18 0 then some (A 2 (A 11 k)) else none) (A 18 0) (some (A 2 p)))))) (he2 : e2 = .inl (10, [vi ((A 10 0 : Nat) + 1 : Int), vr (A 6 0), vi ((A 18 0 : Nat) + 1 : Int)])) : kRep G (n + 1) (atl A p) X (gset (gset σ.1 (A 6 0) e1) (A 0 0 + 3) e2, σ.2) μ := by
  subst he1; subst he2
  refine kset2 (A' := atl A p) h 6 0 0 hl2 rfl 0 0 3 hl rfl (by omega) (fun k hk => ?_) ?_ ?_ ?_ ?_ ?_
  · exact atl_o (by omega)
  · refine congrArg (fun f => some (Sum.inr (3, 10, Sum.inr (Sum.inl f)))) (funext fun k => ?_)
    simp only [atl, va_up]
    grind
  · simp only [kcell, kc0, atl]
    simp [hl2]
  · intro k i' j hk hl hne hne2
    exact kcell_A (fun a ha => atl_o (by omega)) hne2 hne
  · exact h.2.2.2.1
  · intro j
    have := h.2.2.2.2.1 j
    have := h.2.2.2.2.1 0
    simp only [atl]
    grind
/-- the first one -/
def atl0 (A : kA) (p a : Nat) : kA := fun b j => if b = 26 ∧ j = 0 then 1 else if b = 6 ∧ j = 0 then a else if b = 30 ∧ j = a then a else atl A p b j
theorem atl0_o {p a k : Nat} (h : ¬ (k = 10 ∨ k = 18 ∨ k = 11 ∨ k = 26 ∨ k = 6 ∨ k = 30)) : atl0 A p a k = A k := by funext j; unfold atl0; rw [if_neg (by omega), if_neg (by omega), if_neg (by omega), atl_o (by omega)]
theorem kr_tladd0 (h : kRep G n A X σ μ) {p a : Nat} (hl : A 20 0 = 1) (h18 : A 18 0 = 0) (ha : gBase G ≤ a) (hb : ∀ k i, k < 7 → A (20 + k) i = 1 → A k i < a) (hc0 : ∀ k i j e, A (20 + k) i = 1 → kcell G A μ k i j = some e → A k i + j < a) (hXa : X a = none) (g0 : σ.1 a = some (.inr (3, 10, .inr (.inl (va_up (fun _ => none) 0 (some (A 2 p)))))))
    {e2 : gE} (he2 : e2 = .inl (10, [vi ((A 10 0 : Nat) + 1 : Int), vr a, vi 1])) : kRep G (n + 1) (atl0 A p a) X (gset σ.1 (A 0 0 + 3) e2, σ.2) μ := by
  have r := ch1_ok (e' := e2) h (k0 := 0) (i0 := 0) (j0 := 3) hl rfl
  have hh := h.2.1 0 0 3 _ hl rfl
  have c1 := hc0 0 0 3 _ hl rfl
  have o := fun k (hk : ¬ (k = 10 ∨ k = 18 ∨ k = 11 ∨ k = 26 ∨ k = 6 ∨ k = 30)) => atl0_o (A := A) (p := p) (a := a) hk
  have a26 : ∀ i, i ≠ 0 → atl0 A p a 26 i = A 26 i := fun i hi => by simp only [atl0, atl]; grind
  have a6 : ∀ i, atl0 A p a 6 i = if i = 0 then a else A 6 i := fun i => by simp only [atl0, atl]; grind
  have a30 : ∀ b, b < a → atl0 A p a 30 b = A 30 b := fun b hb => by simp only [atl0, atl]; grind
  have a30a : atl0 A p a 30 a = a := by simp [atl0]
  have a10 : atl0 A p a 10 0 = A 10 0 + 1 := by simp [atl0, atl]
  have a18 : atl0 A p a 18 0 = 1 := by simp [atl0, atl, h18]
  have a11 : atl0 A p a 11 0 = p := by simp [atl0, atl, h18]
  have a260 : atl0 A p a 26 0 = 1 := by simp [atl0]
  refine kgen h a (fun k i => k = 6 ∧ i = 0) _ r.1 r.2.2 ?_ ?_ a30 hc0 hb ha ?_ r.2.1 ?_ ?_
  · intro k i h7 hli hn
    have l1 : A (20 + k) i = 1 := by
      by_cases w : k = 6
      · subst w; rw [a26 i (by omega)] at hli; exact hli
      · rw [o (20 + k) (by omega)] at hli; exact hli
    refine ⟨l1, ?_, fun j z hz => ?_⟩
    · by_cases w : k = 6
      · subst w; rw [a6, if_neg (by omega)]
      · rw [o k (by omega)]
    · unfold ch1
      by_cases q2 : k = 0 ∧ i = 0 ∧ j = 3
      · obtain ⟨rfl, rfl, rfl⟩ := q2
        refine ⟨_, rfl, ?_⟩
        rw [if_pos ⟨rfl, rfl, rfl⟩, he2]
        refine Option.some.inj (Eq.trans ?_ hz)
        show _ = some (Sum.inl (10, [vi (atl0 A p a 10 0), vr (if atl0 A p a 26 0 = 1 then atl0 A p a 6 0 else gDE G), vi (atl0 A p a 18 0)]))
        rw [a10, a260, a6, a18, if_pos rfl, if_pos rfl]; rfl
      · refine ⟨z, ?_, by rw [if_neg q2]; rfl⟩
        rw [← hz]
        rcases k with _ | _ | _ | _ | _ | _ | _ | k
        · rcases i with _ | i
          · rcases j with _ | _ | _ | _ | j
            · simp only [kcell, kc0, o 0 (by omega)]
            · simp only [kcell, kc0, o 3 (by omega)]
            · simp only [kcell, kc0, o 1 (by omega)]
            · exact absurd ⟨rfl, rfl, rfl⟩ q2
            · rfl
          · rfl
        · simp only [kcell]; unfold kc1; rw [o 1 (by omega), o 2 (by omega), o 4 (by omega), o 9 (by omega), o 13 (by omega), o 15 (by omega)]
        · simp only [kcell]; unfold kc2; rw [o 1 (by omega), o 2 (by omega), o 3 (by omega), o 5 (by omega), o 14 (by omega), o 16 (by omega), o 19 (by omega)]
        · simp only [kcell]; unfold kslot kcF kcL; rw [o 3 (by omega), o 12 (by omega), o 17 (by omega)]
        · rfl
        · rfl
        · rcases i with _ | i
          · exact absurd ⟨rfl, rfl⟩ hn
          · rfl
        · omega
  · rintro k i h7 ⟨rfl, rfl⟩
    rw [a6, if_pos rfl]
    refine ⟨Nat.le_refl _, fun j z hz => ?_⟩
    rcases j with _ | j
    · refine ⟨?_, a30a, hXa⟩
      show gset σ.1 (A 0 0 + 3) e2 a = _
      rw [gset_ne (by omega), ← hz, g0]
      refine congrArg (fun f => some (Sum.inr (3, 10, Sum.inr (Sum.inl f)))) (funext fun s => ?_)
      rw [a18, o 2 (by omega)]
      simp only [va_up]
      by_cases w : s = 0
      · subst w; rw [a11]; rfl
      · rw [if_neg w, if_neg (by omega)]
    · cases hz
  · rintro k i k' i' ⟨rfl, rfl⟩ ⟨rfl, rfl⟩ -
    exact ⟨rfl, rfl⟩
  · exact kimm_A (kimm_set h.2.2.2.1 hh.1 rfl) (fun b hb => o b (by omega))
  · intro i
    have := h.2.2.2.2.1 i
    rw [o 15 (by omega), o 16 (by omega), o 17 (by omega)]
    refine ⟨?_, by omega, by omega, by omega⟩
    simp only [atl0, atl]
    grind
/-- one is deeper, or begins -/
theorem kAll_dp {p : Nat} {c v : Int} (hIn : kIn p c μ) (hp : p < 6) (hv : 0 < v ∧ v ≤ 20) : kAll c (mup μ 11 p v) := by
  obtain ⟨i1, i3, i4, hB, g9, j6, j7, j8⟩ := hIn
  have v11 : ∀ q, mup μ 11 p v 11 q = if q = p then v else μ 11 q := fun q => by simp only [mup]; grind
  have u : ∀ a, a ≠ 11 → mup μ 11 p v a = μ a := fun a ha => mup_other _ _ _ ha
  refine ⟨⟨?_, fun q hq g => ?_⟩, ?_, fun s hs => by rw [u 2 (by omega)]; exact i4 s hs⟩
  · refine kInv_own (p := p) g9 i3.1 i3.2.2.1 i1 (fun a ha => u a (by omega)) (fun c _ _ => csame_e (fun a ha => u a (by omega))) (fun q hq hqp => ⟨fun i _ => ⟨by rw [u 5 (by omega)], by rw [u 6 (by omega)]⟩, by rw [v11, if_neg hqp], by rw [u 17 (by omega)], fun d _ => by rw [u 18 (by omega)]⟩) (iP_6 hp i3.1 (fun a ha => u a (by omega)) (fun d _ y => by rw [u 6 (by omega)]; exact y) (fun d _ y => by rw [u 6 (by omega)] at y; exact Or.inl y) ((i1.2.2.1 p hp).1 g9).1) (fun q hq hqp gq => ?_)
    have a1 := i1.2.2.2.1 p q hp hq (fun y => hqp y.symm) g9 gq
    have a2 := i1.2.2.2.1 q p hq hp hqp gq g9
    unfold iA at a1 a2 ⊢
    rw [u 5 (by omega), u 6 (by omega), u 12 (by omega)]
    exact ⟨a1, a2⟩
  · rw [u 9 (by omega)] at g
    rw [v11]
    by_cases y : q = p
    · rw [if_pos y]; exact hv.1
    · rw [if_neg y]; exact j6 q hq y g
  · refine ⟨mRs_c (u _ (by omega)) (u _ (by omega)) (u _ (by omega)) i3.1, ⟨fun q hq => ?_, by rw [u 16 (by omega)]; exact i3.2.1.2⟩, mRx_c (u _ (by omega)) (u _ (by omega)) (u _ (by omega)) (u _ (by omega)) i3.2.2.1, mRc_c (u _ (by omega)) (u _ (by omega)) (u _ (by omega)) (u _ (by omega)) i3.2.2.2⟩
    have := i3.2.1.1 q hq
    rw [u 14 (by omega), u 17 (by omega), v11]
    split <;> omega
theorem kSt_dep (hS : kSt G n m A X σ μ) {p : Nat} {v : Int} (hp : p < 6) (h8 : μ 8 p = 1) (h11 : 0 < μ 11 p) (hv : 0 < v) {e' : gE} (he : e' = .inl (2, [vr (A 1 p + 1), vr (A 1 p + 2), vr (A 2 p), vi v, vi (μ 10 p)])) : kSt G n m A X (gset σ.1 (A 1 p) e', σ.2) (mup μ 11 p v) := by
  have c2 := hS.2.1.2.1 p hp
  have h9p : A 9 p = 1 := c2.2.2.1.mpr h11
  have hR3 := kr_P0 hS.1 (p := p) (v := 1) (d := v) (t := μ 10 p) (e' := e') (c2.1.mpr h8) he
  have a9 : aup A 9 p 1 = A := by
    funext b j; simp only [aup]; split
    · rename_i y; rw [y.1, y.2]; exact h9p.symm
    · rfl
  rw [mup_id (k := 10) (by rw [mup_other _ _ _ (by omega)]), a9] at hR3
  have v11 : ∀ q, mup μ 11 p v 11 q = if q = p then v else μ 11 q := fun q => by simp only [mup]; grind
  have u : ∀ a, a ≠ 11 → mup μ 11 p v a = μ a := fun a ha => mup_other _ _ _ ha
  refine ⟨hR3, ?_, hS.2.2⟩
  obtain ⟨d1, d2, d3, d4, d5, d6⟩ := hS.2.1
  have pos : ∀ q, (0 < mup μ 11 p v 11 q ↔ 0 < μ 11 q) := fun q => by
    rw [v11]
    by_cases y : q = p
    · rw [if_pos y, y]; omega
    · rw [if_neg y]
  refine ⟨d1, fun q hq => ?_, ?_, ?_, ?_, kB_c d6 (fun a ha => u a (by omega))⟩
  · have := d2 q hq
    rw [u 8 (by omega), u 9 (by omega)]
    refine ⟨this.1, this.2.1, by rw [this.2.2.1, pos], fun y => this.2.2.2.1 ((pos q).mp y), this.2.2.2.2.1, ?_⟩
    rw [this.2.2.2.2.2]
    by_cases y : 0 < μ 11 q
    · rw [if_pos y, if_pos ((pos q).mpr y)]
    · rw [if_neg y, if_neg (fun w => y ((pos q).mp w))]
  · rw [u 0 (by omega), u 9 (by omega), u 5 (by omega)]; exact d3
  · rw [u 8 (by omega), u 18 (by omega), u 9 (by omega), u 20 (by omega)]; exact d4
  · obtain ⟨t1, t2, t3, t4, t5⟩ := d5
    rw [u 12 (by omega)]
    exact ⟨t1, t2, fun k hk => ⟨(t3 k hk).1, (pos _).mpr (t3 k hk).2⟩, fun q hq y => t4 q hq ((pos q).mp y), t5⟩
/-- what holds when one has begun -/
theorem kCon_beg {A5 : kA} {p a : Nat} {y : Nat → Nat} (hC : kCon A μ) (hp : p < 6) (h8 : μ 8 p = 1) (h9 : μ 9 p = 0) (h11 : ¬ 0 < μ 11 p) (z5 : ∀ s, s < 15 → μ 5 (15 * p + s) = 0) (hage : ∀ q, q < 6 → μ 9 q = 1 → μ 12 q ≤ μ 23 0)
    (e : ∀ k, ¬ (k = 19 ∨ k = 9 ∨ k = 10 ∨ k = 11 ∨ k = 18 ∨ k = 26 ∨ k = 6 ∨ k = 30) → A5 k = anewT A μ p a 1 y k) (e19 : ∀ q, A5 19 q = if q = p then 0 else A 19 q) (e9 : ∀ q, A5 9 q = if q = p then 1 else A 9 q) (e18 : A5 18 0 = A 18 0 + 1) (e26 : A5 26 0 = 1) (e11 : ∀ k, A5 11 k = if k = A 18 0 then p else A 11 k) : kCon A5 (mup (menter p μ) 11 p 1) := by
  obtain ⟨c1, c2, c3, c4, c5, c6⟩ := kCon_newT (a := a) (y := y) hC hp h8 h9 h11 z5
  obtain ⟨t1, t2, t3, t4, t5⟩ := hC.2.2.2.2.1
  have hcn := kTl_cnt hC
  have v11 : ∀ q, mup (menter p μ) 11 p 1 11 q = if q = p then 1 else μ 11 q := fun q => by
    have : menter p μ 11 = μ 11 := menter_o (by omega) (by omega)
    rw [← this]; simp only [mup]; grind
  have u : ∀ b, b ≠ 11 → mup (menter p μ) 11 p 1 b = menter p μ b := fun b hb => mup_other _ _ _ hb
  have m12 := menter_12 (p := p) h9
  have m9 := menter_9 (p := p) h9
  have m11 : menter p μ 11 = μ 11 := menter_o (by omega) (by omega)
  have cn : cnt (fun q => decide (0 < mup (menter p μ) 11 p 1 11 q)) 6 = cnt (fun q => decide (0 < μ 11 q)) 6 + (if p < 6 then 1 else 0) := by
    refine cnt_add (S := fun q => decide (0 < μ 11 q)) (q := p) (decide_eq_false h11) (fun x => ?_) 6
    rw [v11]
    by_cases z : x = p
    · rw [if_pos z, decide_eq_true z, Bool.or_true]; rfl
    · rw [if_neg z, decide_eq_false z, Bool.or_false]
  have cb := cnt_b (fun q => decide (0 < mup (menter p μ) 11 p 1 11 q)) 6
  rw [cn, hcn, if_pos hp] at cb
  have np : ∀ k, k < A 18 0 → A 11 k ≠ p := fun k hk y => by have := (t3 k hk).2; rw [y] at this; exact h11 this
  have w9 : anewT A μ p a 1 y 9 = A 9 := anewT_o (by omega)
  have w19 : ∀ q, anewT A μ p a 1 y 19 q = if q = p then 1 else A 19 q := fun q => by simp only [anewT]; grind
  unfold kCon
  rw [e 20 (by omega), e 21 (by omega), e 22 (by omega), e 23 (by omega), e 24 (by omega), e 25 (by omega), u 8 (by omega), u 9 (by omega), u 0 (by omega), u 5 (by omega), u 18 (by omega), u 20 (by omega), u 12 (by omega), e18, e26]
  refine ⟨c1, fun q hq => ?_, c3, c4, ⟨by omega, fun _ => rfl, fun k hk => ?_, fun q hq y => ?_, fun k k' hk hk' => ?_⟩, kB_c c6 (fun a ha => u a (by omega))⟩
  · have := c2 q hq
    rw [w9, w19, m11] at this
    rw [e9, e19, v11]
    by_cases z : q = p
    · rw [if_pos z, if_pos z, if_pos z]
      refine ⟨this.1, this.2.1, by simp, fun _ => ?_, this.2.2.2.2.1, by simp⟩
      rw [m9, if_pos z]
    · rw [if_neg z, if_neg z, if_neg z]
      rw [if_neg z] at this
      exact this
  · rw [e11, v11]
    by_cases z : k = A 18 0
    · rw [if_pos z, if_pos rfl]; exact ⟨hp, by omega⟩
    · rw [if_neg z, if_neg (np k (by omega))]; exact t3 k (by omega)
  · rw [v11] at y
    by_cases z : q = p
    · exact ⟨A 18 0, by omega, by rw [e11, if_pos rfl, z]⟩
    · rw [if_neg z] at y
      obtain ⟨k, k1, k2⟩ := t4 q hq y
      exact ⟨k, by omega, by rw [e11, if_neg (by omega)]; exact k2⟩
  · rw [e11, e11, m12, m12]
    have nk := np k (by omega)
    rw [if_neg (show ¬ k = A 18 0 by omega), if_neg nk]
    by_cases z : k' = A 18 0
    · rw [if_pos z, if_pos rfl]
      have g1 := t3 k (by omega)
      have := hage _ g1.1 ((hC.2.1 _ g1.1).2.2.2.1 g1.2)
      omega
    · rw [if_neg z, if_neg (np k' (by omega))]
      exact t5 k k' hk (by omega)
end KG
