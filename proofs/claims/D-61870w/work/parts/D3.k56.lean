/-! the kernel's public members (13): signal -/
section KG
variable {G : gG} {n m n' m' fr rc rs : Nat} {A A' A0 : kA} {X X' : kX} {σ σ' σ0 σ2 : gS} {μ μ' ν : mS} {Q Q' : gO → gS → Prop}
theorem kr_tsig (h : kRep G n A X σ μ) {p : Nat} (hl : A 22 p = 1) (e : ∀ b j, ¬ (b = 17 ∧ j = p) → ¬ ((b = 15 ∨ b = 16) ∧ 4 * p ≤ j ∧ j < 4 * p + 4) → μ' b j = μ b j) (eA : ∀ b j, ¬ (b = 16 ∧ j = p) → ¬ (b = 14 ∧ 4 * p ≤ j ∧ j < 4 * p + 4) → A' b j = A b j) (h4 : ∀ q, A 22 q = 1 → μ 17 q ≤ 4)
    (hent : ∀ k : Nat, (k : Int) < μ' 17 p → σ.1 (A' 14 (4 * p + k)) = some (.inl (9, [vi (μ' 16 (4 * p + k)), vi (μ' 15 (4 * p + k))]))) (hn : n ≤ n') (hmc : A' 16 p ≤ n') {e1 e2 : gE} (he2 : e2 = .inr (3, 4, .inr (.inl (fun k => if (k : Int) < μ' 17 p then some (A' 14 (4 * p + k)) else none)))) (he1 : e1 = .inl (10, [vi (A' 16 p), vr (A 2 p + 5), vi (μ' 17 p)])) : kRep G n' A' X (gset (gset σ.1 (A 2 p + 5) e2) (A 2 p + 4) e1, σ.2) μ' := by
  have ea : ∀ b, ¬ (b = 15 ∨ b = 16 ∨ b = 17) → μ' b = μ b := fun b hb => by funext j; exact e b j (by omega) (by omega)
  have aa : ∀ b, ¬ (b = 16 ∨ b = 14) → A' b = A b := fun b hb => by funext j; exact eA b j (by omega) (by omega)
  have ks : ∀ t, t ≠ p → μ' 17 t = μ 17 t ∧ A' 16 t = A 16 t ∧ ∀ k, k < 4 → (μ' 15 (4 * t + k) = μ 15 (4 * t + k) ∧ μ' 16 (4 * t + k) = μ 16 (4 * t + k)) ∧ A' 14 (4 * t + k) = A 14 (4 * t + k) := fun t ht => ⟨e 17 t (by omega) (by omega), eA 16 t (by omega) (by omega), fun k hk => ⟨⟨e 15 _ (by omega) (by omega), e 16 _ (by omega) (by omega)⟩, eA 14 _ (by omega) (by omega)⟩⟩
  refine kset2 h 2 p 5 hl rfl 2 p 4 hl rfl (by omega) (fun k hk => aa k (by omega)) (by rw [he2]; rfl) (by rw [he1, ← aa 2 (by omega)]; rfl) ?_ ?_ ?_
  · intro k i j h7 hl2 hne hne2
    rcases k with _ | _ | _ | _ | _ | _ | _ | k
    · rcases i with _ | i
      · rcases j with _ | _ | _ | _ | j
        · simp only [kcell, kc0, ea 24 (by omega), ea 25 (by omega), ea 22 (by omega), aa 0 (by omega)]
        · simp only [kcell, kc0, ea 0 (by omega), aa 3 (by omega), aa 0 (by omega)]
        · simp only [kcell, kc0, ea 8 (by omega), aa 1 (by omega)]
        · simp only [kcell, kc0, aa 10 (by omega), aa 26 (by omega), aa 6 (by omega), aa 18 (by omega)]
        · rfl
      · rfl
    · simp only [kcell]; unfold kc1; rw [ea 10 (by omega), ea 11 (by omega), ea 14 (by omega), ea 18 (by omega), aa 1 (by omega), aa 2 (by omega), aa 4 (by omega), aa 9 (by omega), aa 13 (by omega), aa 15 (by omega)]
    · by_cases z : i = p
      · subst z
        rcases j with _ | _ | _ | _ | _ | _ | _ | j
        · simp only [kcell, kc2, aa 1 (by omega), aa 2 (by omega), aa 19 (by omega)]
        · simp only [kcell, kc2, ea 0 (by omega), ea 5 (by omega), aa 3 (by omega)]
        · simp only [kcell, kc2, ea 6 (by omega)]
        · simp only [kcell, kc2, ea 0 (by omega), ea 5 (by omega)]
        · exact absurd ⟨rfl, rfl, rfl⟩ hne2
        · exact absurd ⟨rfl, rfl, rfl⟩ hne
        · simp only [kcell, kc2, ea 20 (by omega), aa 5 (by omega)]
        · rfl
      · obtain ⟨k1, k2, k3⟩ := ks i z
        have m4 := h4 i hl2
        have f1 : (fun k : Nat => if (k : Int) < μ 17 i then some (A' 14 (4 * i + k)) else none) = fun k : Nat => if (k : Int) < μ 17 i then some (A 14 (4 * i + k)) else none := funext fun k => by
          by_cases w : (k : Int) < μ 17 i
          · rw [if_pos w, if_pos w, (k3 k (by omega)).2]
          · rw [if_neg w, if_neg w]
        simp only [kcell]; unfold kc2; rw [ea 0 (by omega), ea 5 (by omega), ea 6 (by omega), ea 20 (by omega), k1, k2, f1, aa 1 (by omega), aa 2 (by omega), aa 3 (by omega), aa 5 (by omega), aa 19 (by omega)]
    · simp only [kcell]; unfold kslot kcF kcL; rw [ea 0 (by omega), ea 1 (by omega), ea 2 (by omega), ea 3 (by omega), aa 3 (by omega), aa 12 (by omega), aa 17 (by omega)]
    · simp only [kcell, ea 18 (by omega), ea 19 (by omega)]
    · simp only [kcell, ea 20 (by omega), ea 21 (by omega)]
    · simp only [kcell, aa 2 (by omega), aa 11 (by omega), aa 18 (by omega)]
    · omega
  · obtain ⟨a, b, c⟩ := h.2.2.2.1
    refine ⟨fun t k h1 h2 => ?_, fun q k h1 h2 => ?_, fun q k h1 h2 => ?_⟩
    · rw [aa 23 (by omega)] at h1
      rw [ea 1 (by omega)] at h2
      rw [ea 0 (by omega), ea 3 (by omega), ea 4 (by omega), aa 12 (by omega)]
      exact a t k h1 h2
    · rw [aa 21 (by omega)] at h1
      rw [ea 14 (by omega)] at h2
      rw [ea 13 (by omega), aa 13 (by omega)]
      exact b q k h1 h2
    · by_cases z : q = p
      · subst z; exact hent k h2
      · obtain ⟨k1, k2, k3⟩ := ks q z
        rw [k1] at h2
        rw [aa 22 (by omega)] at h1
        have m4 := h4 q h1
        have k8 := k3 k (by omega)
        rw [k8.1.1, k8.1.2, k8.2]
        exact c q k h1 h2
  · intro j
    have := h.2.2.2.2.1 j
    rw [aa 10 (by omega), aa 15 (by omega), aa 17 (by omega)]
    refine ⟨by omega, by omega, ?_, by omega⟩
    by_cases z : j = p
    · subst z; exact hmc
    · rw [(ks j z).2.1]; omega
theorem mup_v {k j q : Nat} {v : Int} : mup μ k j v k q = if q = j then v else μ k q := by
  unfold mup
  by_cases z : q = j
  · rw [if_pos ⟨rfl, z⟩, if_pos z]
  · rw [if_neg (fun y => z y.2), if_neg z]
def atsg (A : kA) (p k y : Nat) : kA := fun b j => if b = 16 ∧ j = p then A 16 p + 1 else if b = 14 ∧ j = 4 * p + k then y else A b j
def mtsg (p : Nat) (q v : Int) (μ : mS) : mS := mup (mup (mup μ 16 (4 * p + (μ 17 p).toNat) q) 17 p (μ 17 p + 1)) 15 (4 * p + (μ 17 p).toNat) v
theorem mtsg_o {p a : Nat} {q v : Int} (h : ¬ (15 ≤ a ∧ a ≤ 17)) : mtsg p q v μ a = μ a := by
  unfold mtsg; rw [mup_other _ _ _ (by omega), mup_other _ _ _ (by omega), mup_other _ _ _ (by omega)]
/-- a signal is kept until the end -/
theorem kSt_tsig (hS : kSt G n m A X σ μ) {p y : Nat} {q v : Int} (hp : p < 6) (h9 : μ 9 p = 1) (h4 : ∀ q, q < 6 → 0 ≤ μ 17 q ∧ μ 17 q ≤ 4) (hr2 : ¬ μ 17 p = 4) (hb : σ.1 y = some (.inl (9, [vi q, vi v]))) {e1 e2 : gE} (he2 : e2 = .inr (3, 4, .inr (.inl (va_up (fun k : Nat => if (k : Int) < μ 17 p then some (A 14 (4 * p + k)) else none) (μ 17 p).toNat (some y))))) (he1 : e1 = .inl (10, [vi ((A 16 p : Nat) + 1 : Int), vr (A 2 p + 5), vi (μ 17 p + 1)])) : kSt G (n + 1) m (atsg (arng A) p (μ 17 p).toNat y) X (gset (gset σ.1 (A 2 p + 5) e2) (A 2 p + 4) e1, σ.2) (mtsg p q v μ) := by
  have hS0 := kSt_rg hS
  have hr := h4 p hp
  have l1 := (hS0.2.1.2.1 p hp).2.1.mpr h9
  have g2 : arng A 2 = A 2 := arng_o (by omega)
  have g14 : arng A 14 = A 14 := arng_o (by omega)
  have g16 : arng A 16 = A 16 := arng_o (by omega)
  have hmc := (hS0.1.2.2.2.2.1 p).2.2.1
  have m17 : mtsg p q v μ 17 p = μ 17 p + 1 := by unfold mtsg; rw [mup_other _ _ _ (by omega), mup_ss]
  have m15 : ∀ k : Nat, mtsg p q v μ 15 (4 * p + k) = if k = (μ 17 p).toNat then v else μ 15 (4 * p + k) := fun k => by
    unfold mtsg
    simp only [mup]; grind
  have m16 : ∀ k : Nat, mtsg p q v μ 16 (4 * p + k) = if k = (μ 17 p).toNat then q else μ 16 (4 * p + k) := fun k => by
    unfold mtsg
    simp only [mup]; grind
  have a14 : ∀ k : Nat, atsg (arng A) p (μ 17 p).toNat y 14 (4 * p + k) = if k = (μ 17 p).toNat then y else arng A 14 (4 * p + k) := fun k => by
    simp only [atsg]; grind
  have a16 : atsg (arng A) p (μ 17 p).toNat y 16 p = arng A 16 p + 1 := by simp [atsg]
  have hR := kr_tsig (A' := atsg (arng A) p (μ 17 p).toNat y) (μ' := mtsg p q v μ) (n' := n + 1) (e1 := e1) (e2 := e2) hS0.1 l1 (fun b j h1 h2 => by unfold mtsg; simp only [mup]; grind) (fun b j h1 h2 => by simp only [atsg]; grind) (fun q hq => by
      rcases Nat.lt_or_ge q 6 with w | w
      · exact (h4 q w).2
      · exact absurd hq (kRg_arng.2.1 q w).2) (fun k hk => ?_) (by omega) (by rw [a16]; omega) ?_ ?_
  · rw [g2] at hR
    refine ⟨hR, kCon_A (kCon_c hS0.2.1 (fun a ha => ?_) (kB_c hS0.2.1.2.2.2.2.2 fun a ha => ?_)) (fun b hb => ?_), hS.2.2⟩
    · exact mtsg_o (by omega)
    · exact mtsg_o (by omega)
    · funext j; unfold atsg; rw [if_neg (by omega), if_neg (by omega)]
  · rw [m17] at hk
    rw [m15 k, m16 k, a14 k]
    by_cases w : k = (μ 17 p).toNat
    · rw [if_pos w, if_pos w, if_pos w]; exact hb
    · rw [if_neg w, if_neg w, if_neg w]; exact hS0.1.2.2.2.1.2.2 p k l1 (by omega)
  · rw [he2, m17]
    refine congrArg (fun f => Sum.inr (3, 4, Sum.inr (Sum.inl f))) (funext fun k => ?_)
    rw [a14, g14]
    simp only [va_up]
    grind
  · rw [he1, m17, a16, g16, g2]; rfl
/-- a signal is sent -/
theorem kSt_send (hS : kSt G n m A X σ μ) {p y : Nat} {v : Int} (hp : p < 6) (h8 : μ 8 p = 1) (h4 : ∀ q, q < 6 → 0 ≤ μ 14 q ∧ μ 14 q ≤ 4) (hr2 : ¬ μ 14 p = 4) (hb : gBx G σ y v) {e1 e2 : gE} (he2 : e2 = .inr (3, 4, .inr (.inl (va_up (fun k : Nat => if (k : Int) < μ 14 p then some (A 13 (4 * p + k)) else none) (μ 14 p).toNat (some y))))) (he1 : e1 = .inl (10, [vi ((A 15 p : Nat) + 1 : Int), vr (A 1 p + 3), vi (μ 14 p + 1)])) : kSt G (n + 1) m (asig (arng A) p (μ 14 p).toNat y) X (gset (gset σ.1 (A 1 p + 3) e2) (A 1 p + 2) e1, σ.2) (msend p v μ) := by
  have hS0 := kSt_rg hS
  have hr := h4 p hp
  have l1 := (hS0.2.1.2.1 p hp).1.mpr h8
  have g1 : arng A 1 = A 1 := arng_o (by omega)
  have g13 : arng A 13 = A 13 := arng_o (by omega)
  have g15 : arng A 15 = A 15 := arng_o (by omega)
  have hR := kr_send (y := y) (v := v) (e1 := e1) (e2 := e2) hS0.1 l1 h8 hr.1 (by omega) (fun q hq => by
      rcases Nat.lt_or_ge q 6 with w | w
      · exact (h4 q w).2
      · exact absurd hq (kRg_arng.2.1 q w).1) hb (by rw [g13]; exact he2) (by rw [g15, g1]; exact he1)
  rw [g1] at hR
  have o : ∀ a, ¬ (a = 13 ∨ a = 14) → msend p v μ a = μ a := fun a ha => by rw [msend_e h8 (by omega), mup_other _ _ _ (by omega), mup_other _ _ _ (by omega)]
  refine ⟨hR, kCon_A (kCon_c hS0.2.1 (fun a ha => o a (by omega)) (kB_c hS0.2.1.2.2.2.2.2 fun a ha => o a (by omega))) (fun b hb => ?_), hS.2.2⟩
  funext j; unfold asig; rw [if_neg (by omega), if_neg (by omega)]
theorem kSt_it2 (hS : kSt G n (m + 1) A X σ μ) {e1 e2 : gE} {s : Nat} (hs : s ≤ 16) : kSt G n m A X (gset (gset σ.1 σ.2.1 e1) σ.2.1 e2, σ.2.1 + 1, σ.2.2.1 - 1, σ.2.2.2 - s) μ := by
  show kSt G n m A X (gset (gset σ.1 σ.2.1 e1) σ.2.1 e2, _) μ
  rw [gset_2]
  exact kSt_new hS hs
theorem kAll_tsg {p : Nat} {c q v : Int} (hK : kAll c μ) (h9 : μ 9 p = 1) (hp : p < 6) (h4 : ¬ μ 17 p = 4) (hq : 0 ≤ q ∧ q ≤ 5) : kAll c (mtsg p q v μ) := by
  have b := hK.2.1.2.1.1 p hp
  refine kAll_s hK (fun a ha => mtsg_o (by omega)) (fun q hq => ?_) (fun q hq => ?_) (fun x hx => ?_)
  · have b := hK.2.1.2.1.1 q hq
    rw [mtsg_o (by omega)]
    exact ⟨⟨b.2.2.1, b.2.2.2.1⟩, fun y => (hK.1.1.2.2.2.2.1 q hq y).2.2.1⟩
  · have b2 := hK.2.1.2.1.1 q hq
    unfold mtsg
    rw [mup_other _ _ _ (by omega), mup_v]
    by_cases z : q = p
    · rw [if_pos z, z]
      exact ⟨by omega, fun y => absurd h9 y⟩
    · rw [if_neg z, mup_other _ _ _ (by omega)]
      exact ⟨⟨b2.2.2.2.2.1, b2.2.2.2.2.2⟩, fun y => (((hK.1.1.2.2.1 q hq).2 y).1).2⟩
  · have := hK.2.1.2.1.2 x hx
    unfold mtsg
    rw [mup_other _ _ _ (by omega), mup_other _ _ _ (by omega), mup_v]
    split
    · exact hq
    · exact this
theorem kAll_send {p : Nat} {c v : Int} (hK : kAll c μ) (hp : p < 6) (h8 : μ 8 p = 1) (h4 : ¬ μ 14 p = 4) : kAll c (msend p v μ) := by
  have b := hK.2.1.2.1.1 p hp
  have o : ∀ a, ¬ (a = 13 ∨ a = 14) → msend p v μ a = μ a := fun a ha => by rw [msend_e h8 (by omega), mup_other _ _ _ (by omega), mup_other _ _ _ (by omega)]
  refine kAll_s hK (fun a ha => o a (by omega)) (fun q hq => ?_) (fun q hq => ?_) (fun x hx => ?_)
  · have b2 := hK.2.1.2.1.1 q hq
    rw [msend_e h8 (by omega), mup_other _ _ _ (by omega), mup_v]
    by_cases z : q = p
    · rw [if_pos z, z]
      exact ⟨by omega, fun y => by omega⟩
    · rw [if_neg z]
      exact ⟨⟨b2.2.2.1, b2.2.2.2.1⟩, fun y => (hK.1.1.2.2.2.2.1 q hq y).2.2.1⟩
  · have b2 := hK.2.1.2.1.1 q hq
    rw [o 17 (by omega)]
    exact ⟨⟨b2.2.2.2.2.1, b2.2.2.2.2.2⟩, fun y => (((hK.1.1.2.2.1 q hq).2 y).1).2⟩
  · rw [o 16 (by omega)]; exact hK.2.1.2.1.2 x hx
end KG
