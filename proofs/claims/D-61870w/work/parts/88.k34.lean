/-! the kernel's heap: the list of transactions loses one (again, of the heap alone); a process gets a signal -/
section KG
variable {G : gG} {n m n' m' fr rc rs : Nat} {A A' : kA} {X X' : kX} {σ σ' σ2 : gS} {μ μ' : mS} {Q : gO → gS → Prop}
theorem sX1_tlremR (hG : gGood G) {p : Nat} (hR : kRep G n A X σ μ) (l0 : A 20 0 = 1) (hT : kTl A (fun q => 0 < μ 11 q) (μ 12)) (lT : A 22 p = 1) (hlive : bx 0 (∀ k, k < A 18 0 → A 22 (A 11 k) = 1)) (hN : n ≤ 1000000) (hQ : ∀ A' σ' b, kRep G (n + 1) A' X σ' μ → σ'.2 = σ.2 → (∀ k, ¬ (k = 10 ∨ k = 11 ∨ k = 18) → A' k = A k) → kTl A' (fun q => q ≠ p ∧ 0 < μ 11 q) (μ 12) → Q (.inl (some (vi b))) σ') : bx 0 (gOKb G mJ2_remove (fr + 4) [vr (A 0 0 + 3), vr (A 2 p)] σ Q) := by
  replace hlive := bx_out hlive
  obtain ⟨t1, t2, t3, t4, t5⟩ := hT
  have hh := (hR.2.1 0 0 3 _ l0 rfl).1
  have hhx := (hR.2.1 2 p 0 _ lT rfl).1
  have b0 := (hR.2.1 0 0 0 _ l0 rfl).2.2.1
  have m0 := (hR.2.2.2.2.1 0).1
  by_cases h0 : A 18 0 = 0
  · rw [h0] at hh
    refine sJ2_remove0 hG hh ?_
    refine hQ A σ 0 (kRep_le hR (by omega)) rfl (fun _ _ => rfl) ⟨t1, t2, fun k hk => by omega, fun q hq h => ?_, t5⟩
    obtain ⟨k, hk, -⟩ := t4 q hq h.2
    omega
  · have l6 : A 26 0 = 1 := t2 (by omega)
    rw [if_pos l6] at hh
    have hhb := (hR.2.1 6 0 0 _ l6 rfl).1
    have b6 := (hR.2.1 6 0 0 _ l6 rfl).2.2.1
    refine sJ2_remove hG hh hhb hhx (by omega) b6 (by omega) (by omega) (by omega) (bx_in fun j y hy => ?_) (fun hno => ?_) (fun i hi hfi hno => ?_)
    · have hj : j < A 18 0 := by
        rcases Nat.lt_or_ge j (A 18 0) with q | q
        · exact q
        · rw [if_neg (by omega)] at hy; cases hy
      rw [if_pos hj] at hy
      cases hy
      exact ⟨4, Or.inl ⟨_, (hR.2.1 2 (A 11 j) 0 _ (hlive j hj) rfl).1⟩, by decide, by decide⟩
    · refine hQ A σ 0 (kRep_le hR (by omega)) rfl (fun _ _ => rfl) ⟨t1, t2, fun k hk => ⟨(t3 k hk).1, fun e => ?_, (t3 k hk).2⟩, fun q hq h => t4 q hq h.2, t5⟩
      have := hno k (by omega)
      rw [if_pos hk, e] at this
      exact this rfl
    · have hi : i < A 18 0 := by omega
      rw [if_pos hi] at hfi
      have ei : A 11 i = p := (kinj hR (by omega) (by omega) (hlive i hi) lT (Option.some.inj hfi)).2
      have e8 : ((A 18 0 : Nat) - 1 - (i : Int)).toNat = A 18 0 - 1 - i := by omega
      have e9 : ((A 18 0 : Nat) - 1 : Int).toNat = A 18 0 - 1 := by omega
      rw [e8, e9]
      have nw : ∀ k j, k < j → j < A 18 0 → A 11 k ≠ A 11 j := fun k j h1 h2 e => by
        have := t5 k j h1 h2
        rw [e] at this
        omega
      refine hQ (arem A i) _ 1 (kr_rem hR l0 l6 hi rfl rfl) rfl (fun k hk => by funext b; simp only [arem]; grind) ?_
      have d18 : arem A i 18 0 = A 18 0 - 1 := by simp [arem]
      have d26 : arem A i 26 0 = A 26 0 := by simp [arem]
      have d11 : ∀ k, arem A i 11 k = if i ≤ k then A 11 (k + 1) else A 11 k := fun k => by simp [arem]
      refine ⟨by omega, fun _ => by rw [d26]; exact l6, fun k hk => ?_, fun q hq h => ?_, fun k k' h1 h2 => ?_⟩
      · rw [d18] at hk
        rw [d11]
        split
        · exact ⟨(t3 _ (by omega)).1, fun e => nw i (k + 1) (by omega) (by omega) (by rw [ei, e]), (t3 _ (by omega)).2⟩
        · exact ⟨(t3 _ (by omega)).1, fun e => nw k i (by omega) (by omega) (by rw [ei, e]), (t3 _ (by omega)).2⟩
      · obtain ⟨k, hk, ek⟩ := t4 q hq h.2
        have : k ≠ i := by intro e; subst e; exact h.1 (by rw [← ek, ei])
        by_cases q1 : k < i
        · exact ⟨k, by omega, by rw [d11, if_neg (by omega)]; exact ek⟩
        · exact ⟨k - 1, by omega, by rw [d11, if_pos (by omega), show k - 1 + 1 = k by omega]; exact ek⟩
      · rw [d18] at h2
        rw [d11, d11]
        split <;> split <;> exact t5 _ _ (by omega) (by omega)
/-- a process's list of signals changes -/
theorem kr_sig (h : kRep G n A X σ μ) {p : Nat} (hl : A 21 p = 1) (e : ∀ b j, ¬ (b = 14 ∧ j = p) → ¬ (b = 13 ∧ 4 * p ≤ j ∧ j < 4 * p + 4) → μ' b j = μ b j) (eA : ∀ b j, ¬ (b = 15 ∧ j = p) → ¬ (b = 13 ∧ 4 * p ≤ j ∧ j < 4 * p + 4) → A' b j = A b j) (h4 : ∀ q, A 21 q = 1 → μ 14 q ≤ 4)
    (hent : ∀ k : Nat, (k : Int) < μ' 14 p → gBx G σ (A' 13 (4 * p + k)) (μ' 13 (4 * p + k))) (hn : n ≤ n') (hmc : A' 15 p ≤ n') {e1 e2 : gE} (he2 : e2 = .inr (3, 4, .inr (.inl (fun k => if (k : Int) < μ' 14 p then some (A' 13 (4 * p + k)) else none)))) (he1 : e1 = .inl (10, [vi (A' 15 p), vr (A 1 p + 3), vi (μ' 14 p)])) : kRep G n' A' X (gset (gset σ.1 (A 1 p + 3) e2) (A 1 p + 2) e1, σ.2) μ' := by
  have ea : ∀ b, ¬ (b = 13 ∨ b = 14) → μ' b = μ b := fun b hb => by funext j; exact e b j (by omega) (by omega)
  have aa : ∀ b, ¬ (b = 15 ∨ b = 13) → A' b = A b := fun b hb => by funext j; exact eA b j (by omega) (by omega)
  have ks : ∀ t, t ≠ p → μ' 14 t = μ 14 t ∧ A' 15 t = A 15 t ∧ ∀ k, k < 4 → μ' 13 (4 * t + k) = μ 13 (4 * t + k) ∧ A' 13 (4 * t + k) = A 13 (4 * t + k) := fun t ht => ⟨e 14 t (by omega) (by omega), eA 15 t (by omega) (by omega), fun k hk => ⟨e 13 _ (by omega) (by omega), eA 13 _ (by omega) (by omega)⟩⟩
  refine kset2 h 1 p 3 hl rfl 1 p 2 hl rfl (by omega) (fun k hk => aa k (by omega)) (by rw [he2]; rfl) (by rw [he1, ← aa 1 (by omega)]; rfl) ?_ ?_ ?_
  · intro k i j h7 hl2 hne hne2
    rcases k with _ | _ | _ | _ | _ | _ | _ | k
    · rcases i with _ | i
      · rcases j with _ | _ | _ | _ | j
        · simp only [kcell, kc0, ea 24 (by omega), ea 25 (by omega), ea 22 (by omega), aa 0 (by omega)]
        · simp only [kcell, kc0, ea 0 (by omega), aa 3 (by omega), aa 0 (by omega)]
        · simp only [kcell, kc0, ea 8 (by omega), aa 1 (by omega)]
        · simp only [kcell, kc0, aa 10 (by omega), aa 26 (by omega), aa 6 (by omega), aa 18 (by omega)]
        · rfl
      · rfl
    · by_cases z : i = p
      · subst z
        rcases j with _ | _ | _ | _ | j
        · simp only [kcell, kc1, ea 10 (by omega), ea 11 (by omega), aa 1 (by omega), aa 2 (by omega), aa 9 (by omega)]
        · simp only [kcell, kc1, ea 18 (by omega), aa 4 (by omega)]
        · exact absurd ⟨rfl, rfl, rfl⟩ hne2
        · exact absurd ⟨rfl, rfl, rfl⟩ hne
        · rfl
      · obtain ⟨k1, k2, k3⟩ := ks i z
        have m4 := h4 i hl2
        have f1 : (fun k : Nat => if (k : Int) < μ 14 i then some (A' 13 (4 * i + k)) else none) = fun k : Nat => if (k : Int) < μ 14 i then some (A 13 (4 * i + k)) else none := funext fun k => by
          by_cases w : (k : Int) < μ 14 i
          · rw [if_pos w, if_pos w, (k3 k (by omega)).2]
          · rw [if_neg w, if_neg w]
        simp only [kcell]; unfold kc1; rw [ea 10 (by omega), ea 11 (by omega), k1, k2, f1, ea 18 (by omega), aa 1 (by omega), aa 2 (by omega), aa 4 (by omega), aa 9 (by omega)]
    · simp only [kcell]; unfold kc2; rw [ea 0 (by omega), ea 5 (by omega), ea 6 (by omega), ea 17 (by omega), ea 20 (by omega), aa 1 (by omega), aa 2 (by omega), aa 3 (by omega), aa 5 (by omega), aa 14 (by omega), aa 16 (by omega), aa 19 (by omega)]
    · simp only [kcell]; unfold kslot kcF kcL; rw [ea 0 (by omega), ea 1 (by omega), ea 2 (by omega), ea 3 (by omega), aa 3 (by omega), aa 12 (by omega), aa 17 (by omega)]
    · simp only [kcell, ea 18 (by omega), ea 19 (by omega)]
    · simp only [kcell, ea 20 (by omega), ea 21 (by omega)]
    · simp only [kcell, aa 2 (by omega), aa 11 (by omega), aa 18 (by omega)]
    · omega
  · obtain ⟨a, b, c⟩ := h.2.2.2.1
    refine ⟨fun t k h1 h2 => ?_, fun q k h1 h2 => ?_, fun q k h1 h2 => ?_⟩
    · rw [aa 23 (by omega)] at h1
      rw [ea 1 (by omega)] at h2
      rw [ea 0 (by omega), ea 3 (by omega), ea 4 (by omega), aa 12 (by omega)]
      exact a t k h1 h2
    · by_cases z : q = p
      · subst z; exact hent k h2
      · obtain ⟨k1, k2, k3⟩ := ks q z
        rw [k1] at h2
        rw [aa 21 (by omega)] at h1
        have m4 := h4 q h1
        have k8 := k3 k (by omega)
        rw [k8.1, k8.2]
        exact b q k h1 h2
    · rw [aa 22 (by omega)] at h1
      rw [ea 15 (by omega), ea 16 (by omega), aa 14 (by omega)]; rw [ea 17 (by omega)] at h2; exact c q k h1 h2
  · intro j
    have := h.2.2.2.2.1 j
    rw [aa 10 (by omega), aa 16 (by omega), aa 17 (by omega)]
    refine ⟨by omega, ?_, by omega, by omega⟩
    by_cases z : j = p
    · subst z; exact hmc
    · rw [(ks j z).2.1]; omega
def asig (A : kA) (p k y : Nat) : kA := fun b j => if b = 15 ∧ j = p then A 15 p + 1 else if b = 13 ∧ j = 4 * p + k then y else A b j
theorem msend_e {q : Nat} {v : Int} (h : μ 8 q = 1) (h2 : μ 14 q < 4) : msend q v μ = mup (mup μ 14 q (μ 14 q + 1)) 13 (4 * q + (μ 14 q).toNat) v := by
  unfold msend
  rw [if_pos ⟨h, h2⟩]
/-- a signal is added -/
theorem kr_send (h : kRep G n A X σ μ) {p y : Nat} {v : Int} (hl : A 21 p = 1) (h8 : μ 8 p = 1) (hr : 0 ≤ μ 14 p) (hr2 : μ 14 p < 4) (h4 : ∀ q, A 21 q = 1 → μ 14 q ≤ 4) (hb : gBx G σ y v) {e1 e2 : gE} (he2 : e2 = .inr (3, 4, .inr (.inl (va_up (fun k : Nat => if (k : Int) < μ 14 p then some (A 13 (4 * p + k)) else none) (μ 14 p).toNat (some y))))) (he1 : e1 = .inl (10, [vi ((A 15 p : Nat) + 1 : Int), vr (A 1 p + 3), vi (μ 14 p + 1)])) : kRep G (n + 1) (asig A p (μ 14 p).toNat y) X (gset (gset σ.1 (A 1 p + 3) e2) (A 1 p + 2) e1, σ.2) (msend p v μ) := by
  have k9 := (h.2.2.2.2.1 p).2.1
  have e14 : msend p v μ 14 p = μ 14 p + 1 := by rw [msend_e h8 hr2, mup_other _ _ _ (by omega), mup_ss]
  have e13 : ∀ k : Nat, (k : Int) < μ 14 p + 1 → msend p v μ 13 (4 * p + k) = if k = (μ 14 p).toNat then v else μ 13 (4 * p + k) := fun k hk => by
    rw [msend_e h8 hr2]
    simp only [mup]; grind
  have a13 : ∀ k : Nat, asig A p (μ 14 p).toNat y 13 (4 * p + k) = if k = (μ 14 p).toNat then y else A 13 (4 * p + k) := fun k => by
    simp only [asig]; grind
  have a15 : asig A p (μ 14 p).toNat y 15 p = A 15 p + 1 := by simp [asig]
  refine kr_sig h hl (fun b j h1 h2 => ?_) (fun b j h1 h2 => ?_) h4 (fun k hk => ?_) (by omega) (by rw [a15]; omega) ?_ ?_
  · rw [msend_e h8 hr2]
    simp only [mup]; grind
  · simp only [asig]; grind
  · rw [e14] at hk
    rw [a13, e13 k hk]
    by_cases q : k = (μ 14 p).toNat
    · rw [if_pos q, if_pos q]; exact hb
    · rw [if_neg q, if_neg q]; exact h.2.2.2.1.2.1 p k hl (by omega)
  · rw [he2, e14]
    refine congrArg (fun f => Sum.inr (3, 4, Sum.inr (Sum.inl f))) (funext fun k => ?_)
    rw [a13]
    simp only [va_up]
    grind
  · rw [he1, e14, a15]; rfl
end KG
