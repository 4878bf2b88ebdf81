/-! the kernel's members: crash -/
section KG
variable {G : gG} {n m n' m' fr rc rs : Nat} {A A' : kA} {X X' : kX} {σ σ' σ2 : gS} {μ μ' : mS} {Q : gO → gS → Prop}
theorem kbaseR (h : kRep G n A X σ μ) (hr : kRg A) (hk : ∀ s, A 23 s = 1 → μ 0 s = 1 ∨ μ 0 s = 2 ∨ μ 0 s = 3) {k i : Nat} (h7 : k < 7) (hl : A (20 + k) i = 1) : A k i < σ.2.1 := by
  have key : ∀ e, kcell G A μ k i 0 = some e → A k i < σ.2.1 := fun e he => klt h (h.2.1 k i 0 e hl he).1
  rcases k with _ | _ | _ | _ | _ | _ | _ | k
  · rcases i with _ | i
    · exact key _ rfl
    · exact absurd hl (hr.1 _ (by omega)).1
  · exact key _ rfl
  · exact key _ rfl
  · rcases hk i hl with q | q | q
    · exact key _ (by show kslot A μ i 0 = _; unfold kslot; rw [if_pos q]; rfl)
    · exact key _ (by show kslot A μ i 0 = _; unfold kslot; rw [if_neg (by omega), if_pos q]; rfl)
    · exact key _ (by show kslot A μ i 0 = _; unfold kslot; rw [if_neg (by omega), if_neg (by omega), if_pos q]; rfl)
  · exact key _ rfl
  · exact key _ rfl
  · rcases i with _ | i
    · exact key _ rfl
    · exact absurd hl (hr.1 _ (by omega)).2
  · omega
def aclr (A : kA) : kA := fun k j => if k = 10 ∧ j = 0 then A 10 0 + 1 else if k = 18 ∧ j = 0 then 0 else A k j
theorem aclr_o {k : Nat} (h : ¬ (k = 10 ∨ k = 18)) : aclr A k = A k := by funext j; simp only [aclr]; grind
/-- the list of transactions is cleared -/
theorem sX1_tlclr (hG : gGood G) (hR : kRep G n A X σ μ) (l0 : A 20 0 = 1) (h6 : A 18 0 ≤ 6 ∧ (0 < A 18 0 → A 26 0 = 1)) (hN : n ≤ 1000000) (hQ : ∀ σ', kRep G (n + 1) (aclr A) X σ' μ → σ'.2 = σ.2 → Q (.inl none) σ') : bx 0 (gOKb G mJ2_clear fr [vr (A 0 0 + 3)] σ Q) := by
  have hh := (hR.2.1 0 0 3 _ l0 rfl).1
  have b0 := (hR.2.1 0 0 0 _ l0 rfl).2.2.1
  have m0 := (hR.2.2.2.2.1 0).1
  have d18 : aclr A 18 0 = 0 := by simp [aclr]
  have d10 : aclr A 10 0 = A 10 0 + 1 := by simp [aclr]
  have o := fun k (hk : ¬ (k = 10 ∨ k = 18)) => aclr_o (A := A) hk
  have hmc : ∀ i, aclr A 10 i ≤ n + 1 ∧ aclr A 15 i ≤ n + 1 ∧ aclr A 16 i ≤ n + 1 ∧ aclr A 17 i ≤ n + 1 := fun i => by
    have := hR.2.2.2.2.1 i
    rw [o 15 (by omega), o 16 (by omega), o 17 (by omega)]
    refine ⟨?_, by omega, by omega, by omega⟩
    simp only [aclr]; grind
  have him := kimm_A (A' := aclr A) hR.2.2.2.1 (fun a ha => o a (by omega))
  by_cases l6 : A 26 0 = 1
  · rw [if_pos l6] at hh
    have hhb := (hR.2.1 6 0 0 _ l6 rfl).1
    have b6 := (hR.2.1 6 0 0 _ l6 rfl).2.2.1
    have n2 : A 0 0 + 3 ≠ A 6 0 := kne hR (j := 3) (j' := 0) l0 rfl l6 rfl (by omega)
    refine sJ2_clear hG hh hhb (by omega) b6 (by omega) (by omega) ⟨by omega, by omega⟩ (hQ _ ?_ rfl)
    refine kset2 hR 0 0 3 (n' := n + 1) (A' := aclr A) (μ' := μ) l0 rfl 6 0 0 l6 rfl (by omega) (fun k hk => o k (by omega)) ?_ ?_ ?_ him hmc
    · simp only [kcell, kc0, d18, d10, o 26 (by omega), o 6 (by omega), l6]; rfl
    · refine congrArg (fun f => some (Sum.inr (3, 10, Sum.inr (Sum.inl f)))) (funext fun k => ?_)
      rw [d18]
      simp only [gclr]
      grind
    · intro k i j h7 _ g1 g2
      exact kcell_A (fun a ha => o a (by omega)) g1 g2
  · have h18 : A 18 0 = 0 := by
      rcases Nat.lt_or_ge 0 (A 18 0) with q | q
      · exact absurd (h6.2 q) l6
      · omega
    rw [if_neg l6, h18] at hh
    refine sJ2_clear0 hG hh (by omega) ⟨by omega, by omega⟩ (hQ _ ?_ rfl)
    refine kset hR 0 0 3 (n' := n + 1) (A' := aclr A) (μ' := μ) l0 rfl (fun k hk => o k (by omega)) ?_ ?_ him hmc
    · simp only [kcell, kc0, d18, d10, o 26 (by omega), o 6 (by omega), l6]; rfl
    · intro k i j h7 hl2 g1
      exact kcell_A (fun a ha => o a (by omega)) g1 (fun q => by obtain ⟨rfl, rfl, rfl⟩ := q; exact l6 hl2)
/-- all processes and transactions are gone -/
def acr (A : kA) : kA := fun k j => if (k = 21 ∨ k = 22 ∨ k = 24 ∨ k = 25 ∨ k = 9) then 0 else if k = 23 ∧ 15 ≤ j then 0 else if k = 19 then 1 else A k j
theorem acr_o {k : Nat} (h : ¬ (k = 21 ∨ k = 22 ∨ k = 24 ∨ k = 25 ∨ k = 9 ∨ k = 23 ∨ k = 19)) : acr A k = A k := by funext j; simp only [acr]; grind
def mcx (k : Nat) (ν : mS) : mS := fun a j => if a = 8 then (if j < k then 0 else ν 8 j) else mcr2 24 ν a j
theorem mcx_s {k : Nat} {ν : mS} : mup (mcx k ν) 8 k 0 = mcx (k + 1) ν := by
  have e1 : ∀ x, (x < k + 1) ↔ (x < k ∨ x = k) := by intro x; omega
  funext a j; simp only [mup, mcx, e1]; grind
theorem kr_acr {ν : mS} (h : kRep G n A X σ (mup ν 22 4 (ν 22 4 + 1))) (h18 : A 18 0 = 0) (hr : kRg A) : kRep G n (acr A) X σ (mcx 0 ν) := by
  have o := fun k (hk : ¬ (k = 21 ∨ k = 22 ∨ k = 24 ∨ k = 25 ∨ k = 9 ∨ k = 23 ∨ k = 19)) => acr_o (A := A) hk
  have lv : ∀ k i, k < 7 → acr A (20 + k) i = 1 → (k = 0 ∨ k = 6 ∨ (k = 3 ∧ i < 15)) ∧ A (20 + k) i = 1 := fun k i h7 hl => by
    simp only [acr] at hl; grind
  have e : ∀ a j, a ≤ 4 → mcx 0 ν a j = ν a j := fun a j ha => by simp only [mcx, mcr2, mcr1]; grind
  have e' : ∀ a, a ≤ 4 → mcx 0 ν a = ν a := fun a ha => funext fun j => e a j ha
  have u : ∀ a, a ≠ 22 → mup ν 22 4 (ν 22 4 + 1) a = ν a := fun a ha => mup_other _ _ _ ha
  have e22 : ∀ j, mcx 0 ν 22 j = mup ν 22 4 (ν 22 4 + 1) 22 j := fun j => by simp only [mcx, mcr2, mcr1, mup]; grind
  have e8 : mcx 0 ν 8 = ν 8 := funext fun j => by simp [mcx]
  have e24 : ∀ j, mcx 0 ν 24 j = ν 24 j := fun j => by simp only [mcx, mcr2, mcr1]; grind
  have e25 : ∀ j, mcx 0 ν 25 j = ν 25 j := fun j => by simp only [mcx, mcr2, mcr1]; grind
  refine ksub h (fun k i h7 hl => ?_) (o 30 (by omega)) ?_ (fun i => ?_)
  · obtain ⟨h1, h2⟩ := lv k i h7 hl
    refine ⟨h2, by rw [o k (by omega)], fun j => ?_⟩
    rcases h1 with rfl | rfl | ⟨rfl, hi⟩
    · rcases i with _ | i
      · rcases j with _ | _ | _ | _ | j
        · simp only [kcell, kc0, o 0 (by omega), e22, e24, e25, u 24 (by omega), u 25 (by omega)]
        · simp only [kcell, kc0, o 3 (by omega), e' 0 (by omega), u 0 (by omega)]
        · simp only [kcell, kc0, o 1 (by omega), e8, u 8 (by omega)]
        · simp only [kcell, kc0, o 10 (by omega), o 26 (by omega), o 6 (by omega), o 18 (by omega)]
        · rfl
      · rfl
    · simp only [kcell, o 2 (by omega), o 11 (by omega), o 18 (by omega)]
    · simp only [kcell]; unfold kslot kcF kcL; rw [e' 0 (by omega), e' 1 (by omega), e' 2 (by omega), e' 3 (by omega), u 0 (by omega), u 1 (by omega), u 2 (by omega), u 3 (by omega), o 3 (by omega), o 12 (by omega), o 17 (by omega)]
  · obtain ⟨x, y, z⟩ := h.2.2.2.1
    refine ⟨fun s k h1 h2 => ?_, fun p k h1 h2 => ?_, fun p k h1 h2 => ?_⟩
    · have h1 := (lv 3 s (by omega) h1).2
      rw [e' 1 (by omega)] at h2
      rw [e' 0 (by omega), e' 3 (by omega), e' 4 (by omega), o 12 (by omega)]
      have := x s k h1 (by rw [u 1 (by omega)]; exact h2)
      rw [u 0 (by omega), u 3 (by omega), u 4 (by omega)] at this
      exact this
    · simp [acr] at h1
    · simp [acr] at h1
  · rw [o 10 (by omega), o 15 (by omega), o 16 (by omega), o 17 (by omega)]
    exact h.2.2.2.2.1 i
/-- a process is forgotten -/
theorem kr_nop (h : kRep G n A X σ μ) {q : Nat} (hq : q < 6) (hl : A 20 0 = 1) (hd : A 21 q ≠ 1) {e' : gE} (he : e' = .inr (5, 6, .inr (.inl (va_up (fun p => if p < 6 ∧ μ 8 p = 1 then some (A 1 p) else none) q none)))) : kRep G n A X (gset σ.1 (A 0 0 + 2) e', σ.2) (mup μ 8 q 0) := by
  have u : ∀ a, a ≠ 8 → mup μ 8 q 0 a = μ a := fun a ha => mup_other _ _ _ ha
  refine kset h 0 0 2 hl rfl (fun _ _ => rfl) ?_ ?_ (kimm_up h.2.2.2.1 (by omega)) h.2.2.2.2.1
  · rw [he]
    refine congrArg (fun f => some (Sum.inr (5, 6, Sum.inr (Sum.inl f)))) (funext fun s => ?_)
    simp only [mup, va_up]
    grind
  · intro k i j h7 hli hne
    rcases k with _ | _ | _ | _ | _ | _ | _ | k
    · rcases i with _ | i
      · rcases j with _ | _ | _ | _ | j
        · rfl
        · rfl
        · exact absurd ⟨rfl, rfl, rfl⟩ hne
        · rfl
        · rfl
      · rfl
    · rfl
    · rfl
    · rfl
    · rfl
    · rfl
    · rfl
    · omega
end KG
